/-! PlainPageModel -/
set_option maxRecDepth 100000
def RX5 : String := "PlainPageModel"
def TX5 : u_T := fun k => match k with
  | 0 => ("PlainPageModel", "typed", "I", false)
  | 1 => ("PlainPageModel", "text", "[I", false)
  | 2 => ("PlainPageModel", "styled", "I", false)
  | 3 => ("PlainPageModel", "sheet", "[I", false)
  | 4 => ("PlainPageModel", "broken", "Z", false)
  | 5 => ("PlainPageModel", "count", "I", false)
  | 6 => ("PlainPageModel", "order", "[I", false)
  | 7 => ("PlainPageModel", "made", "I", false)
  | 8 => ("PlainPageModel", "nameOf", "[I", false)
  | 9 => ("PlainPageModel", "classesOf", "[I", false)
  | 10 => ("PlainPageModel", "depthOf", "[I", false)
  | 11 => ("PlainPageModel", "moved", "[I", false)
  | 12 => ("PlainPageModel", "stack", "[I", false)
  | 13 => ("PlainPageModel", "height", "I", false)
  | 14 => ("PlainPageModel", "entry", "[I", false)
  | 15 => ("PlainPageModel", "entryOf", "[I", false)
  | 16 => ("PlainPageModel", "entries", "I", false)
  | 17 => ("PlainPageModel", "chars", "I", false)
  | 18 => ("PlainPageModel", "codeOf", "[I", false)
  | 19 => ("PlainPageModel", "textOf", "[I", false)
  | 20 => ("PlainPageModel", "placeAt", "I", false)
  | 21 => ("PlainPageModel", "placeDepth", "I", false)
  | 22 => ("PlainPageModel", "ruleCount", "I", false)
  | 23 => ("PlainPageModel", "partName", "[I", false)
  | 24 => ("PlainPageModel", "partClasses", "[I", false)
  | 25 => ("PlainPageModel", "direct", "[Z", false)
  | 26 => ("PlainPageModel", "parts", "[I", false)
  | 27 => ("PlainPageModel", "capitals", "[I", false)
  | 28 => ("PlainPageModel", "smalls", "[I", false)
  | 29 => ("PlainPageModel", "bodyFrom", "[I", false)
  | 30 => ("PlainPageModel", "bodyTo", "[I", false)
  | 31 => ("PlainPageModel", "word", "[I", false)
  | 32 => ("PlainPageModel", "wordLength", "I", false)
  | 33 => ("PlainPageModel", "up", "[I", false)
  | 34 => ("PlainPageModel", "fits", "[Z", false)
  | 35 => ("PlainPageModel", "key", "[I", false)
  | 36 => ("PlainPageModel", "value", "[I", false)
  | 37 => ("PlainPageModel", "laid", "Z", false)
  | 38 => ("PlainPageModel", "wide", "I", false)
  | 39 => ("PlainPageModel", "lineCount", "I", false)
  | 40 => ("PlainPageModel", "hidden", "[Z", false)
  | 41 => ("PlainPageModel", "boxed", "[Z", false)
  | 42 => ("PlainPageModel", "holder", "[I", false)
  | 43 => ("PlainPageModel", "left", "[I", false)
  | 44 => ("PlainPageModel", "inner", "[I", false)
  | 45 => ("PlainPageModel", "tall", "[I", false)
  | 46 => ("PlainPageModel", "top", "[I", false)
  | 47 => ("PlainPageModel", "put", "[Z", false)
  | 48 => ("PlainPageModel", "charX", "[I", false)
  | 49 => ("PlainPageModel", "charY", "[I", false)
  | 50 => ("PlainPageModel", "charBox", "[I", false)
  | 51 => ("PlainPageModel", "run", "[I", false)
  | 52 => ("PlainPageModel", "runLength", "I", false)
  | 53 => ("PlainPageModel", "lineTop", "I", false)
  | 54 => ("PlainPageModel", "lineFrom", "I", false)
  | 55 => ("PlainPageModel", "lineWidth", "I", false)
  | 56 => ("PlainPageModel", "lineHeight", "I", false)
  | _ => ("PlainPageModel", "lineHas", "Z", false)
def tyX5 : Nat → FieldType := fun k => match k with
  | 0 => .int
  | 1 => .array .int
  | 2 => .int
  | 3 => .array .int
  | 4 => .boolean
  | 5 => .int
  | 6 => .array .int
  | 7 => .int
  | 8 => .array .int
  | 9 => .array .int
  | 10 => .array .int
  | 11 => .array .int
  | 12 => .array .int
  | 13 => .int
  | 14 => .array .int
  | 15 => .array .int
  | 16 => .int
  | 17 => .int
  | 18 => .array .int
  | 19 => .array .int
  | 20 => .int
  | 21 => .int
  | 22 => .int
  | 23 => .array .int
  | 24 => .array .int
  | 25 => .array .boolean
  | 26 => .array .int
  | 27 => .array .int
  | 28 => .array .int
  | 29 => .array .int
  | 30 => .array .int
  | 31 => .array .int
  | 32 => .int
  | 33 => .array .int
  | 34 => .array .boolean
  | 35 => .array .int
  | 36 => .array .int
  | 37 => .boolean
  | 38 => .int
  | 39 => .int
  | 40 => .array .boolean
  | 41 => .array .boolean
  | 42 => .array .int
  | 43 => .array .int
  | 44 => .array .int
  | 45 => .array .int
  | 46 => .array .int
  | 47 => .array .boolean
  | 48 => .array .int
  | 49 => .array .int
  | 50 => .array .int
  | 51 => .array .int
  | 52 => .int
  | 53 => .int
  | 54 => .int
  | 55 => .int
  | 56 => .int
  | _ => .boolean
abbrev wsX50 : List Cond := u_ws RX5 TX5 58
set_option maxRecDepth 100000 in
theorem nmX5 : ∀ a, a < 58 → ∀ b, b < 58 → a ≠ b → (TX5 a).2.1 ≠ (TX5 b).2.1 := by decide +kernel
set_option maxRecDepth 100000 in
theorem tyX5_ok : ∀ k, k < 58 → parseFieldDescriptor (TX5 k).2.2.1 = some (tyX5 k) := by decide +kernel
abbrev cX5_init : ByteArray := prog_11_method_1_code
def yX5_init : MethodName := ⟨RX5, "<init>", "()V"⟩
abbrev cX5_reset : ByteArray := prog_11_method_5_code
def yX5_reset : MethodName := ⟨RX5, "reset", "()V"⟩
abbrev cX5_html : ByteArray := prog_11_method_2_code
def yX5_html : MethodName := ⟨RX5, "html", "(C)Z"⟩
abbrev cX5_read : ByteArray := prog_11_method_10_code
def yX5_read : MethodName := ⟨RX5, "read", "()V"⟩
abbrev cX5_peek : ByteArray := prog_11_method_9_code
def yX5_peek : MethodName := ⟨RX5, "peek", "(I)I"⟩
abbrev cX5_small : ByteArray := prog_11_method_6_code
def yX5_small : MethodName := ⟨RX5, "small", "(I)Z"⟩
abbrev cX5_tag : ByteArray := prog_11_method_11_code
def yX5_tag : MethodName := ⟨RX5, "tag", "(II)I"⟩
abbrev cX5_closed : ByteArray := prog_11_method_8_code
def yX5_closed : MethodName := ⟨RX5, "closed", "(I)I"⟩
abbrev cX5_capital : ByteArray := prog_11_method_7_code
def yX5_capital : MethodName := ⟨RX5, "capital", "(I)Z"⟩
abbrev cX5_start : ByteArray := prog_11_method_30_code
def yX5_start : MethodName := ⟨RX5, "start", "(II)V"⟩
abbrev cX5_clearWay : ByteArray := prog_11_method_28_code
def yX5_clearWay : MethodName := ⟨RX5, "clearWay", "(I)Z"⟩
abbrev cX5_bit : ByteArray := prog_11_method_13_code
def yX5_bit : MethodName := ⟨RX5, "bit", "(I)I"⟩
abbrev cX5_topmost : ByteArray := prog_11_method_17_code
def yX5_topmost : MethodName := ⟨RX5, "topmost", "(I)I"⟩
abbrev cX5_reach : ByteArray := prog_11_method_19_code
def yX5_reach : MethodName := ⟨RX5, "reach", "(II)Z"⟩
abbrev cX5_above : ByteArray := prog_11_method_18_code
def yX5_above : MethodName := ⟨RX5, "above", "(II)Z"⟩
abbrev cX5_named : ByteArray := prog_11_method_14_code
def yX5_named : MethodName := ⟨RX5, "named", "(II)Z"⟩
abbrev cX5_insideTop : ByteArray := prog_11_method_21_code
def yX5_insideTop : MethodName := ⟨RX5, "insideTop", "(I)V"⟩
abbrev cX5_seat : ByteArray := prog_11_method_15_code
def yX5_seat : MethodName := ⟨RX5, "seat", "(I)I"⟩
abbrev cX5_behind : ByteArray := prog_11_method_16_code
def yX5_behind : MethodName := ⟨RX5, "behind", "(I)I"⟩
abbrev cX5_create : ByteArray := prog_11_method_23_code
def yX5_create : MethodName := ⟨RX5, "create", "(II)I"⟩
abbrev cX5_push : ByteArray := prog_11_method_24_code
def yX5_push : MethodName := ⟨RX5, "push", "(I)V"⟩
abbrev cX5_renew : ByteArray := prog_11_method_26_code
def yX5_renew : MethodName := ⟨RX5, "renew", "()V"⟩
abbrev cX5_listOwner : ByteArray := prog_11_method_25_code
def yX5_listOwner : MethodName := ⟨RX5, "listOwner", "()I"⟩
abbrev cX5_opened : ByteArray := prog_11_method_20_code
def yX5_opened : MethodName := ⟨RX5, "opened", "(I)I"⟩
abbrev cX5_findPlace : ByteArray := prog_11_method_22_code
def yX5_findPlace : MethodName := ⟨RX5, "findPlace", "(I)V"⟩
abbrev cX5_list : ByteArray := prog_11_method_29_code
def yX5_list : MethodName := ⟨RX5, "list", "(II)V"⟩
abbrev cX5_dropEntry : ByteArray := prog_11_method_27_code
def yX5_dropEntry : MethodName := ⟨RX5, "dropEntry", "(I)V"⟩
abbrev cX5_end : ByteArray := prog_11_method_31_code
def yX5_end : MethodName := ⟨RX5, "end", "(I)V"⟩
abbrev cX5_endOther : ByteArray := prog_11_method_32_code
def yX5_endOther : MethodName := ⟨RX5, "endOther", "(I)V"⟩
abbrev cX5_adopt : ByteArray := prog_11_method_33_code
def yX5_adopt : MethodName := ⟨RX5, "adopt", "(II)V"⟩
abbrev cX5_entity : ByteArray := prog_11_method_12_code
def yX5_entity : MethodName := ⟨RX5, "entity", "(II)I"⟩
abbrev cX5_character : ByteArray := prog_11_method_34_code
def yX5_character : MethodName := ⟨RX5, "character", "(I)V"⟩
abbrev cX5_css : ByteArray := prog_11_method_3_code
def yX5_css : MethodName := ⟨RX5, "css", "(C)Z"⟩
abbrev cX5_clear : ByteArray := prog_11_method_4_code
def yX5_clear : MethodName := ⟨RX5, "clear", "()V"⟩
abbrev cX5_nodes : ByteArray := prog_11_method_36_code
def yX5_nodes : MethodName := ⟨RX5, "nodes", "()I"⟩
abbrev cX5_name : ByteArray := prog_11_method_37_code
def yX5_name : MethodName := ⟨RX5, "name", "(I)I"⟩
abbrev cX5_none : ByteArray := prog_11_method_35_code
def yX5_none : MethodName := ⟨RX5, "none", "(I)Z"⟩
abbrev cX5_parent : ByteArray := prog_11_method_39_code
def yX5_parent : MethodName := ⟨RX5, "parent", "(I)I"⟩
abbrev cX5_parentOf : ByteArray := prog_11_method_38_code
def yX5_parentOf : MethodName := ⟨RX5, "parentOf", "(I)I"⟩
abbrev cX5_classes : ByteArray := prog_11_method_40_code
def yX5_classes : MethodName := ⟨RX5, "classes", "(I)I"⟩
abbrev cX5_letter : ByteArray := prog_11_method_42_code
def yX5_letter : MethodName := ⟨RX5, "letter", "(II)I"⟩
abbrev cX5_find : ByteArray := prog_11_method_41_code
def yX5_find : MethodName := ⟨RX5, "find", "(II)I"⟩
abbrev cX5_open : ByteArray := prog_11_method_43_code
def yX5_open : MethodName := ⟨RX5, "open", "()I"⟩
abbrev cX5_rules : ByteArray := prog_11_method_44_code
def yX5_rules : MethodName := ⟨RX5, "rules", "()I"⟩
abbrev cX5_readSheet : ByteArray := prog_11_method_46_code
def yX5_readSheet : MethodName := ⟨RX5, "readSheet", "()V"⟩
abbrev cX5_nextSign : ByteArray := prog_11_method_45_code
def yX5_nextSign : MethodName := ⟨RX5, "nextSign", "(II)I"⟩
abbrev cX5_selector : ByteArray := prog_11_method_48_code
def yX5_selector : MethodName := ⟨RX5, "selector", "(II)Z"⟩
abbrev cX5_blanks : ByteArray := prog_11_method_47_code
def yX5_blanks : MethodName := ⟨RX5, "blanks", "(II)I"⟩
abbrev cX5_value : ByteArray := prog_11_method_56_code
def yX5_value : MethodName := ⟨RX5, "value", "(IC)I"⟩
abbrev cX5_propertyIndex : ByteArray := prog_11_method_50_code
def yX5_propertyIndex : MethodName := ⟨RX5, "propertyIndex", "(I)I"⟩
abbrev cX5_style : ByteArray := prog_11_method_54_code
def yX5_style : MethodName := ⟨RX5, "style", "()V"⟩
abbrev cX5_match : ByteArray := prog_11_method_49_code
def yX5_match : MethodName := ⟨RX5, "match", "(I)V"⟩
abbrev cX5_declare : ByteArray := prog_11_method_53_code
def yX5_declare : MethodName := ⟨RX5, "declare", "(I)V"⟩
abbrev cX5_declared : ByteArray := prog_11_method_52_code
def yX5_declared : MethodName := ⟨RX5, "declared", "(II)I"⟩
abbrev cX5_digit : ByteArray := prog_11_method_51_code
def yX5_digit : MethodName := ⟨RX5, "digit", "(I)Z"⟩
abbrev cX5_initial : ByteArray := prog_11_method_55_code
def yX5_initial : MethodName := ⟨RX5, "initial", "(II)I"⟩
abbrev cX5_layout : ByteArray := prog_11_method_57_code
def yX5_layout : MethodName := ⟨RX5, "layout", "(I)I"⟩
abbrev cX5_widths : ByteArray := prog_11_method_59_code
def yX5_widths : MethodName := ⟨RX5, "widths", "(II)V"⟩
abbrev cX5_border : ByteArray := prog_11_method_58_code
def yX5_border : MethodName := ⟨RX5, "border", "(II)I"⟩
abbrev cX5_within : ByteArray := prog_11_method_60_code
def yX5_within : MethodName := ⟨RX5, "within", "(II)Z"⟩
abbrev cX5_heights : ByteArray := prog_11_method_61_code
def yX5_heights : MethodName := ⟨RX5, "heights", "(I)V"⟩
abbrev cX5_runs : ByteArray := prog_11_method_63_code
def yX5_runs : MethodName := ⟨RX5, "runs", "()Z"⟩
abbrev cX5_lay : ByteArray := prog_11_method_65_code
def yX5_lay : MethodName := ⟨RX5, "lay", "(II)I"⟩
abbrev cX5_newLine : ByteArray := prog_11_method_66_code
def yX5_newLine : MethodName := ⟨RX5, "newLine", "(I)V"⟩
abbrev cX5_putWord : ByteArray := prog_11_method_68_code
def yX5_putWord : MethodName := ⟨RX5, "putWord", "(IIII)V"⟩
abbrev cX5_size : ByteArray := prog_11_method_64_code
def yX5_size : MethodName := ⟨RX5, "size", "(I)I"⟩
abbrev cX5_endLine : ByteArray := prog_11_method_67_code
def yX5_endLine : MethodName := ⟨RX5, "endLine", "(I)V"⟩
abbrev cX5_gather : ByteArray := prog_11_method_62_code
def yX5_gather : MethodName := ⟨RX5, "gather", "(I)V"⟩
abbrev cX5_places : ByteArray := prog_11_method_69_code
def yX5_places : MethodName := ⟨RX5, "places", "()V"⟩
abbrev cX5_box : ByteArray := prog_11_method_70_code
def yX5_box : MethodName := ⟨RX5, "box", "(II)I"⟩
abbrev cX5_place : ByteArray := prog_11_method_71_code
def yX5_place : MethodName := ⟨RX5, "place", "(II)I"⟩
abbrev cX5_lines : ByteArray := prog_11_method_72_code
def yX5_lines : MethodName := ⟨RX5, "lines", "()I"⟩
abbrev cX5_pixel : ByteArray := prog_11_method_73_code
def yX5_pixel : MethodName := ⟨RX5, "pixel", "(II)I"⟩
abbrev cX5_inked : ByteArray := prog_11_method_74_code
def yX5_inked : MethodName := ⟨RX5, "inked", "(IIII)Z"⟩
theorem q107 : (Jvm.Cond.initialized "PlainPageModel") ∈ lw_all := lw_g (lw_at lw_m1 19 rfl) rfl
theorem q378 : (Jvm.Cond.selects "PlainPageModel" ({ cls := "java/lang/Object", name := "getClass", desc := "()Ljava/lang/Class;" } : Jvm.MethodName) ({ cls := "java/lang/Object", name := "getClass", desc := "()Ljava/lang/Class;" } : Jvm.MethodName)) ∈ lw_all := lw_g (lw_at lw_m2 50 rfl) rfl
theorem q1132 : (Jvm.Cond.instantiable "PlainPageModel" (58 : Nat)) ∈ lw_all := lw_g (lw_at lw_m5 84 rfl) rfl
theorem q1134 : (Jvm.Cond.instanceMethod ({ cls := "PlainPageModel", name := "<init>", desc := "()V" } : Jvm.MethodName)) ∈ lw_all := lw_g (lw_at lw_m5 86 rfl) rfl
theorem q1135 : (Jvm.Cond.code ({ cls := "PlainPageModel", name := "<init>", desc := "()V" } : Jvm.MethodName) prog_11_method_1_code (1 : Nat) (Option.none : Option Jvm.ClassFile.FieldType)) ∈ lw_all := lw_g (lw_at lw_m5 87 rfl) rfl
theorem q1136 : (Jvm.Cond.methodLink "PlainPageModel" (1 : Nat) ({ cls := "java/lang/Object", name := "<init>", desc := "()V" } : Jvm.MethodName)) ∈ lw_all := lw_g (lw_at lw_m5 88 rfl) rfl
theorem q1137 : (Jvm.Cond.methodLink "PlainPageModel" (122 : Nat) ({ cls := "PlainPageModel", name := "reset", desc := "()V" } : Jvm.MethodName)) ∈ lw_all := lw_g (lw_at lw_m5 89 rfl) rfl
theorem q1138 : (Jvm.Cond.privateMethod ({ cls := "PlainPageModel", name := "reset", desc := "()V" } : Jvm.MethodName)) ∈ lw_tbl := lw_at lw_m5 90 rfl
theorem q1139 : (Jvm.Cond.instanceMethod ({ cls := "PlainPageModel", name := "reset", desc := "()V" } : Jvm.MethodName)) ∈ lw_all := lw_g (lw_at lw_m5 91 rfl) rfl
theorem q1140 : (Jvm.Cond.code ({ cls := "PlainPageModel", name := "reset", desc := "()V" } : Jvm.MethodName) prog_11_method_5_code (1 : Nat) (Option.none : Option Jvm.ClassFile.FieldType)) ∈ lw_all := lw_g (lw_at lw_m5 92 rfl) rfl
theorem q1141 : (Jvm.Cond.fieldLink "PlainPageModel" (125 : Nat) "PlainPageModel" "typed" "I") ∈ lw_all := lw_g (lw_at lw_m5 93 rfl) rfl
theorem q1142 : (Jvm.Cond.fieldLink "PlainPageModel" (7 : Nat) "PlainPageModel" "text" "[I") ∈ lw_all := lw_g (lw_at lw_m5 94 rfl) rfl
theorem q1143 : (Jvm.Cond.fieldLink "PlainPageModel" (139 : Nat) "PlainPageModel" "styled" "I") ∈ lw_all := lw_g (lw_at lw_m5 95 rfl) rfl
theorem q1144 : (Jvm.Cond.fieldLink "PlainPageModel" (13 : Nat) "PlainPageModel" "sheet" "[I") ∈ lw_all := lw_g (lw_at lw_m5 96 rfl) rfl
theorem q1145 : (Jvm.Cond.fieldLink "PlainPageModel" (129 : Nat) "PlainPageModel" "broken" "Z") ∈ lw_all := lw_g (lw_at lw_m5 97 rfl) rfl
theorem q1146 : (Jvm.Cond.fieldLink "PlainPageModel" (142 : Nat) "PlainPageModel" "count" "I") ∈ lw_all := lw_g (lw_at lw_m5 98 rfl) rfl
theorem q1147 : (Jvm.Cond.fieldLink "PlainPageModel" (16 : Nat) "PlainPageModel" "order" "[I") ∈ lw_all := lw_g (lw_at lw_m5 99 rfl) rfl
theorem q1148 : (Jvm.Cond.fieldLink "PlainPageModel" (145 : Nat) "PlainPageModel" "made" "I") ∈ lw_all := lw_g (lw_at lw_m5 100 rfl) rfl
theorem q1149 : (Jvm.Cond.fieldLink "PlainPageModel" (19 : Nat) "PlainPageModel" "nameOf" "[I") ∈ lw_all := lw_g (lw_at lw_m5 101 rfl) rfl
theorem q1150 : (Jvm.Cond.fieldLink "PlainPageModel" (22 : Nat) "PlainPageModel" "classesOf" "[I") ∈ lw_all := lw_g (lw_at lw_m5 102 rfl) rfl
theorem q1151 : (Jvm.Cond.fieldLink "PlainPageModel" (25 : Nat) "PlainPageModel" "depthOf" "[I") ∈ lw_all := lw_g (lw_at lw_m5 103 rfl) rfl
theorem q1152 : (Jvm.Cond.fieldLink "PlainPageModel" (28 : Nat) "PlainPageModel" "moved" "[I") ∈ lw_all := lw_g (lw_at lw_m5 104 rfl) rfl
theorem q1153 : (Jvm.Cond.fieldLink "PlainPageModel" (31 : Nat) "PlainPageModel" "stack" "[I") ∈ lw_all := lw_g (lw_at lw_m5 105 rfl) rfl
theorem q1154 : (Jvm.Cond.fieldLink "PlainPageModel" (148 : Nat) "PlainPageModel" "height" "I") ∈ lw_all := lw_g (lw_at lw_m5 106 rfl) rfl
theorem q1155 : (Jvm.Cond.fieldLink "PlainPageModel" (34 : Nat) "PlainPageModel" "entry" "[I") ∈ lw_all := lw_g (lw_at lw_m5 107 rfl) rfl
theorem q1156 : (Jvm.Cond.fieldLink "PlainPageModel" (37 : Nat) "PlainPageModel" "entryOf" "[I") ∈ lw_all := lw_g (lw_at lw_m5 108 rfl) rfl
theorem q1157 : (Jvm.Cond.fieldLink "PlainPageModel" (151 : Nat) "PlainPageModel" "entries" "I") ∈ lw_all := lw_g (lw_at lw_m5 109 rfl) rfl
theorem q1158 : (Jvm.Cond.fieldLink "PlainPageModel" (154 : Nat) "PlainPageModel" "chars" "I") ∈ lw_all := lw_g (lw_at lw_m5 110 rfl) rfl
theorem q1159 : (Jvm.Cond.fieldLink "PlainPageModel" (40 : Nat) "PlainPageModel" "codeOf" "[I") ∈ lw_all := lw_g (lw_at lw_m5 111 rfl) rfl
theorem q1160 : (Jvm.Cond.fieldLink "PlainPageModel" (43 : Nat) "PlainPageModel" "textOf" "[I") ∈ lw_all := lw_g (lw_at lw_m5 112 rfl) rfl
theorem q1161 : (Jvm.Cond.fieldLink "PlainPageModel" (208 : Nat) "PlainPageModel" "placeAt" "I") ∈ lw_all := lw_g (lw_at lw_m5 113 rfl) rfl
theorem q1162 : (Jvm.Cond.fieldLink "PlainPageModel" (211 : Nat) "PlainPageModel" "placeDepth" "I") ∈ lw_all := lw_g (lw_at lw_m5 114 rfl) rfl
theorem q1163 : (Jvm.Cond.fieldLink "PlainPageModel" (272 : Nat) "PlainPageModel" "ruleCount" "I") ∈ lw_all := lw_g (lw_at lw_m5 115 rfl) rfl
theorem q1164 : (Jvm.Cond.fieldLink "PlainPageModel" (46 : Nat) "PlainPageModel" "partName" "[I") ∈ lw_all := lw_g (lw_at lw_m5 116 rfl) rfl
theorem q1165 : (Jvm.Cond.fieldLink "PlainPageModel" (49 : Nat) "PlainPageModel" "partClasses" "[I") ∈ lw_all := lw_g (lw_at lw_m5 117 rfl) rfl
theorem q1166 : (Jvm.Cond.fieldLink "PlainPageModel" (52 : Nat) "PlainPageModel" "direct" "[Z") ∈ lw_all := lw_g (lw_at lw_m5 118 rfl) rfl
theorem q1167 : (Jvm.Cond.fieldLink "PlainPageModel" (56 : Nat) "PlainPageModel" "parts" "[I") ∈ lw_all := lw_g (lw_at lw_m5 119 rfl) rfl
theorem q1168 : (Jvm.Cond.fieldLink "PlainPageModel" (59 : Nat) "PlainPageModel" "capitals" "[I") ∈ lw_all := lw_g (lw_at lw_m5 120 rfl) rfl
theorem q1169 : (Jvm.Cond.fieldLink "PlainPageModel" (62 : Nat) "PlainPageModel" "smalls" "[I") ∈ lw_all := lw_g (lw_at lw_m5 121 rfl) rfl
theorem q1170 : (Jvm.Cond.fieldLink "PlainPageModel" (65 : Nat) "PlainPageModel" "bodyFrom" "[I") ∈ lw_all := lw_g (lw_at lw_m5 122 rfl) rfl
theorem q1171 : (Jvm.Cond.fieldLink "PlainPageModel" (68 : Nat) "PlainPageModel" "bodyTo" "[I") ∈ lw_all := lw_g (lw_at lw_m5 123 rfl) rfl
theorem q1172 : (Jvm.Cond.fieldLink "PlainPageModel" (71 : Nat) "PlainPageModel" "word" "[I") ∈ lw_all := lw_g (lw_at lw_m5 124 rfl) rfl
theorem q1173 : (Jvm.Cond.fieldLink "PlainPageModel" (287 : Nat) "PlainPageModel" "wordLength" "I") ∈ lw_all := lw_g (lw_at lw_m5 125 rfl) rfl
theorem q1174 : (Jvm.Cond.fieldLink "PlainPageModel" (74 : Nat) "PlainPageModel" "up" "[I") ∈ lw_all := lw_g (lw_at lw_m5 126 rfl) rfl
theorem q1175 : (Jvm.Cond.fieldLink "PlainPageModel" (77 : Nat) "PlainPageModel" "fits" "[Z") ∈ lw_all := lw_g (lw_at lw_m5 127 rfl) rfl
theorem q1176 : (Jvm.Cond.fieldLink "PlainPageModel" (80 : Nat) "PlainPageModel" "key" "[I") ∈ lw_all := lw_g (lw_at lw_m5 128 rfl) rfl
theorem q1177 : (Jvm.Cond.fieldLink "PlainPageModel" (83 : Nat) "PlainPageModel" "value" "[I") ∈ lw_all := lw_g (lw_at lw_m5 129 rfl) rfl
theorem q1178 : (Jvm.Cond.fieldLink "PlainPageModel" (133 : Nat) "PlainPageModel" "laid" "Z") ∈ lw_all := lw_g (lw_at lw_m5 130 rfl) rfl
theorem q1179 : (Jvm.Cond.fieldLink "PlainPageModel" (310 : Nat) "PlainPageModel" "wide" "I") ∈ lw_all := lw_g (lw_at lw_m5 131 rfl) rfl
theorem q1180 : (Jvm.Cond.fieldLink "PlainPageModel" (313 : Nat) "PlainPageModel" "lineCount" "I") ∈ lw_all := lw_g (lw_at lw_m5 132 rfl) rfl
theorem q1181 : (Jvm.Cond.fieldLink "PlainPageModel" (86 : Nat) "PlainPageModel" "hidden" "[Z") ∈ lw_all := lw_g (lw_at lw_m5 133 rfl) rfl
theorem q1182 : (Jvm.Cond.fieldLink "PlainPageModel" (89 : Nat) "PlainPageModel" "boxed" "[Z") ∈ lw_all := lw_g (lw_at lw_m5 134 rfl) rfl
theorem q1183 : (Jvm.Cond.fieldLink "PlainPageModel" (92 : Nat) "PlainPageModel" "holder" "[I") ∈ lw_all := lw_g (lw_at lw_m5 135 rfl) rfl
theorem q1184 : (Jvm.Cond.fieldLink "PlainPageModel" (95 : Nat) "PlainPageModel" "left" "[I") ∈ lw_all := lw_g (lw_at lw_m5 136 rfl) rfl
theorem q1185 : (Jvm.Cond.fieldLink "PlainPageModel" (98 : Nat) "PlainPageModel" "inner" "[I") ∈ lw_all := lw_g (lw_at lw_m5 137 rfl) rfl
theorem q1186 : (Jvm.Cond.fieldLink "PlainPageModel" (101 : Nat) "PlainPageModel" "tall" "[I") ∈ lw_all := lw_g (lw_at lw_m5 138 rfl) rfl
theorem q1187 : (Jvm.Cond.fieldLink "PlainPageModel" (104 : Nat) "PlainPageModel" "top" "[I") ∈ lw_all := lw_g (lw_at lw_m5 139 rfl) rfl
theorem q1188 : (Jvm.Cond.fieldLink "PlainPageModel" (107 : Nat) "PlainPageModel" "put" "[Z") ∈ lw_all := lw_g (lw_at lw_m5 140 rfl) rfl
theorem q1189 : (Jvm.Cond.fieldLink "PlainPageModel" (110 : Nat) "PlainPageModel" "charX" "[I") ∈ lw_all := lw_g (lw_at lw_m5 141 rfl) rfl
theorem q1190 : (Jvm.Cond.fieldLink "PlainPageModel" (113 : Nat) "PlainPageModel" "charY" "[I") ∈ lw_all := lw_g (lw_at lw_m5 142 rfl) rfl
theorem q1191 : (Jvm.Cond.fieldLink "PlainPageModel" (116 : Nat) "PlainPageModel" "charBox" "[I") ∈ lw_all := lw_g (lw_at lw_m5 143 rfl) rfl
theorem q1192 : (Jvm.Cond.fieldLink "PlainPageModel" (119 : Nat) "PlainPageModel" "run" "[I") ∈ lw_all := lw_g (lw_at lw_m5 144 rfl) rfl
theorem q1193 : (Jvm.Cond.fieldLink "PlainPageModel" (331 : Nat) "PlainPageModel" "runLength" "I") ∈ lw_all := lw_g (lw_at lw_m5 145 rfl) rfl
theorem q1194 : (Jvm.Cond.fieldLink "PlainPageModel" (344 : Nat) "PlainPageModel" "lineTop" "I") ∈ lw_all := lw_g (lw_at lw_m5 146 rfl) rfl
theorem q1195 : (Jvm.Cond.fieldLink "PlainPageModel" (366 : Nat) "PlainPageModel" "lineFrom" "I") ∈ lw_all := lw_g (lw_at lw_m5 147 rfl) rfl
theorem q1196 : (Jvm.Cond.fieldLink "PlainPageModel" (369 : Nat) "PlainPageModel" "lineWidth" "I") ∈ lw_all := lw_g (lw_at lw_m5 148 rfl) rfl
theorem q1197 : (Jvm.Cond.fieldLink "PlainPageModel" (360 : Nat) "PlainPageModel" "lineHeight" "I") ∈ lw_all := lw_g (lw_at lw_m5 149 rfl) rfl
theorem q1198 : (Jvm.Cond.fieldLink "PlainPageModel" (357 : Nat) "PlainPageModel" "lineHas" "Z") ∈ lw_all := lw_g (lw_at lw_m5 150 rfl) rfl
theorem q1199 : (Jvm.Cond.lays "PlainPageModel" "PlainPageModel" "typed" "I") ∈ lw_all := lw_g (lw_at lw_m5 151 rfl) rfl
theorem q1200 : (Jvm.Cond.soleField "PlainPageModel" "typed") ∈ lw_all := lw_g (lw_at lw_m5 152 rfl) rfl
theorem q1201 : (Jvm.Cond.lays "PlainPageModel" "PlainPageModel" "text" "[I") ∈ lw_all := lw_g (lw_at lw_m5 153 rfl) rfl
theorem q1202 : (Jvm.Cond.soleField "PlainPageModel" "text") ∈ lw_all := lw_g (lw_at lw_m5 154 rfl) rfl
theorem q1203 : (Jvm.Cond.lays "PlainPageModel" "PlainPageModel" "styled" "I") ∈ lw_all := lw_g (lw_at lw_m5 155 rfl) rfl
theorem q1204 : (Jvm.Cond.soleField "PlainPageModel" "styled") ∈ lw_all := lw_g (lw_at lw_m5 156 rfl) rfl
theorem q1205 : (Jvm.Cond.lays "PlainPageModel" "PlainPageModel" "sheet" "[I") ∈ lw_all := lw_g (lw_at lw_m5 157 rfl) rfl
theorem q1206 : (Jvm.Cond.soleField "PlainPageModel" "sheet") ∈ lw_all := lw_g (lw_at lw_m5 158 rfl) rfl
theorem q1207 : (Jvm.Cond.lays "PlainPageModel" "PlainPageModel" "broken" "Z") ∈ lw_all := lw_g (lw_at lw_m5 159 rfl) rfl
theorem q1208 : (Jvm.Cond.soleField "PlainPageModel" "broken") ∈ lw_all := lw_g (lw_at lw_m5 160 rfl) rfl
theorem q1209 : (Jvm.Cond.lays "PlainPageModel" "PlainPageModel" "count" "I") ∈ lw_all := lw_g (lw_at lw_m5 161 rfl) rfl
theorem q1210 : (Jvm.Cond.soleField "PlainPageModel" "count") ∈ lw_all := lw_g (lw_at lw_m5 162 rfl) rfl
theorem q1211 : (Jvm.Cond.lays "PlainPageModel" "PlainPageModel" "order" "[I") ∈ lw_all := lw_g (lw_at lw_m5 163 rfl) rfl
theorem q1212 : (Jvm.Cond.soleField "PlainPageModel" "order") ∈ lw_all := lw_g (lw_at lw_m5 164 rfl) rfl
theorem q1213 : (Jvm.Cond.lays "PlainPageModel" "PlainPageModel" "made" "I") ∈ lw_all := lw_g (lw_at lw_m5 165 rfl) rfl
theorem q1214 : (Jvm.Cond.soleField "PlainPageModel" "made") ∈ lw_all := lw_g (lw_at lw_m5 166 rfl) rfl
theorem q1215 : (Jvm.Cond.lays "PlainPageModel" "PlainPageModel" "nameOf" "[I") ∈ lw_all := lw_g (lw_at lw_m5 167 rfl) rfl
theorem q1216 : (Jvm.Cond.soleField "PlainPageModel" "nameOf") ∈ lw_all := lw_g (lw_at lw_m5 168 rfl) rfl
theorem q1217 : (Jvm.Cond.lays "PlainPageModel" "PlainPageModel" "classesOf" "[I") ∈ lw_all := lw_g (lw_at lw_m5 169 rfl) rfl
theorem q1218 : (Jvm.Cond.soleField "PlainPageModel" "classesOf") ∈ lw_all := lw_g (lw_at lw_m5 170 rfl) rfl
theorem q1219 : (Jvm.Cond.lays "PlainPageModel" "PlainPageModel" "depthOf" "[I") ∈ lw_all := lw_g (lw_at lw_m5 171 rfl) rfl
theorem q1220 : (Jvm.Cond.soleField "PlainPageModel" "depthOf") ∈ lw_all := lw_g (lw_at lw_m5 172 rfl) rfl
theorem q1221 : (Jvm.Cond.lays "PlainPageModel" "PlainPageModel" "moved" "[I") ∈ lw_all := lw_g (lw_at lw_m5 173 rfl) rfl
theorem q1222 : (Jvm.Cond.soleField "PlainPageModel" "moved") ∈ lw_all := lw_g (lw_at lw_m5 174 rfl) rfl
theorem q1223 : (Jvm.Cond.lays "PlainPageModel" "PlainPageModel" "stack" "[I") ∈ lw_all := lw_g (lw_at lw_m5 175 rfl) rfl
theorem q1224 : (Jvm.Cond.soleField "PlainPageModel" "stack") ∈ lw_all := lw_g (lw_at lw_m5 176 rfl) rfl
theorem q1225 : (Jvm.Cond.lays "PlainPageModel" "PlainPageModel" "height" "I") ∈ lw_all := lw_g (lw_at lw_m5 177 rfl) rfl
theorem q1226 : (Jvm.Cond.soleField "PlainPageModel" "height") ∈ lw_all := lw_g (lw_at lw_m5 178 rfl) rfl
theorem q1227 : (Jvm.Cond.lays "PlainPageModel" "PlainPageModel" "entry" "[I") ∈ lw_all := lw_g (lw_at lw_m5 179 rfl) rfl
theorem q1228 : (Jvm.Cond.soleField "PlainPageModel" "entry") ∈ lw_all := lw_g (lw_at lw_m5 180 rfl) rfl
theorem q1229 : (Jvm.Cond.lays "PlainPageModel" "PlainPageModel" "entryOf" "[I") ∈ lw_all := lw_g (lw_at lw_m5 181 rfl) rfl
theorem q1230 : (Jvm.Cond.soleField "PlainPageModel" "entryOf") ∈ lw_all := lw_g (lw_at lw_m5 182 rfl) rfl
theorem q1231 : (Jvm.Cond.lays "PlainPageModel" "PlainPageModel" "entries" "I") ∈ lw_all := lw_g (lw_at lw_m5 183 rfl) rfl
theorem q1232 : (Jvm.Cond.soleField "PlainPageModel" "entries") ∈ lw_all := lw_g (lw_at lw_m5 184 rfl) rfl
theorem q1233 : (Jvm.Cond.lays "PlainPageModel" "PlainPageModel" "chars" "I") ∈ lw_all := lw_g (lw_at lw_m5 185 rfl) rfl
theorem q1234 : (Jvm.Cond.soleField "PlainPageModel" "chars") ∈ lw_all := lw_g (lw_at lw_m5 186 rfl) rfl
theorem q1235 : (Jvm.Cond.lays "PlainPageModel" "PlainPageModel" "codeOf" "[I") ∈ lw_all := lw_g (lw_at lw_m5 187 rfl) rfl
theorem q1236 : (Jvm.Cond.soleField "PlainPageModel" "codeOf") ∈ lw_all := lw_g (lw_at lw_m5 188 rfl) rfl
theorem q1237 : (Jvm.Cond.lays "PlainPageModel" "PlainPageModel" "textOf" "[I") ∈ lw_all := lw_g (lw_at lw_m5 189 rfl) rfl
theorem q1238 : (Jvm.Cond.soleField "PlainPageModel" "textOf") ∈ lw_all := lw_g (lw_at lw_m5 190 rfl) rfl
theorem q1239 : (Jvm.Cond.lays "PlainPageModel" "PlainPageModel" "placeAt" "I") ∈ lw_all := lw_g (lw_at lw_m5 191 rfl) rfl
theorem q1240 : (Jvm.Cond.soleField "PlainPageModel" "placeAt") ∈ lw_all := lw_g (lw_at lw_m5 192 rfl) rfl
theorem q1241 : (Jvm.Cond.lays "PlainPageModel" "PlainPageModel" "placeDepth" "I") ∈ lw_all := lw_g (lw_at lw_m5 193 rfl) rfl
theorem q1242 : (Jvm.Cond.soleField "PlainPageModel" "placeDepth") ∈ lw_all := lw_g (lw_at lw_m5 194 rfl) rfl
theorem q1243 : (Jvm.Cond.lays "PlainPageModel" "PlainPageModel" "ruleCount" "I") ∈ lw_all := lw_g (lw_at lw_m5 195 rfl) rfl
theorem q1244 : (Jvm.Cond.soleField "PlainPageModel" "ruleCount") ∈ lw_all := lw_g (lw_at lw_m5 196 rfl) rfl
theorem q1245 : (Jvm.Cond.lays "PlainPageModel" "PlainPageModel" "partName" "[I") ∈ lw_all := lw_g (lw_at lw_m5 197 rfl) rfl
theorem q1246 : (Jvm.Cond.soleField "PlainPageModel" "partName") ∈ lw_all := lw_g (lw_at lw_m5 198 rfl) rfl
theorem q1247 : (Jvm.Cond.lays "PlainPageModel" "PlainPageModel" "partClasses" "[I") ∈ lw_all := lw_g (lw_at lw_m5 199 rfl) rfl
theorem q1248 : (Jvm.Cond.soleField "PlainPageModel" "partClasses") ∈ lw_all := lw_g (lw_at lw_m5 200 rfl) rfl
theorem q1249 : (Jvm.Cond.lays "PlainPageModel" "PlainPageModel" "direct" "[Z") ∈ lw_all := lw_g (lw_at lw_m5 201 rfl) rfl
theorem q1250 : (Jvm.Cond.soleField "PlainPageModel" "direct") ∈ lw_all := lw_g (lw_at lw_m5 202 rfl) rfl
theorem q1251 : (Jvm.Cond.lays "PlainPageModel" "PlainPageModel" "parts" "[I") ∈ lw_all := lw_g (lw_at lw_m5 203 rfl) rfl
theorem q1252 : (Jvm.Cond.soleField "PlainPageModel" "parts") ∈ lw_all := lw_g (lw_at lw_m5 204 rfl) rfl
theorem q1253 : (Jvm.Cond.lays "PlainPageModel" "PlainPageModel" "capitals" "[I") ∈ lw_all := lw_g (lw_at lw_m5 205 rfl) rfl
theorem q1254 : (Jvm.Cond.soleField "PlainPageModel" "capitals") ∈ lw_all := lw_g (lw_at lw_m5 206 rfl) rfl
theorem q1255 : (Jvm.Cond.lays "PlainPageModel" "PlainPageModel" "smalls" "[I") ∈ lw_all := lw_g (lw_at lw_m5 207 rfl) rfl
theorem q1256 : (Jvm.Cond.soleField "PlainPageModel" "smalls") ∈ lw_all := lw_g (lw_at lw_m5 208 rfl) rfl
theorem q1257 : (Jvm.Cond.lays "PlainPageModel" "PlainPageModel" "bodyFrom" "[I") ∈ lw_all := lw_g (lw_at lw_m5 209 rfl) rfl
theorem q1258 : (Jvm.Cond.soleField "PlainPageModel" "bodyFrom") ∈ lw_all := lw_g (lw_at lw_m5 210 rfl) rfl
theorem q1259 : (Jvm.Cond.lays "PlainPageModel" "PlainPageModel" "bodyTo" "[I") ∈ lw_all := lw_g (lw_at lw_m5 211 rfl) rfl
theorem q1260 : (Jvm.Cond.soleField "PlainPageModel" "bodyTo") ∈ lw_all := lw_g (lw_at lw_m5 212 rfl) rfl
theorem q1261 : (Jvm.Cond.lays "PlainPageModel" "PlainPageModel" "word" "[I") ∈ lw_all := lw_g (lw_at lw_m5 213 rfl) rfl
theorem q1262 : (Jvm.Cond.soleField "PlainPageModel" "word") ∈ lw_all := lw_g (lw_at lw_m5 214 rfl) rfl
theorem q1263 : (Jvm.Cond.lays "PlainPageModel" "PlainPageModel" "wordLength" "I") ∈ lw_all := lw_g (lw_at lw_m5 215 rfl) rfl
theorem q1264 : (Jvm.Cond.soleField "PlainPageModel" "wordLength") ∈ lw_all := lw_g (lw_at lw_m5 216 rfl) rfl
theorem q1265 : (Jvm.Cond.lays "PlainPageModel" "PlainPageModel" "up" "[I") ∈ lw_all := lw_g (lw_at lw_m5 217 rfl) rfl
theorem q1266 : (Jvm.Cond.soleField "PlainPageModel" "up") ∈ lw_all := lw_g (lw_at lw_m5 218 rfl) rfl
theorem q1267 : (Jvm.Cond.lays "PlainPageModel" "PlainPageModel" "fits" "[Z") ∈ lw_all := lw_g (lw_at lw_m5 219 rfl) rfl
theorem q1268 : (Jvm.Cond.soleField "PlainPageModel" "fits") ∈ lw_all := lw_g (lw_at lw_m5 220 rfl) rfl
theorem q1269 : (Jvm.Cond.lays "PlainPageModel" "PlainPageModel" "key" "[I") ∈ lw_all := lw_g (lw_at lw_m5 221 rfl) rfl
theorem q1270 : (Jvm.Cond.soleField "PlainPageModel" "key") ∈ lw_all := lw_g (lw_at lw_m5 222 rfl) rfl
theorem q1271 : (Jvm.Cond.lays "PlainPageModel" "PlainPageModel" "value" "[I") ∈ lw_all := lw_g (lw_at lw_m5 223 rfl) rfl
theorem q1272 : (Jvm.Cond.soleField "PlainPageModel" "value") ∈ lw_all := lw_g (lw_at lw_m5 224 rfl) rfl
theorem q1273 : (Jvm.Cond.lays "PlainPageModel" "PlainPageModel" "laid" "Z") ∈ lw_all := lw_g (lw_at lw_m5 225 rfl) rfl
theorem q1274 : (Jvm.Cond.soleField "PlainPageModel" "laid") ∈ lw_all := lw_g (lw_at lw_m5 226 rfl) rfl
theorem q1275 : (Jvm.Cond.lays "PlainPageModel" "PlainPageModel" "wide" "I") ∈ lw_all := lw_g (lw_at lw_m5 227 rfl) rfl
theorem q1276 : (Jvm.Cond.soleField "PlainPageModel" "wide") ∈ lw_all := lw_g (lw_at lw_m5 228 rfl) rfl
theorem q1277 : (Jvm.Cond.lays "PlainPageModel" "PlainPageModel" "lineCount" "I") ∈ lw_all := lw_g (lw_at lw_m5 229 rfl) rfl
theorem q1278 : (Jvm.Cond.soleField "PlainPageModel" "lineCount") ∈ lw_all := lw_g (lw_at lw_m5 230 rfl) rfl
theorem q1279 : (Jvm.Cond.lays "PlainPageModel" "PlainPageModel" "hidden" "[Z") ∈ lw_all := lw_g (lw_at lw_m5 231 rfl) rfl
theorem q1280 : (Jvm.Cond.soleField "PlainPageModel" "hidden") ∈ lw_all := lw_g (lw_at lw_m5 232 rfl) rfl
theorem q1281 : (Jvm.Cond.lays "PlainPageModel" "PlainPageModel" "boxed" "[Z") ∈ lw_all := lw_g (lw_at lw_m5 233 rfl) rfl
theorem q1282 : (Jvm.Cond.soleField "PlainPageModel" "boxed") ∈ lw_all := lw_g (lw_at lw_m5 234 rfl) rfl
theorem q1283 : (Jvm.Cond.lays "PlainPageModel" "PlainPageModel" "holder" "[I") ∈ lw_all := lw_g (lw_at lw_m5 235 rfl) rfl
theorem q1284 : (Jvm.Cond.soleField "PlainPageModel" "holder") ∈ lw_all := lw_g (lw_at lw_m5 236 rfl) rfl
theorem q1285 : (Jvm.Cond.lays "PlainPageModel" "PlainPageModel" "left" "[I") ∈ lw_all := lw_g (lw_at lw_m5 237 rfl) rfl
theorem q1286 : (Jvm.Cond.soleField "PlainPageModel" "left") ∈ lw_all := lw_g (lw_at lw_m5 238 rfl) rfl
theorem q1287 : (Jvm.Cond.lays "PlainPageModel" "PlainPageModel" "inner" "[I") ∈ lw_all := lw_g (lw_at lw_m5 239 rfl) rfl
theorem q1288 : (Jvm.Cond.soleField "PlainPageModel" "inner") ∈ lw_all := lw_g (lw_at lw_m6 0 rfl) rfl
theorem q1289 : (Jvm.Cond.lays "PlainPageModel" "PlainPageModel" "tall" "[I") ∈ lw_all := lw_g (lw_at lw_m6 1 rfl) rfl
theorem q1290 : (Jvm.Cond.soleField "PlainPageModel" "tall") ∈ lw_all := lw_g (lw_at lw_m6 2 rfl) rfl
theorem q1291 : (Jvm.Cond.lays "PlainPageModel" "PlainPageModel" "top" "[I") ∈ lw_all := lw_g (lw_at lw_m6 3 rfl) rfl
theorem q1292 : (Jvm.Cond.soleField "PlainPageModel" "top") ∈ lw_all := lw_g (lw_at lw_m6 4 rfl) rfl
theorem q1293 : (Jvm.Cond.lays "PlainPageModel" "PlainPageModel" "put" "[Z") ∈ lw_all := lw_g (lw_at lw_m6 5 rfl) rfl
theorem q1294 : (Jvm.Cond.soleField "PlainPageModel" "put") ∈ lw_all := lw_g (lw_at lw_m6 6 rfl) rfl
theorem q1295 : (Jvm.Cond.lays "PlainPageModel" "PlainPageModel" "charX" "[I") ∈ lw_all := lw_g (lw_at lw_m6 7 rfl) rfl
theorem q1296 : (Jvm.Cond.soleField "PlainPageModel" "charX") ∈ lw_all := lw_g (lw_at lw_m6 8 rfl) rfl
theorem q1297 : (Jvm.Cond.lays "PlainPageModel" "PlainPageModel" "charY" "[I") ∈ lw_all := lw_g (lw_at lw_m6 9 rfl) rfl
theorem q1298 : (Jvm.Cond.soleField "PlainPageModel" "charY") ∈ lw_all := lw_g (lw_at lw_m6 10 rfl) rfl
theorem q1299 : (Jvm.Cond.lays "PlainPageModel" "PlainPageModel" "charBox" "[I") ∈ lw_all := lw_g (lw_at lw_m6 11 rfl) rfl
theorem q1300 : (Jvm.Cond.soleField "PlainPageModel" "charBox") ∈ lw_all := lw_g (lw_at lw_m6 12 rfl) rfl
theorem q1301 : (Jvm.Cond.lays "PlainPageModel" "PlainPageModel" "run" "[I") ∈ lw_all := lw_g (lw_at lw_m6 13 rfl) rfl
theorem q1302 : (Jvm.Cond.soleField "PlainPageModel" "run") ∈ lw_all := lw_g (lw_at lw_m6 14 rfl) rfl
theorem q1303 : (Jvm.Cond.lays "PlainPageModel" "PlainPageModel" "runLength" "I") ∈ lw_all := lw_g (lw_at lw_m6 15 rfl) rfl
theorem q1304 : (Jvm.Cond.soleField "PlainPageModel" "runLength") ∈ lw_all := lw_g (lw_at lw_m6 16 rfl) rfl
theorem q1305 : (Jvm.Cond.lays "PlainPageModel" "PlainPageModel" "lineTop" "I") ∈ lw_all := lw_g (lw_at lw_m6 17 rfl) rfl
theorem q1306 : (Jvm.Cond.soleField "PlainPageModel" "lineTop") ∈ lw_all := lw_g (lw_at lw_m6 18 rfl) rfl
theorem q1307 : (Jvm.Cond.lays "PlainPageModel" "PlainPageModel" "lineFrom" "I") ∈ lw_all := lw_g (lw_at lw_m6 19 rfl) rfl
theorem q1308 : (Jvm.Cond.soleField "PlainPageModel" "lineFrom") ∈ lw_all := lw_g (lw_at lw_m6 20 rfl) rfl
theorem q1309 : (Jvm.Cond.lays "PlainPageModel" "PlainPageModel" "lineWidth" "I") ∈ lw_all := lw_g (lw_at lw_m6 21 rfl) rfl
theorem q1310 : (Jvm.Cond.soleField "PlainPageModel" "lineWidth") ∈ lw_all := lw_g (lw_at lw_m6 22 rfl) rfl
theorem q1311 : (Jvm.Cond.lays "PlainPageModel" "PlainPageModel" "lineHeight" "I") ∈ lw_all := lw_g (lw_at lw_m6 23 rfl) rfl
theorem q1312 : (Jvm.Cond.soleField "PlainPageModel" "lineHeight") ∈ lw_all := lw_g (lw_at lw_m6 24 rfl) rfl
theorem q1313 : (Jvm.Cond.lays "PlainPageModel" "PlainPageModel" "lineHas" "Z") ∈ lw_all := lw_g (lw_at lw_m6 25 rfl) rfl
theorem q1314 : (Jvm.Cond.soleField "PlainPageModel" "lineHas") ∈ lw_all := lw_g (lw_at lw_m6 26 rfl) rfl
theorem q1315 : (Jvm.Cond.superclass "PlainPageModel" "java/lang/Object") ∈ lw_all := lw_g (lw_at lw_m6 27 rfl) rfl
theorem q1318 : (Jvm.Cond.instanceMethod ({ cls := "PlainPageModel", name := "html", desc := "(C)Z" } : Jvm.MethodName)) ∈ lw_all := lw_g (lw_at lw_m6 30 rfl) rfl
theorem q1319 : (Jvm.Cond.selects "PlainPageModel" ({ cls := "PlainPageModel", name := "html", desc := "(C)Z" } : Jvm.MethodName) ({ cls := "PlainPageModel", name := "html", desc := "(C)Z" } : Jvm.MethodName)) ∈ lw_all := lw_g (lw_at lw_m6 31 rfl) rfl
theorem q1320 : (Jvm.Cond.code ({ cls := "PlainPageModel", name := "html", desc := "(C)Z" } : Jvm.MethodName) prog_11_method_2_code (2 : Nat) (Option.some Jvm.ClassFile.FieldType.boolean)) ∈ lw_all := lw_g (lw_at lw_m6 32 rfl) rfl
theorem q1321 : (Jvm.Cond.methodLink "PlainPageModel" (136 : Nat) ({ cls := "PlainPageModel", name := "read", desc := "()V" } : Jvm.MethodName)) ∈ lw_all := lw_g (lw_at lw_m6 33 rfl) rfl
theorem q1322 : (Jvm.Cond.privateMethod ({ cls := "PlainPageModel", name := "read", desc := "()V" } : Jvm.MethodName)) ∈ lw_tbl := lw_at lw_m6 34 rfl
theorem q1323 : (Jvm.Cond.instanceMethod ({ cls := "PlainPageModel", name := "read", desc := "()V" } : Jvm.MethodName)) ∈ lw_all := lw_g (lw_at lw_m6 35 rfl) rfl
theorem q1324 : (Jvm.Cond.code ({ cls := "PlainPageModel", name := "read", desc := "()V" } : Jvm.MethodName) prog_11_method_10_code (4 : Nat) (Option.none : Option Jvm.ClassFile.FieldType)) ∈ lw_all := lw_g (lw_at lw_m6 36 rfl) rfl
theorem q1325 : (Jvm.Cond.methodLink "PlainPageModel" (157 : Nat) ({ cls := "PlainPageModel", name := "peek", desc := "(I)I" } : Jvm.MethodName)) ∈ lw_all := lw_g (lw_at lw_m6 37 rfl) rfl
theorem q1326 : (Jvm.Cond.privateMethod ({ cls := "PlainPageModel", name := "peek", desc := "(I)I" } : Jvm.MethodName)) ∈ lw_tbl := lw_at lw_m6 38 rfl
theorem q1327 : (Jvm.Cond.instanceMethod ({ cls := "PlainPageModel", name := "peek", desc := "(I)I" } : Jvm.MethodName)) ∈ lw_all := lw_g (lw_at lw_m6 39 rfl) rfl
theorem q1328 : (Jvm.Cond.code ({ cls := "PlainPageModel", name := "peek", desc := "(I)I" } : Jvm.MethodName) prog_11_method_9_code (2 : Nat) (Option.some Jvm.ClassFile.FieldType.int)) ∈ lw_all := lw_g (lw_at lw_m6 40 rfl) rfl
theorem q1329 : (Jvm.Cond.methodLink "PlainPageModel" (161 : Nat) ({ cls := "PlainPageModel", name := "small", desc := "(I)Z" } : Jvm.MethodName)) ∈ lw_all := lw_g (lw_at lw_m6 41 rfl) rfl
theorem q1330 : (Jvm.Cond.static ({ cls := "PlainPageModel", name := "small", desc := "(I)Z" } : Jvm.MethodName)) ∈ lw_all := lw_g (lw_at lw_m6 42 rfl) rfl
theorem q1331 : (Jvm.Cond.code ({ cls := "PlainPageModel", name := "small", desc := "(I)Z" } : Jvm.MethodName) prog_11_method_6_code (1 : Nat) (Option.some Jvm.ClassFile.FieldType.boolean)) ∈ lw_all := lw_g (lw_at lw_m6 43 rfl) rfl
theorem q1332 : (Jvm.Cond.methodLink "PlainPageModel" (165 : Nat) ({ cls := "PlainPageModel", name := "tag", desc := "(II)I" } : Jvm.MethodName)) ∈ lw_all := lw_g (lw_at lw_m6 44 rfl) rfl
theorem q1333 : (Jvm.Cond.privateMethod ({ cls := "PlainPageModel", name := "tag", desc := "(II)I" } : Jvm.MethodName)) ∈ lw_tbl := lw_at lw_m6 45 rfl
theorem q1334 : (Jvm.Cond.instanceMethod ({ cls := "PlainPageModel", name := "tag", desc := "(II)I" } : Jvm.MethodName)) ∈ lw_all := lw_g (lw_at lw_m6 46 rfl) rfl
theorem q1335 : (Jvm.Cond.code ({ cls := "PlainPageModel", name := "tag", desc := "(II)I" } : Jvm.MethodName) prog_11_method_11_code (8 : Nat) (Option.some Jvm.ClassFile.FieldType.int)) ∈ lw_all := lw_g (lw_at lw_m6 47 rfl) rfl
theorem q1336 : (Jvm.Cond.methodLink "PlainPageModel" (176 : Nat) ({ cls := "PlainPageModel", name := "closed", desc := "(I)I" } : Jvm.MethodName)) ∈ lw_all := lw_g (lw_at lw_m6 48 rfl) rfl
theorem q1337 : (Jvm.Cond.privateMethod ({ cls := "PlainPageModel", name := "closed", desc := "(I)I" } : Jvm.MethodName)) ∈ lw_tbl := lw_at lw_m6 49 rfl
theorem q1338 : (Jvm.Cond.instanceMethod ({ cls := "PlainPageModel", name := "closed", desc := "(I)I" } : Jvm.MethodName)) ∈ lw_all := lw_g (lw_at lw_m6 50 rfl) rfl
theorem q1339 : (Jvm.Cond.code ({ cls := "PlainPageModel", name := "closed", desc := "(I)I" } : Jvm.MethodName) prog_11_method_8_code (3 : Nat) (Option.some Jvm.ClassFile.FieldType.int)) ∈ lw_all := lw_g (lw_at lw_m6 51 rfl) rfl
theorem q1340 : (Jvm.Cond.methodLink "PlainPageModel" (179 : Nat) ({ cls := "PlainPageModel", name := "capital", desc := "(I)Z" } : Jvm.MethodName)) ∈ lw_all := lw_g (lw_at lw_m6 52 rfl) rfl
theorem q1341 : (Jvm.Cond.static ({ cls := "PlainPageModel", name := "capital", desc := "(I)Z" } : Jvm.MethodName)) ∈ lw_all := lw_g (lw_at lw_m6 53 rfl) rfl
theorem q1342 : (Jvm.Cond.code ({ cls := "PlainPageModel", name := "capital", desc := "(I)Z" } : Jvm.MethodName) prog_11_method_7_code (1 : Nat) (Option.some Jvm.ClassFile.FieldType.boolean)) ∈ lw_all := lw_g (lw_at lw_m6 54 rfl) rfl
theorem q1343 : (Jvm.Cond.methodLink "PlainPageModel" (182 : Nat) ({ cls := "PlainPageModel", name := "start", desc := "(II)V" } : Jvm.MethodName)) ∈ lw_all := lw_g (lw_at lw_m6 55 rfl) rfl
theorem q1344 : (Jvm.Cond.privateMethod ({ cls := "PlainPageModel", name := "start", desc := "(II)V" } : Jvm.MethodName)) ∈ lw_tbl := lw_at lw_m6 56 rfl
theorem q1345 : (Jvm.Cond.instanceMethod ({ cls := "PlainPageModel", name := "start", desc := "(II)V" } : Jvm.MethodName)) ∈ lw_all := lw_g (lw_at lw_m6 57 rfl) rfl
theorem q1346 : (Jvm.Cond.code ({ cls := "PlainPageModel", name := "start", desc := "(II)V" } : Jvm.MethodName) prog_11_method_30_code (5 : Nat) (Option.none : Option Jvm.ClassFile.FieldType)) ∈ lw_all := lw_g (lw_at lw_m6 58 rfl) rfl
theorem q1347 : (Jvm.Cond.methodLink "PlainPageModel" (246 : Nat) ({ cls := "PlainPageModel", name := "clearWay", desc := "(I)Z" } : Jvm.MethodName)) ∈ lw_all := lw_g (lw_at lw_m6 59 rfl) rfl
theorem q1348 : (Jvm.Cond.privateMethod ({ cls := "PlainPageModel", name := "clearWay", desc := "(I)Z" } : Jvm.MethodName)) ∈ lw_tbl := lw_at lw_m6 60 rfl
theorem q1349 : (Jvm.Cond.instanceMethod ({ cls := "PlainPageModel", name := "clearWay", desc := "(I)Z" } : Jvm.MethodName)) ∈ lw_all := lw_g (lw_at lw_m6 61 rfl) rfl
theorem q1350 : (Jvm.Cond.code ({ cls := "PlainPageModel", name := "clearWay", desc := "(I)Z" } : Jvm.MethodName) prog_11_method_28_code (6 : Nat) (Option.some Jvm.ClassFile.FieldType.boolean)) ∈ lw_all := lw_g (lw_at lw_m6 62 rfl) rfl
theorem q1351 : (Jvm.Cond.methodLink "PlainPageModel" (189 : Nat) ({ cls := "PlainPageModel", name := "bit", desc := "(I)I" } : Jvm.MethodName)) ∈ lw_all := lw_g (lw_at lw_m6 63 rfl) rfl
theorem q1352 : (Jvm.Cond.static ({ cls := "PlainPageModel", name := "bit", desc := "(I)I" } : Jvm.MethodName)) ∈ lw_all := lw_g (lw_at lw_m6 64 rfl) rfl
theorem q1353 : (Jvm.Cond.code ({ cls := "PlainPageModel", name := "bit", desc := "(I)I" } : Jvm.MethodName) prog_11_method_13_code (1 : Nat) (Option.some Jvm.ClassFile.FieldType.int)) ∈ lw_all := lw_g (lw_at lw_m6 65 rfl) rfl
theorem q1354 : (Jvm.Cond.constant "PlainPageModel" (235 : Nat) (1607816 : Int32)) ∈ lw_all := lw_g (lw_at lw_m6 66 rfl) rfl
theorem q1355 : (Jvm.Cond.methodLink "PlainPageModel" (196 : Nat) ({ cls := "PlainPageModel", name := "topmost", desc := "(I)I" } : Jvm.MethodName)) ∈ lw_all := lw_g (lw_at lw_m6 67 rfl) rfl
theorem q1356 : (Jvm.Cond.privateMethod ({ cls := "PlainPageModel", name := "topmost", desc := "(I)I" } : Jvm.MethodName)) ∈ lw_tbl := lw_at lw_m6 68 rfl
theorem q1357 : (Jvm.Cond.instanceMethod ({ cls := "PlainPageModel", name := "topmost", desc := "(I)I" } : Jvm.MethodName)) ∈ lw_all := lw_g (lw_at lw_m6 69 rfl) rfl
theorem q1358 : (Jvm.Cond.code ({ cls := "PlainPageModel", name := "topmost", desc := "(I)I" } : Jvm.MethodName) prog_11_method_17_code (4 : Nat) (Option.some Jvm.ClassFile.FieldType.int)) ∈ lw_all := lw_g (lw_at lw_m6 70 rfl) rfl
theorem q1359 : (Jvm.Cond.methodLink "PlainPageModel" (236 : Nat) ({ cls := "PlainPageModel", name := "reach", desc := "(II)Z" } : Jvm.MethodName)) ∈ lw_all := lw_g (lw_at lw_m6 71 rfl) rfl
theorem q1360 : (Jvm.Cond.privateMethod ({ cls := "PlainPageModel", name := "reach", desc := "(II)Z" } : Jvm.MethodName)) ∈ lw_tbl := lw_at lw_m6 72 rfl
theorem q1361 : (Jvm.Cond.instanceMethod ({ cls := "PlainPageModel", name := "reach", desc := "(II)Z" } : Jvm.MethodName)) ∈ lw_all := lw_g (lw_at lw_m6 73 rfl) rfl
theorem q1362 : (Jvm.Cond.code ({ cls := "PlainPageModel", name := "reach", desc := "(II)Z" } : Jvm.MethodName) prog_11_method_19_code (4 : Nat) (Option.some Jvm.ClassFile.FieldType.boolean)) ∈ lw_all := lw_g (lw_at lw_m6 74 rfl) rfl
theorem q1363 : (Jvm.Cond.methodLink "PlainPageModel" (199 : Nat) ({ cls := "PlainPageModel", name := "above", desc := "(II)Z" } : Jvm.MethodName)) ∈ lw_all := lw_g (lw_at lw_m6 75 rfl) rfl
theorem q1364 : (Jvm.Cond.privateMethod ({ cls := "PlainPageModel", name := "above", desc := "(II)Z" } : Jvm.MethodName)) ∈ lw_tbl := lw_at lw_m6 76 rfl
theorem q1365 : (Jvm.Cond.instanceMethod ({ cls := "PlainPageModel", name := "above", desc := "(II)Z" } : Jvm.MethodName)) ∈ lw_all := lw_g (lw_at lw_m6 77 rfl) rfl
theorem q1366 : (Jvm.Cond.code ({ cls := "PlainPageModel", name := "above", desc := "(II)Z" } : Jvm.MethodName) prog_11_method_18_code (5 : Nat) (Option.some Jvm.ClassFile.FieldType.boolean)) ∈ lw_all := lw_g (lw_at lw_m6 78 rfl) rfl
theorem q1367 : (Jvm.Cond.methodLink "PlainPageModel" (192 : Nat) ({ cls := "PlainPageModel", name := "named", desc := "(II)Z" } : Jvm.MethodName)) ∈ lw_all := lw_g (lw_at lw_m6 79 rfl) rfl
theorem q1368 : (Jvm.Cond.privateMethod ({ cls := "PlainPageModel", name := "named", desc := "(II)Z" } : Jvm.MethodName)) ∈ lw_tbl := lw_at lw_m6 80 rfl
theorem q1369 : (Jvm.Cond.instanceMethod ({ cls := "PlainPageModel", name := "named", desc := "(II)Z" } : Jvm.MethodName)) ∈ lw_all := lw_g (lw_at lw_m6 81 rfl) rfl
theorem q1370 : (Jvm.Cond.code ({ cls := "PlainPageModel", name := "named", desc := "(II)Z" } : Jvm.MethodName) prog_11_method_14_code (3 : Nat) (Option.some Jvm.ClassFile.FieldType.boolean)) ∈ lw_all := lw_g (lw_at lw_m6 82 rfl) rfl
theorem q1371 : (Jvm.Cond.constant "PlainPageModel" (239 : Nat) (1048580 : Int32)) ∈ lw_all := lw_g (lw_at lw_m6 83 rfl) rfl
theorem q1372 : (Jvm.Cond.methodLink "PlainPageModel" (216 : Nat) ({ cls := "PlainPageModel", name := "insideTop", desc := "(I)V" } : Jvm.MethodName)) ∈ lw_all := lw_g (lw_at lw_m6 84 rfl) rfl
theorem q1373 : (Jvm.Cond.privateMethod ({ cls := "PlainPageModel", name := "insideTop", desc := "(I)V" } : Jvm.MethodName)) ∈ lw_tbl := lw_at lw_m6 85 rfl
theorem q1374 : (Jvm.Cond.instanceMethod ({ cls := "PlainPageModel", name := "insideTop", desc := "(I)V" } : Jvm.MethodName)) ∈ lw_all := lw_g (lw_at lw_m6 86 rfl) rfl
theorem q1375 : (Jvm.Cond.code ({ cls := "PlainPageModel", name := "insideTop", desc := "(I)V" } : Jvm.MethodName) prog_11_method_21_code (3 : Nat) (Option.none : Option Jvm.ClassFile.FieldType)) ∈ lw_all := lw_g (lw_at lw_m6 87 rfl) rfl
theorem q1376 : (Jvm.Cond.methodLink "PlainPageModel" (202 : Nat) ({ cls := "PlainPageModel", name := "seat", desc := "(I)I" } : Jvm.MethodName)) ∈ lw_all := lw_g (lw_at lw_m6 88 rfl) rfl
theorem q1377 : (Jvm.Cond.privateMethod ({ cls := "PlainPageModel", name := "seat", desc := "(I)I" } : Jvm.MethodName)) ∈ lw_tbl := lw_at lw_m6 89 rfl
theorem q1378 : (Jvm.Cond.instanceMethod ({ cls := "PlainPageModel", name := "seat", desc := "(I)I" } : Jvm.MethodName)) ∈ lw_all := lw_g (lw_at lw_m6 90 rfl) rfl
theorem q1379 : (Jvm.Cond.code ({ cls := "PlainPageModel", name := "seat", desc := "(I)I" } : Jvm.MethodName) prog_11_method_15_code (4 : Nat) (Option.some Jvm.ClassFile.FieldType.int)) ∈ lw_all := lw_g (lw_at lw_m6 91 rfl) rfl
theorem q1380 : (Jvm.Cond.methodLink "PlainPageModel" (205 : Nat) ({ cls := "PlainPageModel", name := "behind", desc := "(I)I" } : Jvm.MethodName)) ∈ lw_all := lw_g (lw_at lw_m6 92 rfl) rfl
theorem q1381 : (Jvm.Cond.privateMethod ({ cls := "PlainPageModel", name := "behind", desc := "(I)I" } : Jvm.MethodName)) ∈ lw_tbl := lw_at lw_m6 93 rfl
theorem q1382 : (Jvm.Cond.instanceMethod ({ cls := "PlainPageModel", name := "behind", desc := "(I)I" } : Jvm.MethodName)) ∈ lw_all := lw_g (lw_at lw_m6 94 rfl) rfl
theorem q1383 : (Jvm.Cond.code ({ cls := "PlainPageModel", name := "behind", desc := "(I)I" } : Jvm.MethodName) prog_11_method_16_code (3 : Nat) (Option.some Jvm.ClassFile.FieldType.int)) ∈ lw_all := lw_g (lw_at lw_m6 95 rfl) rfl
theorem q1384 : (Jvm.Cond.methodLink "PlainPageModel" (229 : Nat) ({ cls := "PlainPageModel", name := "create", desc := "(II)I" } : Jvm.MethodName)) ∈ lw_all := lw_g (lw_at lw_m6 96 rfl) rfl
theorem q1385 : (Jvm.Cond.privateMethod ({ cls := "PlainPageModel", name := "create", desc := "(II)I" } : Jvm.MethodName)) ∈ lw_tbl := lw_at lw_m6 97 rfl
theorem q1386 : (Jvm.Cond.instanceMethod ({ cls := "PlainPageModel", name := "create", desc := "(II)I" } : Jvm.MethodName)) ∈ lw_all := lw_g (lw_at lw_m6 98 rfl) rfl
theorem q1387 : (Jvm.Cond.code ({ cls := "PlainPageModel", name := "create", desc := "(II)I" } : Jvm.MethodName) prog_11_method_23_code (4 : Nat) (Option.some Jvm.ClassFile.FieldType.int)) ∈ lw_all := lw_g (lw_at lw_m6 99 rfl) rfl
theorem q1388 : (Jvm.Cond.methodLink "PlainPageModel" (232 : Nat) ({ cls := "PlainPageModel", name := "push", desc := "(I)V" } : Jvm.MethodName)) ∈ lw_all := lw_g (lw_at lw_m6 100 rfl) rfl
theorem q1389 : (Jvm.Cond.privateMethod ({ cls := "PlainPageModel", name := "push", desc := "(I)V" } : Jvm.MethodName)) ∈ lw_tbl := lw_at lw_m6 101 rfl
theorem q1390 : (Jvm.Cond.instanceMethod ({ cls := "PlainPageModel", name := "push", desc := "(I)V" } : Jvm.MethodName)) ∈ lw_all := lw_g (lw_at lw_m6 102 rfl) rfl
theorem q1391 : (Jvm.Cond.code ({ cls := "PlainPageModel", name := "push", desc := "(I)V" } : Jvm.MethodName) prog_11_method_24_code (2 : Nat) (Option.none : Option Jvm.ClassFile.FieldType)) ∈ lw_all := lw_g (lw_at lw_m6 103 rfl) rfl
theorem q1392 : (Jvm.Cond.methodLink "PlainPageModel" (240 : Nat) ({ cls := "PlainPageModel", name := "renew", desc := "()V" } : Jvm.MethodName)) ∈ lw_all := lw_g (lw_at lw_m6 104 rfl) rfl
theorem q1393 : (Jvm.Cond.privateMethod ({ cls := "PlainPageModel", name := "renew", desc := "()V" } : Jvm.MethodName)) ∈ lw_tbl := lw_at lw_m6 105 rfl
theorem q1394 : (Jvm.Cond.instanceMethod ({ cls := "PlainPageModel", name := "renew", desc := "()V" } : Jvm.MethodName)) ∈ lw_all := lw_g (lw_at lw_m6 106 rfl) rfl
theorem q1395 : (Jvm.Cond.code ({ cls := "PlainPageModel", name := "renew", desc := "()V" } : Jvm.MethodName) prog_11_method_26_code (5 : Nat) (Option.none : Option Jvm.ClassFile.FieldType)) ∈ lw_all := lw_g (lw_at lw_m6 107 rfl) rfl
theorem q1396 : (Jvm.Cond.methodLink "PlainPageModel" (219 : Nat) ({ cls := "PlainPageModel", name := "listOwner", desc := "()I" } : Jvm.MethodName)) ∈ lw_all := lw_g (lw_at lw_m6 108 rfl) rfl
theorem q1397 : (Jvm.Cond.privateMethod ({ cls := "PlainPageModel", name := "listOwner", desc := "()I" } : Jvm.MethodName)) ∈ lw_tbl := lw_at lw_m6 109 rfl
theorem q1398 : (Jvm.Cond.instanceMethod ({ cls := "PlainPageModel", name := "listOwner", desc := "()I" } : Jvm.MethodName)) ∈ lw_all := lw_g (lw_at lw_m6 110 rfl) rfl
theorem q1399 : (Jvm.Cond.code ({ cls := "PlainPageModel", name := "listOwner", desc := "()I" } : Jvm.MethodName) prog_11_method_25_code (2 : Nat) (Option.some Jvm.ClassFile.FieldType.int)) ∈ lw_all := lw_g (lw_at lw_m6 111 rfl) rfl
theorem q1400 : (Jvm.Cond.methodLink "PlainPageModel" (223 : Nat) ({ cls := "PlainPageModel", name := "opened", desc := "(I)I" } : Jvm.MethodName)) ∈ lw_all := lw_g (lw_at lw_m6 112 rfl) rfl
theorem q1401 : (Jvm.Cond.privateMethod ({ cls := "PlainPageModel", name := "opened", desc := "(I)I" } : Jvm.MethodName)) ∈ lw_tbl := lw_at lw_m6 113 rfl
theorem q1402 : (Jvm.Cond.instanceMethod ({ cls := "PlainPageModel", name := "opened", desc := "(I)I" } : Jvm.MethodName)) ∈ lw_all := lw_g (lw_at lw_m6 114 rfl) rfl
theorem q1403 : (Jvm.Cond.code ({ cls := "PlainPageModel", name := "opened", desc := "(I)I" } : Jvm.MethodName) prog_11_method_20_code (4 : Nat) (Option.some Jvm.ClassFile.FieldType.int)) ∈ lw_all := lw_g (lw_at lw_m6 115 rfl) rfl
theorem q1404 : (Jvm.Cond.methodLink "PlainPageModel" (226 : Nat) ({ cls := "PlainPageModel", name := "findPlace", desc := "(I)V" } : Jvm.MethodName)) ∈ lw_all := lw_g (lw_at lw_m6 116 rfl) rfl
theorem q1405 : (Jvm.Cond.privateMethod ({ cls := "PlainPageModel", name := "findPlace", desc := "(I)V" } : Jvm.MethodName)) ∈ lw_tbl := lw_at lw_m6 117 rfl
theorem q1406 : (Jvm.Cond.instanceMethod ({ cls := "PlainPageModel", name := "findPlace", desc := "(I)V" } : Jvm.MethodName)) ∈ lw_all := lw_g (lw_at lw_m6 118 rfl) rfl
theorem q1407 : (Jvm.Cond.code ({ cls := "PlainPageModel", name := "findPlace", desc := "(I)V" } : Jvm.MethodName) prog_11_method_22_code (5 : Nat) (Option.none : Option Jvm.ClassFile.FieldType)) ∈ lw_all := lw_g (lw_at lw_m6 119 rfl) rfl
theorem q1408 : (Jvm.Cond.constant "PlainPageModel" (214 : Nat) (524288 : Int32)) ∈ lw_all := lw_g (lw_at lw_m6 120 rfl) rfl
theorem q1409 : (Jvm.Cond.constant "PlainPageModel" (215 : Nat) (655360 : Int32)) ∈ lw_all := lw_g (lw_at lw_m6 121 rfl) rfl
theorem q1410 : (Jvm.Cond.constant "PlainPageModel" (249 : Nat) (262402 : Int32)) ∈ lw_all := lw_g (lw_at lw_m6 122 rfl) rfl
theorem q1411 : (Jvm.Cond.methodLink "PlainPageModel" (250 : Nat) ({ cls := "PlainPageModel", name := "list", desc := "(II)V" } : Jvm.MethodName)) ∈ lw_all := lw_g (lw_at lw_m6 123 rfl) rfl
theorem q1412 : (Jvm.Cond.privateMethod ({ cls := "PlainPageModel", name := "list", desc := "(II)V" } : Jvm.MethodName)) ∈ lw_tbl := lw_at lw_m6 124 rfl
theorem q1413 : (Jvm.Cond.instanceMethod ({ cls := "PlainPageModel", name := "list", desc := "(II)V" } : Jvm.MethodName)) ∈ lw_all := lw_g (lw_at lw_m6 125 rfl) rfl
theorem q1414 : (Jvm.Cond.code ({ cls := "PlainPageModel", name := "list", desc := "(II)V" } : Jvm.MethodName) prog_11_method_29_code (6 : Nat) (Option.none : Option Jvm.ClassFile.FieldType)) ∈ lw_all := lw_g (lw_at lw_m6 126 rfl) rfl
theorem q1415 : (Jvm.Cond.methodLink "PlainPageModel" (243 : Nat) ({ cls := "PlainPageModel", name := "dropEntry", desc := "(I)V" } : Jvm.MethodName)) ∈ lw_all := lw_g (lw_at lw_m6 127 rfl) rfl
theorem q1416 : (Jvm.Cond.privateMethod ({ cls := "PlainPageModel", name := "dropEntry", desc := "(I)V" } : Jvm.MethodName)) ∈ lw_tbl := lw_at lw_m6 128 rfl
theorem q1417 : (Jvm.Cond.instanceMethod ({ cls := "PlainPageModel", name := "dropEntry", desc := "(I)V" } : Jvm.MethodName)) ∈ lw_all := lw_g (lw_at lw_m6 129 rfl) rfl
theorem q1418 : (Jvm.Cond.code ({ cls := "PlainPageModel", name := "dropEntry", desc := "(I)V" } : Jvm.MethodName) prog_11_method_27_code (3 : Nat) (Option.none : Option Jvm.ClassFile.FieldType)) ∈ lw_all := lw_g (lw_at lw_m6 130 rfl) rfl
theorem q1419 : (Jvm.Cond.methodLink "PlainPageModel" (186 : Nat) ({ cls := "PlainPageModel", name := "end", desc := "(I)V" } : Jvm.MethodName)) ∈ lw_all := lw_g (lw_at lw_m6 131 rfl) rfl
theorem q1420 : (Jvm.Cond.privateMethod ({ cls := "PlainPageModel", name := "end", desc := "(I)V" } : Jvm.MethodName)) ∈ lw_tbl := lw_at lw_m6 132 rfl
theorem q1421 : (Jvm.Cond.instanceMethod ({ cls := "PlainPageModel", name := "end", desc := "(I)V" } : Jvm.MethodName)) ∈ lw_all := lw_g (lw_at lw_m6 133 rfl) rfl
theorem q1422 : (Jvm.Cond.code ({ cls := "PlainPageModel", name := "end", desc := "(I)V" } : Jvm.MethodName) prog_11_method_31_code (3 : Nat) (Option.none : Option Jvm.ClassFile.FieldType)) ∈ lw_all := lw_g (lw_at lw_m6 134 rfl) rfl
theorem q1423 : (Jvm.Cond.methodLink "PlainPageModel" (253 : Nat) ({ cls := "PlainPageModel", name := "endOther", desc := "(I)V" } : Jvm.MethodName)) ∈ lw_all := lw_g (lw_at lw_m6 135 rfl) rfl
theorem q1424 : (Jvm.Cond.privateMethod ({ cls := "PlainPageModel", name := "endOther", desc := "(I)V" } : Jvm.MethodName)) ∈ lw_tbl := lw_at lw_m6 136 rfl
theorem q1425 : (Jvm.Cond.instanceMethod ({ cls := "PlainPageModel", name := "endOther", desc := "(I)V" } : Jvm.MethodName)) ∈ lw_all := lw_g (lw_at lw_m6 137 rfl) rfl
theorem q1426 : (Jvm.Cond.code ({ cls := "PlainPageModel", name := "endOther", desc := "(I)V" } : Jvm.MethodName) prog_11_method_32_code (6 : Nat) (Option.none : Option Jvm.ClassFile.FieldType)) ∈ lw_all := lw_g (lw_at lw_m6 138 rfl) rfl
theorem q1427 : (Jvm.Cond.constant "PlainPageModel" (256 : Nat) (1738892 : Int32)) ∈ lw_all := lw_g (lw_at lw_m6 139 rfl) rfl
theorem q1428 : (Jvm.Cond.methodLink "PlainPageModel" (257 : Nat) ({ cls := "PlainPageModel", name := "adopt", desc := "(II)V" } : Jvm.MethodName)) ∈ lw_all := lw_g (lw_at lw_m6 140 rfl) rfl
theorem q1429 : (Jvm.Cond.privateMethod ({ cls := "PlainPageModel", name := "adopt", desc := "(II)V" } : Jvm.MethodName)) ∈ lw_tbl := lw_at lw_m6 141 rfl
theorem q1430 : (Jvm.Cond.instanceMethod ({ cls := "PlainPageModel", name := "adopt", desc := "(II)V" } : Jvm.MethodName)) ∈ lw_all := lw_g (lw_at lw_m6 142 rfl) rfl
theorem q1431 : (Jvm.Cond.code ({ cls := "PlainPageModel", name := "adopt", desc := "(II)V" } : Jvm.MethodName) prog_11_method_33_code (10 : Nat) (Option.none : Option Jvm.ClassFile.FieldType)) ∈ lw_all := lw_g (lw_at lw_m6 143 rfl) rfl
theorem q1432 : (Jvm.Cond.methodLink "PlainPageModel" (169 : Nat) ({ cls := "PlainPageModel", name := "entity", desc := "(II)I" } : Jvm.MethodName)) ∈ lw_all := lw_g (lw_at lw_m6 144 rfl) rfl
theorem q1433 : (Jvm.Cond.privateMethod ({ cls := "PlainPageModel", name := "entity", desc := "(II)I" } : Jvm.MethodName)) ∈ lw_tbl := lw_at lw_m6 145 rfl
theorem q1434 : (Jvm.Cond.instanceMethod ({ cls := "PlainPageModel", name := "entity", desc := "(II)I" } : Jvm.MethodName)) ∈ lw_all := lw_g (lw_at lw_m6 146 rfl) rfl
theorem q1435 : (Jvm.Cond.code ({ cls := "PlainPageModel", name := "entity", desc := "(II)I" } : Jvm.MethodName) prog_11_method_12_code (4 : Nat) (Option.some Jvm.ClassFile.FieldType.int)) ∈ lw_all := lw_g (lw_at lw_m6 147 rfl) rfl
theorem q1436 : (Jvm.Cond.methodLink "PlainPageModel" (172 : Nat) ({ cls := "PlainPageModel", name := "character", desc := "(I)V" } : Jvm.MethodName)) ∈ lw_all := lw_g (lw_at lw_m6 148 rfl) rfl
theorem q1437 : (Jvm.Cond.privateMethod ({ cls := "PlainPageModel", name := "character", desc := "(I)V" } : Jvm.MethodName)) ∈ lw_tbl := lw_at lw_m6 149 rfl
theorem q1438 : (Jvm.Cond.instanceMethod ({ cls := "PlainPageModel", name := "character", desc := "(I)V" } : Jvm.MethodName)) ∈ lw_all := lw_g (lw_at lw_m6 150 rfl) rfl
theorem q1439 : (Jvm.Cond.code ({ cls := "PlainPageModel", name := "character", desc := "(I)V" } : Jvm.MethodName) prog_11_method_34_code (4 : Nat) (Option.none : Option Jvm.ClassFile.FieldType)) ∈ lw_all := lw_g (lw_at lw_m6 151 rfl) rfl
theorem q1441 : (Jvm.Cond.instanceMethod ({ cls := "PlainPageModel", name := "css", desc := "(C)Z" } : Jvm.MethodName)) ∈ lw_all := lw_g (lw_at lw_m6 153 rfl) rfl
theorem q1442 : (Jvm.Cond.selects "PlainPageModel" ({ cls := "PlainPageModel", name := "css", desc := "(C)Z" } : Jvm.MethodName) ({ cls := "PlainPageModel", name := "css", desc := "(C)Z" } : Jvm.MethodName)) ∈ lw_all := lw_g (lw_at lw_m6 154 rfl) rfl
theorem q1443 : (Jvm.Cond.code ({ cls := "PlainPageModel", name := "css", desc := "(C)Z" } : Jvm.MethodName) prog_11_method_3_code (2 : Nat) (Option.some Jvm.ClassFile.FieldType.boolean)) ∈ lw_all := lw_g (lw_at lw_m6 155 rfl) rfl
theorem q1445 : (Jvm.Cond.instanceMethod ({ cls := "PlainPageModel", name := "clear", desc := "()V" } : Jvm.MethodName)) ∈ lw_all := lw_g (lw_at lw_m6 157 rfl) rfl
theorem q1446 : (Jvm.Cond.selects "PlainPageModel" ({ cls := "PlainPageModel", name := "clear", desc := "()V" } : Jvm.MethodName) ({ cls := "PlainPageModel", name := "clear", desc := "()V" } : Jvm.MethodName)) ∈ lw_all := lw_g (lw_at lw_m6 158 rfl) rfl
theorem q1447 : (Jvm.Cond.code ({ cls := "PlainPageModel", name := "clear", desc := "()V" } : Jvm.MethodName) prog_11_method_4_code (1 : Nat) (Option.none : Option Jvm.ClassFile.FieldType)) ∈ lw_all := lw_g (lw_at lw_m6 159 rfl) rfl
theorem q1449 : (Jvm.Cond.instanceMethod ({ cls := "PlainPageModel", name := "nodes", desc := "()I" } : Jvm.MethodName)) ∈ lw_all := lw_g (lw_at lw_m6 161 rfl) rfl
theorem q1450 : (Jvm.Cond.selects "PlainPageModel" ({ cls := "PlainPageModel", name := "nodes", desc := "()I" } : Jvm.MethodName) ({ cls := "PlainPageModel", name := "nodes", desc := "()I" } : Jvm.MethodName)) ∈ lw_all := lw_g (lw_at lw_m6 162 rfl) rfl
theorem q1451 : (Jvm.Cond.code ({ cls := "PlainPageModel", name := "nodes", desc := "()I" } : Jvm.MethodName) prog_11_method_36_code (1 : Nat) (Option.some Jvm.ClassFile.FieldType.int)) ∈ lw_all := lw_g (lw_at lw_m6 163 rfl) rfl
theorem q1453 : (Jvm.Cond.instanceMethod ({ cls := "PlainPageModel", name := "name", desc := "(I)I" } : Jvm.MethodName)) ∈ lw_all := lw_g (lw_at lw_m6 165 rfl) rfl
theorem q1454 : (Jvm.Cond.selects "PlainPageModel" ({ cls := "PlainPageModel", name := "name", desc := "(I)I" } : Jvm.MethodName) ({ cls := "PlainPageModel", name := "name", desc := "(I)I" } : Jvm.MethodName)) ∈ lw_all := lw_g (lw_at lw_m6 166 rfl) rfl
theorem q1455 : (Jvm.Cond.code ({ cls := "PlainPageModel", name := "name", desc := "(I)I" } : Jvm.MethodName) prog_11_method_37_code (2 : Nat) (Option.some Jvm.ClassFile.FieldType.int)) ∈ lw_all := lw_g (lw_at lw_m6 167 rfl) rfl
theorem q1456 : (Jvm.Cond.methodLink "PlainPageModel" (260 : Nat) ({ cls := "PlainPageModel", name := "none", desc := "(I)Z" } : Jvm.MethodName)) ∈ lw_all := lw_g (lw_at lw_m6 168 rfl) rfl
theorem q1457 : (Jvm.Cond.privateMethod ({ cls := "PlainPageModel", name := "none", desc := "(I)Z" } : Jvm.MethodName)) ∈ lw_tbl := lw_at lw_m6 169 rfl
theorem q1458 : (Jvm.Cond.instanceMethod ({ cls := "PlainPageModel", name := "none", desc := "(I)Z" } : Jvm.MethodName)) ∈ lw_all := lw_g (lw_at lw_m6 170 rfl) rfl
theorem q1459 : (Jvm.Cond.code ({ cls := "PlainPageModel", name := "none", desc := "(I)Z" } : Jvm.MethodName) prog_11_method_35_code (2 : Nat) (Option.some Jvm.ClassFile.FieldType.boolean)) ∈ lw_all := lw_g (lw_at lw_m6 171 rfl) rfl
theorem q1461 : (Jvm.Cond.instanceMethod ({ cls := "PlainPageModel", name := "parent", desc := "(I)I" } : Jvm.MethodName)) ∈ lw_all := lw_g (lw_at lw_m6 173 rfl) rfl
theorem q1462 : (Jvm.Cond.selects "PlainPageModel" ({ cls := "PlainPageModel", name := "parent", desc := "(I)I" } : Jvm.MethodName) ({ cls := "PlainPageModel", name := "parent", desc := "(I)I" } : Jvm.MethodName)) ∈ lw_all := lw_g (lw_at lw_m6 174 rfl) rfl
theorem q1463 : (Jvm.Cond.code ({ cls := "PlainPageModel", name := "parent", desc := "(I)I" } : Jvm.MethodName) prog_11_method_39_code (2 : Nat) (Option.some Jvm.ClassFile.FieldType.int)) ∈ lw_all := lw_g (lw_at lw_m6 175 rfl) rfl
theorem q1464 : (Jvm.Cond.methodLink "PlainPageModel" (263 : Nat) ({ cls := "PlainPageModel", name := "parentOf", desc := "(I)I" } : Jvm.MethodName)) ∈ lw_all := lw_g (lw_at lw_m6 176 rfl) rfl
theorem q1465 : (Jvm.Cond.privateMethod ({ cls := "PlainPageModel", name := "parentOf", desc := "(I)I" } : Jvm.MethodName)) ∈ lw_tbl := lw_at lw_m6 177 rfl
theorem q1466 : (Jvm.Cond.instanceMethod ({ cls := "PlainPageModel", name := "parentOf", desc := "(I)I" } : Jvm.MethodName)) ∈ lw_all := lw_g (lw_at lw_m6 178 rfl) rfl
theorem q1467 : (Jvm.Cond.code ({ cls := "PlainPageModel", name := "parentOf", desc := "(I)I" } : Jvm.MethodName) prog_11_method_38_code (3 : Nat) (Option.some Jvm.ClassFile.FieldType.int)) ∈ lw_all := lw_g (lw_at lw_m6 179 rfl) rfl
theorem q1469 : (Jvm.Cond.instanceMethod ({ cls := "PlainPageModel", name := "classes", desc := "(I)I" } : Jvm.MethodName)) ∈ lw_all := lw_g (lw_at lw_m6 181 rfl) rfl
theorem q1470 : (Jvm.Cond.selects "PlainPageModel" ({ cls := "PlainPageModel", name := "classes", desc := "(I)I" } : Jvm.MethodName) ({ cls := "PlainPageModel", name := "classes", desc := "(I)I" } : Jvm.MethodName)) ∈ lw_all := lw_g (lw_at lw_m6 182 rfl) rfl
theorem q1471 : (Jvm.Cond.code ({ cls := "PlainPageModel", name := "classes", desc := "(I)I" } : Jvm.MethodName) prog_11_method_40_code (2 : Nat) (Option.some Jvm.ClassFile.FieldType.int)) ∈ lw_all := lw_g (lw_at lw_m6 183 rfl) rfl
theorem q1473 : (Jvm.Cond.instanceMethod ({ cls := "PlainPageModel", name := "letter", desc := "(II)I" } : Jvm.MethodName)) ∈ lw_all := lw_g (lw_at lw_m6 185 rfl) rfl
theorem q1474 : (Jvm.Cond.selects "PlainPageModel" ({ cls := "PlainPageModel", name := "letter", desc := "(II)I" } : Jvm.MethodName) ({ cls := "PlainPageModel", name := "letter", desc := "(II)I" } : Jvm.MethodName)) ∈ lw_all := lw_g (lw_at lw_m6 186 rfl) rfl
theorem q1475 : (Jvm.Cond.code ({ cls := "PlainPageModel", name := "letter", desc := "(II)I" } : Jvm.MethodName) prog_11_method_42_code (4 : Nat) (Option.some Jvm.ClassFile.FieldType.int)) ∈ lw_all := lw_g (lw_at lw_m6 187 rfl) rfl
theorem q1476 : (Jvm.Cond.methodLink "PlainPageModel" (266 : Nat) ({ cls := "PlainPageModel", name := "find", desc := "(II)I" } : Jvm.MethodName)) ∈ lw_all := lw_g (lw_at lw_m6 188 rfl) rfl
theorem q1477 : (Jvm.Cond.privateMethod ({ cls := "PlainPageModel", name := "find", desc := "(II)I" } : Jvm.MethodName)) ∈ lw_tbl := lw_at lw_m6 189 rfl
theorem q1478 : (Jvm.Cond.instanceMethod ({ cls := "PlainPageModel", name := "find", desc := "(II)I" } : Jvm.MethodName)) ∈ lw_all := lw_g (lw_at lw_m6 190 rfl) rfl
theorem q1479 : (Jvm.Cond.code ({ cls := "PlainPageModel", name := "find", desc := "(II)I" } : Jvm.MethodName) prog_11_method_41_code (5 : Nat) (Option.some Jvm.ClassFile.FieldType.int)) ∈ lw_all := lw_g (lw_at lw_m6 191 rfl) rfl
theorem q1481 : (Jvm.Cond.instanceMethod ({ cls := "PlainPageModel", name := "open", desc := "()I" } : Jvm.MethodName)) ∈ lw_all := lw_g (lw_at lw_m6 193 rfl) rfl
theorem q1482 : (Jvm.Cond.selects "PlainPageModel" ({ cls := "PlainPageModel", name := "open", desc := "()I" } : Jvm.MethodName) ({ cls := "PlainPageModel", name := "open", desc := "()I" } : Jvm.MethodName)) ∈ lw_all := lw_g (lw_at lw_m6 194 rfl) rfl
theorem q1483 : (Jvm.Cond.code ({ cls := "PlainPageModel", name := "open", desc := "()I" } : Jvm.MethodName) prog_11_method_43_code (1 : Nat) (Option.some Jvm.ClassFile.FieldType.int)) ∈ lw_all := lw_g (lw_at lw_m6 195 rfl) rfl
theorem q1485 : (Jvm.Cond.instanceMethod ({ cls := "PlainPageModel", name := "rules", desc := "()I" } : Jvm.MethodName)) ∈ lw_all := lw_g (lw_at lw_m6 197 rfl) rfl
theorem q1486 : (Jvm.Cond.selects "PlainPageModel" ({ cls := "PlainPageModel", name := "rules", desc := "()I" } : Jvm.MethodName) ({ cls := "PlainPageModel", name := "rules", desc := "()I" } : Jvm.MethodName)) ∈ lw_all := lw_g (lw_at lw_m6 198 rfl) rfl
theorem q1487 : (Jvm.Cond.code ({ cls := "PlainPageModel", name := "rules", desc := "()I" } : Jvm.MethodName) prog_11_method_44_code (1 : Nat) (Option.some Jvm.ClassFile.FieldType.int)) ∈ lw_all := lw_g (lw_at lw_m6 199 rfl) rfl
theorem q1488 : (Jvm.Cond.methodLink "PlainPageModel" (269 : Nat) ({ cls := "PlainPageModel", name := "readSheet", desc := "()V" } : Jvm.MethodName)) ∈ lw_all := lw_g (lw_at lw_m6 200 rfl) rfl
theorem q1489 : (Jvm.Cond.privateMethod ({ cls := "PlainPageModel", name := "readSheet", desc := "()V" } : Jvm.MethodName)) ∈ lw_tbl := lw_at lw_m6 201 rfl
theorem q1490 : (Jvm.Cond.instanceMethod ({ cls := "PlainPageModel", name := "readSheet", desc := "()V" } : Jvm.MethodName)) ∈ lw_all := lw_g (lw_at lw_m6 202 rfl) rfl
theorem q1491 : (Jvm.Cond.code ({ cls := "PlainPageModel", name := "readSheet", desc := "()V" } : Jvm.MethodName) prog_11_method_46_code (4 : Nat) (Option.none : Option Jvm.ClassFile.FieldType)) ∈ lw_all := lw_g (lw_at lw_m6 203 rfl) rfl
theorem q1492 : (Jvm.Cond.methodLink "PlainPageModel" (275 : Nat) ({ cls := "PlainPageModel", name := "nextSign", desc := "(II)I" } : Jvm.MethodName)) ∈ lw_all := lw_g (lw_at lw_m6 204 rfl) rfl
theorem q1493 : (Jvm.Cond.privateMethod ({ cls := "PlainPageModel", name := "nextSign", desc := "(II)I" } : Jvm.MethodName)) ∈ lw_tbl := lw_at lw_m6 205 rfl
theorem q1494 : (Jvm.Cond.instanceMethod ({ cls := "PlainPageModel", name := "nextSign", desc := "(II)I" } : Jvm.MethodName)) ∈ lw_all := lw_g (lw_at lw_m6 206 rfl) rfl
theorem q1495 : (Jvm.Cond.code ({ cls := "PlainPageModel", name := "nextSign", desc := "(II)I" } : Jvm.MethodName) prog_11_method_45_code (4 : Nat) (Option.some Jvm.ClassFile.FieldType.int)) ∈ lw_all := lw_g (lw_at lw_m6 207 rfl) rfl
theorem q1496 : (Jvm.Cond.methodLink "PlainPageModel" (278 : Nat) ({ cls := "PlainPageModel", name := "selector", desc := "(II)Z" } : Jvm.MethodName)) ∈ lw_all := lw_g (lw_at lw_m6 208 rfl) rfl
theorem q1497 : (Jvm.Cond.privateMethod ({ cls := "PlainPageModel", name := "selector", desc := "(II)Z" } : Jvm.MethodName)) ∈ lw_tbl := lw_at lw_m6 209 rfl
theorem q1498 : (Jvm.Cond.instanceMethod ({ cls := "PlainPageModel", name := "selector", desc := "(II)Z" } : Jvm.MethodName)) ∈ lw_all := lw_g (lw_at lw_m6 210 rfl) rfl
theorem q1499 : (Jvm.Cond.code ({ cls := "PlainPageModel", name := "selector", desc := "(II)Z" } : Jvm.MethodName) prog_11_method_48_code (9 : Nat) (Option.some Jvm.ClassFile.FieldType.boolean)) ∈ lw_all := lw_g (lw_at lw_m6 211 rfl) rfl
theorem q1500 : (Jvm.Cond.methodLink "PlainPageModel" (281 : Nat) ({ cls := "PlainPageModel", name := "blanks", desc := "(II)I" } : Jvm.MethodName)) ∈ lw_all := lw_g (lw_at lw_m6 212 rfl) rfl
theorem q1501 : (Jvm.Cond.privateMethod ({ cls := "PlainPageModel", name := "blanks", desc := "(II)I" } : Jvm.MethodName)) ∈ lw_tbl := lw_at lw_m6 213 rfl
theorem q1502 : (Jvm.Cond.instanceMethod ({ cls := "PlainPageModel", name := "blanks", desc := "(II)I" } : Jvm.MethodName)) ∈ lw_all := lw_g (lw_at lw_m6 214 rfl) rfl
theorem q1503 : (Jvm.Cond.code ({ cls := "PlainPageModel", name := "blanks", desc := "(II)I" } : Jvm.MethodName) prog_11_method_47_code (4 : Nat) (Option.some Jvm.ClassFile.FieldType.int)) ∈ lw_all := lw_g (lw_at lw_m6 215 rfl) rfl
theorem q1505 : (Jvm.Cond.instanceMethod ({ cls := "PlainPageModel", name := "value", desc := "(IC)I" } : Jvm.MethodName)) ∈ lw_all := lw_g (lw_at lw_m6 217 rfl) rfl
theorem q1506 : (Jvm.Cond.selects "PlainPageModel" ({ cls := "PlainPageModel", name := "value", desc := "(IC)I" } : Jvm.MethodName) ({ cls := "PlainPageModel", name := "value", desc := "(IC)I" } : Jvm.MethodName)) ∈ lw_all := lw_g (lw_at lw_m6 218 rfl) rfl
theorem q1507 : (Jvm.Cond.code ({ cls := "PlainPageModel", name := "value", desc := "(IC)I" } : Jvm.MethodName) prog_11_method_56_code (4 : Nat) (Option.some Jvm.ClassFile.FieldType.int)) ∈ lw_all := lw_g (lw_at lw_m6 219 rfl) rfl
theorem q1508 : (Jvm.Cond.methodLink "PlainPageModel" (290 : Nat) ({ cls := "PlainPageModel", name := "propertyIndex", desc := "(I)I" } : Jvm.MethodName)) ∈ lw_all := lw_g (lw_at lw_m6 220 rfl) rfl
theorem q1509 : (Jvm.Cond.static ({ cls := "PlainPageModel", name := "propertyIndex", desc := "(I)I" } : Jvm.MethodName)) ∈ lw_all := lw_g (lw_at lw_m6 221 rfl) rfl
theorem q1510 : (Jvm.Cond.code ({ cls := "PlainPageModel", name := "propertyIndex", desc := "(I)I" } : Jvm.MethodName) prog_11_method_50_code (1 : Nat) (Option.some Jvm.ClassFile.FieldType.int)) ∈ lw_all := lw_g (lw_at lw_m6 222 rfl) rfl
theorem q1511 : (Jvm.Cond.methodLink "PlainPageModel" (307 : Nat) ({ cls := "PlainPageModel", name := "style", desc := "()V" } : Jvm.MethodName)) ∈ lw_all := lw_g (lw_at lw_m6 223 rfl) rfl
theorem q1512 : (Jvm.Cond.privateMethod ({ cls := "PlainPageModel", name := "style", desc := "()V" } : Jvm.MethodName)) ∈ lw_tbl := lw_at lw_m6 224 rfl
theorem q1513 : (Jvm.Cond.instanceMethod ({ cls := "PlainPageModel", name := "style", desc := "()V" } : Jvm.MethodName)) ∈ lw_all := lw_g (lw_at lw_m6 225 rfl) rfl
theorem q1514 : (Jvm.Cond.code ({ cls := "PlainPageModel", name := "style", desc := "()V" } : Jvm.MethodName) prog_11_method_54_code (3 : Nat) (Option.none : Option Jvm.ClassFile.FieldType)) ∈ lw_all := lw_g (lw_at lw_m6 226 rfl) rfl
theorem q1515 : (Jvm.Cond.methodLink "PlainPageModel" (297 : Nat) ({ cls := "PlainPageModel", name := "match", desc := "(I)V" } : Jvm.MethodName)) ∈ lw_all := lw_g (lw_at lw_m6 227 rfl) rfl
theorem q1516 : (Jvm.Cond.privateMethod ({ cls := "PlainPageModel", name := "match", desc := "(I)V" } : Jvm.MethodName)) ∈ lw_tbl := lw_at lw_m6 228 rfl
theorem q1517 : (Jvm.Cond.instanceMethod ({ cls := "PlainPageModel", name := "match", desc := "(I)V" } : Jvm.MethodName)) ∈ lw_all := lw_g (lw_at lw_m6 229 rfl) rfl
theorem q1518 : (Jvm.Cond.code ({ cls := "PlainPageModel", name := "match", desc := "(I)V" } : Jvm.MethodName) prog_11_method_49_code (10 : Nat) (Option.none : Option Jvm.ClassFile.FieldType)) ∈ lw_all := lw_g (lw_at lw_m6 230 rfl) rfl
theorem q1519 : (Jvm.Cond.methodLink "PlainPageModel" (300 : Nat) ({ cls := "PlainPageModel", name := "declare", desc := "(I)V" } : Jvm.MethodName)) ∈ lw_all := lw_g (lw_at lw_m6 231 rfl) rfl
theorem q1520 : (Jvm.Cond.privateMethod ({ cls := "PlainPageModel", name := "declare", desc := "(I)V" } : Jvm.MethodName)) ∈ lw_tbl := lw_at lw_m6 232 rfl
theorem q1521 : (Jvm.Cond.instanceMethod ({ cls := "PlainPageModel", name := "declare", desc := "(I)V" } : Jvm.MethodName)) ∈ lw_all := lw_g (lw_at lw_m6 233 rfl) rfl
theorem q1522 : (Jvm.Cond.code ({ cls := "PlainPageModel", name := "declare", desc := "(I)V" } : Jvm.MethodName) prog_11_method_53_code (8 : Nat) (Option.none : Option Jvm.ClassFile.FieldType)) ∈ lw_all := lw_g (lw_at lw_m6 234 rfl) rfl
theorem q1523 : (Jvm.Cond.methodLink "PlainPageModel" (293 : Nat) ({ cls := "PlainPageModel", name := "declared", desc := "(II)I" } : Jvm.MethodName)) ∈ lw_all := lw_g (lw_at lw_m6 235 rfl) rfl
theorem q1524 : (Jvm.Cond.privateMethod ({ cls := "PlainPageModel", name := "declared", desc := "(II)I" } : Jvm.MethodName)) ∈ lw_tbl := lw_at lw_m6 236 rfl
theorem q1525 : (Jvm.Cond.instanceMethod ({ cls := "PlainPageModel", name := "declared", desc := "(II)I" } : Jvm.MethodName)) ∈ lw_all := lw_g (lw_at lw_m6 237 rfl) rfl
theorem q1526 : (Jvm.Cond.code ({ cls := "PlainPageModel", name := "declared", desc := "(II)I" } : Jvm.MethodName) prog_11_method_52_code (4 : Nat) (Option.some Jvm.ClassFile.FieldType.int)) ∈ lw_all := lw_g (lw_at lw_m6 238 rfl) rfl
theorem q1527 : (Jvm.Cond.methodLink "PlainPageModel" (284 : Nat) ({ cls := "PlainPageModel", name := "digit", desc := "(I)Z" } : Jvm.MethodName)) ∈ lw_all := lw_g (lw_at lw_m6 239 rfl) rfl
theorem q1528 : (Jvm.Cond.static ({ cls := "PlainPageModel", name := "digit", desc := "(I)Z" } : Jvm.MethodName)) ∈ lw_all := lw_g (lw_at lw_m7 0 rfl) rfl
theorem q1529 : (Jvm.Cond.code ({ cls := "PlainPageModel", name := "digit", desc := "(I)Z" } : Jvm.MethodName) prog_11_method_51_code (1 : Nat) (Option.some Jvm.ClassFile.FieldType.boolean)) ∈ lw_all := lw_g (lw_at lw_m7 1 rfl) rfl
theorem q1530 : (Jvm.Cond.constant "PlainPageModel" (296 : Nat) (100000 : Int32)) ∈ lw_all := lw_g (lw_at lw_m7 2 rfl) rfl
theorem q1531 : (Jvm.Cond.methodLink "PlainPageModel" (303 : Nat) ({ cls := "PlainPageModel", name := "initial", desc := "(II)I" } : Jvm.MethodName)) ∈ lw_all := lw_g (lw_at lw_m7 3 rfl) rfl
theorem q1532 : (Jvm.Cond.privateMethod ({ cls := "PlainPageModel", name := "initial", desc := "(II)I" } : Jvm.MethodName)) ∈ lw_tbl := lw_at lw_m7 4 rfl
theorem q1533 : (Jvm.Cond.instanceMethod ({ cls := "PlainPageModel", name := "initial", desc := "(II)I" } : Jvm.MethodName)) ∈ lw_all := lw_g (lw_at lw_m7 5 rfl) rfl
theorem q1534 : (Jvm.Cond.code ({ cls := "PlainPageModel", name := "initial", desc := "(II)I" } : Jvm.MethodName) prog_11_method_55_code (3 : Nat) (Option.some Jvm.ClassFile.FieldType.int)) ∈ lw_all := lw_g (lw_at lw_m7 6 rfl) rfl
theorem q1535 : (Jvm.Cond.constant "PlainPageModel" (306 : Nat) (655364 : Int32)) ∈ lw_all := lw_g (lw_at lw_m7 7 rfl) rfl
theorem q1537 : (Jvm.Cond.instanceMethod ({ cls := "PlainPageModel", name := "layout", desc := "(I)I" } : Jvm.MethodName)) ∈ lw_all := lw_g (lw_at lw_m7 9 rfl) rfl
theorem q1538 : (Jvm.Cond.selects "PlainPageModel" ({ cls := "PlainPageModel", name := "layout", desc := "(I)I" } : Jvm.MethodName) ({ cls := "PlainPageModel", name := "layout", desc := "(I)I" } : Jvm.MethodName)) ∈ lw_all := lw_g (lw_at lw_m7 10 rfl) rfl
theorem q1539 : (Jvm.Cond.code ({ cls := "PlainPageModel", name := "layout", desc := "(I)I" } : Jvm.MethodName) prog_11_method_57_code (3 : Nat) (Option.some Jvm.ClassFile.FieldType.int)) ∈ lw_all := lw_g (lw_at lw_m7 11 rfl) rfl
theorem q1540 : (Jvm.Cond.methodLink "PlainPageModel" (316 : Nat) ({ cls := "PlainPageModel", name := "widths", desc := "(II)V" } : Jvm.MethodName)) ∈ lw_all := lw_g (lw_at lw_m7 12 rfl) rfl
theorem q1541 : (Jvm.Cond.privateMethod ({ cls := "PlainPageModel", name := "widths", desc := "(II)V" } : Jvm.MethodName)) ∈ lw_tbl := lw_at lw_m7 13 rfl
theorem q1542 : (Jvm.Cond.instanceMethod ({ cls := "PlainPageModel", name := "widths", desc := "(II)V" } : Jvm.MethodName)) ∈ lw_all := lw_g (lw_at lw_m7 14 rfl) rfl
theorem q1543 : (Jvm.Cond.code ({ cls := "PlainPageModel", name := "widths", desc := "(II)V" } : Jvm.MethodName) prog_11_method_59_code (10 : Nat) (Option.none : Option Jvm.ClassFile.FieldType)) ∈ lw_all := lw_g (lw_at lw_m7 15 rfl) rfl
theorem q1544 : (Jvm.Cond.methodLink "PlainPageModel" (325 : Nat) ({ cls := "PlainPageModel", name := "border", desc := "(II)I" } : Jvm.MethodName)) ∈ lw_all := lw_g (lw_at lw_m7 16 rfl) rfl
theorem q1545 : (Jvm.Cond.privateMethod ({ cls := "PlainPageModel", name := "border", desc := "(II)I" } : Jvm.MethodName)) ∈ lw_tbl := lw_at lw_m7 17 rfl
theorem q1546 : (Jvm.Cond.instanceMethod ({ cls := "PlainPageModel", name := "border", desc := "(II)I" } : Jvm.MethodName)) ∈ lw_all := lw_g (lw_at lw_m7 18 rfl) rfl
theorem q1547 : (Jvm.Cond.code ({ cls := "PlainPageModel", name := "border", desc := "(II)I" } : Jvm.MethodName) prog_11_method_58_code (3 : Nat) (Option.some Jvm.ClassFile.FieldType.int)) ∈ lw_all := lw_g (lw_at lw_m7 19 rfl) rfl
theorem q1548 : (Jvm.Cond.methodLink "PlainPageModel" (328 : Nat) ({ cls := "PlainPageModel", name := "within", desc := "(II)Z" } : Jvm.MethodName)) ∈ lw_all := lw_g (lw_at lw_m7 20 rfl) rfl
theorem q1549 : (Jvm.Cond.privateMethod ({ cls := "PlainPageModel", name := "within", desc := "(II)Z" } : Jvm.MethodName)) ∈ lw_tbl := lw_at lw_m7 21 rfl
theorem q1550 : (Jvm.Cond.instanceMethod ({ cls := "PlainPageModel", name := "within", desc := "(II)Z" } : Jvm.MethodName)) ∈ lw_all := lw_g (lw_at lw_m7 22 rfl) rfl
theorem q1551 : (Jvm.Cond.code ({ cls := "PlainPageModel", name := "within", desc := "(II)Z" } : Jvm.MethodName) prog_11_method_60_code (6 : Nat) (Option.some Jvm.ClassFile.FieldType.boolean)) ∈ lw_all := lw_g (lw_at lw_m7 23 rfl) rfl
theorem q1552 : (Jvm.Cond.methodLink "PlainPageModel" (319 : Nat) ({ cls := "PlainPageModel", name := "heights", desc := "(I)V" } : Jvm.MethodName)) ∈ lw_all := lw_g (lw_at lw_m7 24 rfl) rfl
theorem q1553 : (Jvm.Cond.privateMethod ({ cls := "PlainPageModel", name := "heights", desc := "(I)V" } : Jvm.MethodName)) ∈ lw_tbl := lw_at lw_m7 25 rfl
theorem q1554 : (Jvm.Cond.instanceMethod ({ cls := "PlainPageModel", name := "heights", desc := "(I)V" } : Jvm.MethodName)) ∈ lw_all := lw_g (lw_at lw_m7 26 rfl) rfl
theorem q1555 : (Jvm.Cond.code ({ cls := "PlainPageModel", name := "heights", desc := "(I)V" } : Jvm.MethodName) prog_11_method_61_code (11 : Nat) (Option.none : Option Jvm.ClassFile.FieldType)) ∈ lw_all := lw_g (lw_at lw_m7 27 rfl) rfl
theorem q1556 : (Jvm.Cond.methodLink "PlainPageModel" (334 : Nat) ({ cls := "PlainPageModel", name := "runs", desc := "()Z" } : Jvm.MethodName)) ∈ lw_all := lw_g (lw_at lw_m7 28 rfl) rfl
theorem q1557 : (Jvm.Cond.privateMethod ({ cls := "PlainPageModel", name := "runs", desc := "()Z" } : Jvm.MethodName)) ∈ lw_tbl := lw_at lw_m7 29 rfl
theorem q1558 : (Jvm.Cond.instanceMethod ({ cls := "PlainPageModel", name := "runs", desc := "()Z" } : Jvm.MethodName)) ∈ lw_all := lw_g (lw_at lw_m7 30 rfl) rfl
theorem q1559 : (Jvm.Cond.code ({ cls := "PlainPageModel", name := "runs", desc := "()Z" } : Jvm.MethodName) prog_11_method_63_code (3 : Nat) (Option.some Jvm.ClassFile.FieldType.boolean)) ∈ lw_all := lw_g (lw_at lw_m7 31 rfl) rfl
theorem q1560 : (Jvm.Cond.methodLink "PlainPageModel" (338 : Nat) ({ cls := "PlainPageModel", name := "lay", desc := "(II)I" } : Jvm.MethodName)) ∈ lw_all := lw_g (lw_at lw_m7 32 rfl) rfl
theorem q1561 : (Jvm.Cond.privateMethod ({ cls := "PlainPageModel", name := "lay", desc := "(II)I" } : Jvm.MethodName)) ∈ lw_tbl := lw_at lw_m7 33 rfl
theorem q1562 : (Jvm.Cond.instanceMethod ({ cls := "PlainPageModel", name := "lay", desc := "(II)I" } : Jvm.MethodName)) ∈ lw_all := lw_g (lw_at lw_m7 34 rfl) rfl
theorem q1563 : (Jvm.Cond.code ({ cls := "PlainPageModel", name := "lay", desc := "(II)I" } : Jvm.MethodName) prog_11_method_65_code (8 : Nat) (Option.some Jvm.ClassFile.FieldType.int)) ∈ lw_all := lw_g (lw_at lw_m7 35 rfl) rfl
theorem q1564 : (Jvm.Cond.methodLink "PlainPageModel" (347 : Nat) ({ cls := "PlainPageModel", name := "newLine", desc := "(I)V" } : Jvm.MethodName)) ∈ lw_all := lw_g (lw_at lw_m7 36 rfl) rfl
theorem q1565 : (Jvm.Cond.privateMethod ({ cls := "PlainPageModel", name := "newLine", desc := "(I)V" } : Jvm.MethodName)) ∈ lw_tbl := lw_at lw_m7 37 rfl
theorem q1566 : (Jvm.Cond.instanceMethod ({ cls := "PlainPageModel", name := "newLine", desc := "(I)V" } : Jvm.MethodName)) ∈ lw_all := lw_g (lw_at lw_m7 38 rfl) rfl
theorem q1567 : (Jvm.Cond.code ({ cls := "PlainPageModel", name := "newLine", desc := "(I)V" } : Jvm.MethodName) prog_11_method_66_code (2 : Nat) (Option.none : Option Jvm.ClassFile.FieldType)) ∈ lw_all := lw_g (lw_at lw_m7 39 rfl) rfl
theorem q1568 : (Jvm.Cond.methodLink "PlainPageModel" (350 : Nat) ({ cls := "PlainPageModel", name := "putWord", desc := "(IIII)V" } : Jvm.MethodName)) ∈ lw_all := lw_g (lw_at lw_m7 40 rfl) rfl
theorem q1569 : (Jvm.Cond.privateMethod ({ cls := "PlainPageModel", name := "putWord", desc := "(IIII)V" } : Jvm.MethodName)) ∈ lw_tbl := lw_at lw_m7 41 rfl
theorem q1570 : (Jvm.Cond.instanceMethod ({ cls := "PlainPageModel", name := "putWord", desc := "(IIII)V" } : Jvm.MethodName)) ∈ lw_all := lw_g (lw_at lw_m7 42 rfl) rfl
theorem q1571 : (Jvm.Cond.code ({ cls := "PlainPageModel", name := "putWord", desc := "(IIII)V" } : Jvm.MethodName) prog_11_method_68_code (9 : Nat) (Option.none : Option Jvm.ClassFile.FieldType)) ∈ lw_all := lw_g (lw_at lw_m7 43 rfl) rfl
theorem q1572 : (Jvm.Cond.methodLink "PlainPageModel" (354 : Nat) ({ cls := "PlainPageModel", name := "size", desc := "(I)I" } : Jvm.MethodName)) ∈ lw_all := lw_g (lw_at lw_m7 44 rfl) rfl
theorem q1573 : (Jvm.Cond.privateMethod ({ cls := "PlainPageModel", name := "size", desc := "(I)I" } : Jvm.MethodName)) ∈ lw_tbl := lw_at lw_m7 45 rfl
theorem q1574 : (Jvm.Cond.instanceMethod ({ cls := "PlainPageModel", name := "size", desc := "(I)I" } : Jvm.MethodName)) ∈ lw_all := lw_g (lw_at lw_m7 46 rfl) rfl
theorem q1575 : (Jvm.Cond.code ({ cls := "PlainPageModel", name := "size", desc := "(I)I" } : Jvm.MethodName) prog_11_method_64_code (3 : Nat) (Option.some Jvm.ClassFile.FieldType.int)) ∈ lw_all := lw_g (lw_at lw_m7 47 rfl) rfl
theorem q1576 : (Jvm.Cond.methodLink "PlainPageModel" (363 : Nat) ({ cls := "PlainPageModel", name := "endLine", desc := "(I)V" } : Jvm.MethodName)) ∈ lw_all := lw_g (lw_at lw_m7 48 rfl) rfl
theorem q1577 : (Jvm.Cond.privateMethod ({ cls := "PlainPageModel", name := "endLine", desc := "(I)V" } : Jvm.MethodName)) ∈ lw_tbl := lw_at lw_m7 49 rfl
theorem q1578 : (Jvm.Cond.instanceMethod ({ cls := "PlainPageModel", name := "endLine", desc := "(I)V" } : Jvm.MethodName)) ∈ lw_all := lw_g (lw_at lw_m7 50 rfl) rfl
theorem q1579 : (Jvm.Cond.code ({ cls := "PlainPageModel", name := "endLine", desc := "(I)V" } : Jvm.MethodName) prog_11_method_67_code (3 : Nat) (Option.none : Option Jvm.ClassFile.FieldType)) ∈ lw_all := lw_g (lw_at lw_m7 51 rfl) rfl
theorem q1580 : (Jvm.Cond.methodLink "PlainPageModel" (341 : Nat) ({ cls := "PlainPageModel", name := "gather", desc := "(I)V" } : Jvm.MethodName)) ∈ lw_all := lw_g (lw_at lw_m7 52 rfl) rfl
theorem q1581 : (Jvm.Cond.privateMethod ({ cls := "PlainPageModel", name := "gather", desc := "(I)V" } : Jvm.MethodName)) ∈ lw_tbl := lw_at lw_m7 53 rfl
theorem q1582 : (Jvm.Cond.instanceMethod ({ cls := "PlainPageModel", name := "gather", desc := "(I)V" } : Jvm.MethodName)) ∈ lw_all := lw_g (lw_at lw_m7 54 rfl) rfl
theorem q1583 : (Jvm.Cond.code ({ cls := "PlainPageModel", name := "gather", desc := "(I)V" } : Jvm.MethodName) prog_11_method_62_code (4 : Nat) (Option.none : Option Jvm.ClassFile.FieldType)) ∈ lw_all := lw_g (lw_at lw_m7 55 rfl) rfl
theorem q1584 : (Jvm.Cond.methodLink "PlainPageModel" (322 : Nat) ({ cls := "PlainPageModel", name := "places", desc := "()V" } : Jvm.MethodName)) ∈ lw_all := lw_g (lw_at lw_m7 56 rfl) rfl
theorem q1585 : (Jvm.Cond.privateMethod ({ cls := "PlainPageModel", name := "places", desc := "()V" } : Jvm.MethodName)) ∈ lw_tbl := lw_at lw_m7 57 rfl
theorem q1586 : (Jvm.Cond.instanceMethod ({ cls := "PlainPageModel", name := "places", desc := "()V" } : Jvm.MethodName)) ∈ lw_all := lw_g (lw_at lw_m7 58 rfl) rfl
theorem q1587 : (Jvm.Cond.code ({ cls := "PlainPageModel", name := "places", desc := "()V" } : Jvm.MethodName) prog_11_method_69_code (2 : Nat) (Option.none : Option Jvm.ClassFile.FieldType)) ∈ lw_all := lw_g (lw_at lw_m7 59 rfl) rfl
theorem q1589 : (Jvm.Cond.instanceMethod ({ cls := "PlainPageModel", name := "box", desc := "(II)I" } : Jvm.MethodName)) ∈ lw_all := lw_g (lw_at lw_m7 61 rfl) rfl
theorem q1590 : (Jvm.Cond.selects "PlainPageModel" ({ cls := "PlainPageModel", name := "box", desc := "(II)I" } : Jvm.MethodName) ({ cls := "PlainPageModel", name := "box", desc := "(II)I" } : Jvm.MethodName)) ∈ lw_all := lw_g (lw_at lw_m7 62 rfl) rfl
theorem q1591 : (Jvm.Cond.code ({ cls := "PlainPageModel", name := "box", desc := "(II)I" } : Jvm.MethodName) prog_11_method_70_code (3 : Nat) (Option.some Jvm.ClassFile.FieldType.int)) ∈ lw_all := lw_g (lw_at lw_m7 63 rfl) rfl
theorem q1593 : (Jvm.Cond.instanceMethod ({ cls := "PlainPageModel", name := "place", desc := "(II)I" } : Jvm.MethodName)) ∈ lw_all := lw_g (lw_at lw_m7 65 rfl) rfl
theorem q1594 : (Jvm.Cond.selects "PlainPageModel" ({ cls := "PlainPageModel", name := "place", desc := "(II)I" } : Jvm.MethodName) ({ cls := "PlainPageModel", name := "place", desc := "(II)I" } : Jvm.MethodName)) ∈ lw_all := lw_g (lw_at lw_m7 66 rfl) rfl
theorem q1595 : (Jvm.Cond.code ({ cls := "PlainPageModel", name := "place", desc := "(II)I" } : Jvm.MethodName) prog_11_method_71_code (4 : Nat) (Option.some Jvm.ClassFile.FieldType.int)) ∈ lw_all := lw_g (lw_at lw_m7 67 rfl) rfl
theorem q1596 : (Jvm.Cond.constant "PlainPageModel" (372 : Nat) (65536 : Int32)) ∈ lw_all := lw_g (lw_at lw_m7 68 rfl) rfl
theorem q1598 : (Jvm.Cond.instanceMethod ({ cls := "PlainPageModel", name := "lines", desc := "()I" } : Jvm.MethodName)) ∈ lw_all := lw_g (lw_at lw_m7 70 rfl) rfl
theorem q1599 : (Jvm.Cond.selects "PlainPageModel" ({ cls := "PlainPageModel", name := "lines", desc := "()I" } : Jvm.MethodName) ({ cls := "PlainPageModel", name := "lines", desc := "()I" } : Jvm.MethodName)) ∈ lw_all := lw_g (lw_at lw_m7 71 rfl) rfl
theorem q1600 : (Jvm.Cond.code ({ cls := "PlainPageModel", name := "lines", desc := "()I" } : Jvm.MethodName) prog_11_method_72_code (1 : Nat) (Option.some Jvm.ClassFile.FieldType.int)) ∈ lw_all := lw_g (lw_at lw_m7 72 rfl) rfl
theorem q1602 : (Jvm.Cond.instanceMethod ({ cls := "PlainPageModel", name := "pixel", desc := "(II)I" } : Jvm.MethodName)) ∈ lw_all := lw_g (lw_at lw_m7 74 rfl) rfl
theorem q1603 : (Jvm.Cond.selects "PlainPageModel" ({ cls := "PlainPageModel", name := "pixel", desc := "(II)I" } : Jvm.MethodName) ({ cls := "PlainPageModel", name := "pixel", desc := "(II)I" } : Jvm.MethodName)) ∈ lw_all := lw_g (lw_at lw_m7 75 rfl) rfl
theorem q1604 : (Jvm.Cond.code ({ cls := "PlainPageModel", name := "pixel", desc := "(II)I" } : Jvm.MethodName) prog_11_method_73_code (6 : Nat) (Option.some Jvm.ClassFile.FieldType.int)) ∈ lw_all := lw_g (lw_at lw_m7 76 rfl) rfl
theorem q1605 : (Jvm.Cond.methodLink "PlainPageModel" (373 : Nat) ({ cls := "PlainPageModel", name := "inked", desc := "(IIII)Z" } : Jvm.MethodName)) ∈ lw_all := lw_g (lw_at lw_m7 77 rfl) rfl
theorem q1606 : (Jvm.Cond.privateMethod ({ cls := "PlainPageModel", name := "inked", desc := "(IIII)Z" } : Jvm.MethodName)) ∈ lw_tbl := lw_at lw_m7 78 rfl
theorem q1607 : (Jvm.Cond.instanceMethod ({ cls := "PlainPageModel", name := "inked", desc := "(IIII)Z" } : Jvm.MethodName)) ∈ lw_all := lw_g (lw_at lw_m7 79 rfl) rfl
theorem q1608 : (Jvm.Cond.code ({ cls := "PlainPageModel", name := "inked", desc := "(IIII)Z" } : Jvm.MethodName) prog_11_method_74_code (7 : Nat) (Option.some Jvm.ClassFile.FieldType.boolean)) ∈ lw_all := lw_g (lw_at lw_m7 80 rfl) rfl
theorem q1628 : (Jvm.Cond.castable "PlainPageModel" "java/lang/Object") ∈ lw_tbl := lw_at lw_m7 100 rfl
theorem in_X5 : ∀ w ∈ wsX50, w ∈ lw_all := lw_in wsX50 [1199, 1201, 1203, 1205, 1207, 1209, 1211, 1213, 1215, 1217, 1219, 1221, 1223, 1225, 1227, 1229, 1231, 1233, 1235, 1237, 1239, 1241, 1243, 1245, 1247, 1249, 1251, 1253, 1255, 1257, 1259, 1261, 1263, 1265, 1267, 1269, 1271, 1273, 1275, 1277, 1279, 1281, 1283, 1285, 1287, 1289, 1291, 1293, 1295, 1297, 1299, 1301, 1303, 1305, 1307, 1309, 1311, 1313] (by decide +kernel) (by decide +kernel)
