/-! X0.TableWays.lean.txt -/
/-! TableWays -/
set_option maxRecDepth 100000
def RX0 : String := "TableWays"
def TX0 : u_T := fun k => match k with
  | 0 => ("TableWays", "tables", "[LTableWays$Table;", true)
  | 1 => ("TableWays", "tape", "[B", true)
  | 2 => ("TableWays", "taped", "I", false)
  | 3 => ("TableWays", "faultKind", "I", false)
  | 4 => ("TableWays", "faultPlace", "I", false)
  | 5 => ("TableWays", "wrong", "LTableWays$Wrong;", true)
  | 6 => ("TableWays", "fresh", "LTableWays$Table;", true)
  | 7 => ("TableWays", "spare", "LTableWays$Table;", true)
  | 8 => ("TableWays", "ways", "[LTableWays$Way;", true)
  | 9 => ("TableWays", "told", "LTableWays$Way;", true)
  | 10 => ("TableWays", "size", "I", false)
  | 11 => ("TableWays", "at", "I", false)
  | 12 => ("TableWays", "to", "I", false)
  | 13 => ("TableWays", "sort", "I", false)
  | 14 => ("TableWays", "open", "I", false)
  | 15 => ("TableWays", "cells", "[J", true)
  | 16 => ("TableWays", "rows", "[I", true)
  | 17 => ("TableWays", "columns", "[I", true)
  | 18 => ("TableWays", "depth", "[I", true)
  | 19 => ("TableWays", "next", "[I", true)
  | 20 => ("TableWays", "firstEdge", "[I", true)
  | 21 => ("TableWays", "bucket", "[I", true)
  | 22 => ("TableWays", "isEnd", "[Z", true)
  | 23 => ("TableWays", "edgeStep", "[I", true)
  | 24 => ("TableWays", "edgeTo", "[I", true)
  | 25 => ("TableWays", "waysOn", "[J", true)
  | 26 => ("TableWays", "states", "I", false)
  | 27 => ("TableWays", "edges", "I", false)
  | 28 => ("TableWays", "ends", "I", false)
  | 29 => ("TableWays", "foundMany", "I", false)
  | 30 => ("TableWays", "foundSteps", "I", false)
  | 31 => ("TableWays", "two", "Z", false)
  | 32 => ("TableWays", "first", "LTableWays$Table;", true)
  | 33 => ("TableWays", "second", "LTableWays$Table;", true)
  | 34 => ("TableWays", "firstMade", "LTableWays$Table;", true)
  | _ => ("TableWays", "secondMade", "LTableWays$Table;", true)
def tyX0 : Nat → FieldType := fun k => match k with
  | 0 => .array (.object "TableWays$Table")
  | 1 => .array .byte
  | 2 => .int
  | 3 => .int
  | 4 => .int
  | 5 => .object "TableWays$Wrong"
  | 6 => .object "TableWays$Table"
  | 7 => .object "TableWays$Table"
  | 8 => .array (.object "TableWays$Way")
  | 9 => .object "TableWays$Way"
  | 10 => .int
  | 11 => .int
  | 12 => .int
  | 13 => .int
  | 14 => .int
  | 15 => .array .long
  | 16 => .array .int
  | 17 => .array .int
  | 18 => .array .int
  | 19 => .array .int
  | 20 => .array .int
  | 21 => .array .int
  | 22 => .array .boolean
  | 23 => .array .int
  | 24 => .array .int
  | 25 => .array .long
  | 26 => .int
  | 27 => .int
  | 28 => .int
  | 29 => .int
  | 30 => .int
  | 31 => .boolean
  | 32 => .object "TableWays$Table"
  | 33 => .object "TableWays$Table"
  | 34 => .object "TableWays$Table"
  | _ => .object "TableWays$Table"
abbrev wsX00 : List Cond := u_ws RX0 TX0 36
set_option maxRecDepth 100000 in
theorem nmX0 : ∀ a, a < 36 → ∀ b, b < 36 → a ≠ b → (TX0 a).2.1 ≠ (TX0 b).2.1 := by decide +kernel
set_option maxRecDepth 100000 in
theorem tyX0_ok : ∀ k, k < 36 → parseFieldDescriptor (TX0 k).2.2.1 = some (tyX0 k) := by decide +kernel
abbrev cX0_init : ByteArray := prog_1_method_15_code
def yX0_init : MethodName := ⟨RX0, "<init>", "()V"⟩
abbrev cX0_feed : ByteArray := prog_1_method_17_code
def yX0_feed : MethodName := ⟨RX0, "feed", "(IIIII)I"⟩
abbrev cX0_four : ByteArray := prog_1_method_16_code
def yX0_four : MethodName := ⟨RX0, "four", "(I)V"⟩
abbrev cX0_end : ByteArray := prog_1_method_18_code
def yX0_end : MethodName := ⟨RX0, "end", "(I)I"⟩
abbrev cX0_table : ByteArray := prog_1_method_22_code
def yX0_table : MethodName := ⟨RX0, "table", "(I)I"⟩
abbrev cX0_in : ByteArray := prog_1_method_1_code
def yX0_in : MethodName := ⟨RX0, "in", "(JJJ)Z"⟩
abbrev cX0_readTable : ByteArray := prog_1_method_23_code
def yX0_readTable : MethodName := ⟨RX0, "readTable", "(I)V"⟩
abbrev cX0_longer : ByteArray := prog_1_method_24_code
def yX0_longer : MethodName := ⟨RX0, "longer", "(JII)J"⟩
abbrev cX0_isSmall : ByteArray := prog_1_method_19_code
def yX0_isSmall : MethodName := ⟨RX0, "isSmall", "(I)Z"⟩
abbrev cX0_isDigit : ByteArray := prog_1_method_20_code
def yX0_isDigit : MethodName := ⟨RX0, "isDigit", "(I)Z"⟩
abbrev cX0_isMark : ByteArray := prog_1_method_21_code
def yX0_isMark : MethodName := ⟨RX0, "isMark", "(I)Z"⟩
abbrev cX0_bytesOf : ByteArray := prog_1_method_2_code
def yX0_bytesOf : MethodName := ⟨RX0, "bytesOf", "(J)I"⟩
abbrev cX0_way : ByteArray := prog_1_method_35_code
def yX0_way : MethodName := ⟨RX0, "way", "(I)I"⟩
abbrev cX0_next : ByteArray := prog_1_method_25_code
def yX0_next : MethodName := ⟨RX0, "next", "()V"⟩
abbrev cX0_readWay : ByteArray := prog_1_method_33_code
def yX0_readWay : MethodName := ⟨RX0, "readWay", "()V"⟩
abbrev cX0_is : ByteArray := prog_1_method_26_code
def yX0_is : MethodName := ⟨RX0, "is", "(Ljava/lang/String;)Z"⟩
abbrev cX0_readRepeat : ByteArray := prog_1_method_34_code
def yX0_readRepeat : MethodName := ⟨RX0, "readRepeat", "()V"⟩
abbrev cX0_digit : ByteArray := prog_1_method_30_code
def yX0_digit : MethodName := ⟨RX0, "digit", "(II)I"⟩
abbrev cX0_need : ByteArray := prog_1_method_27_code
def yX0_need : MethodName := ⟨RX0, "need", "(ZI)V"⟩
abbrev cX0_isSign : ByteArray := prog_1_method_28_code
def yX0_isSign : MethodName := ⟨RX0, "isSign", "(I)Z"⟩
abbrev cX0_stepHere : ByteArray := prog_1_method_32_code
def yX0_stepHere : MethodName := ⟨RX0, "stepHere", "()I"⟩
abbrev cX0_kindOf : ByteArray := prog_1_method_13_code
def yX0_kindOf : MethodName := ⟨RX0, "kindOf", "(I)LTableWays$Kind;"⟩
abbrev cX0_mark : ByteArray := prog_1_method_31_code
def yX0_mark : MethodName := ⟨RX0, "mark", "()I"⟩
abbrev cX0_sign : ByteArray := prog_1_method_29_code
def yX0_sign : MethodName := ⟨RX0, "sign", "(I)V"⟩
abbrev cX0_fault : ByteArray := prog_1_method_36_code
def yX0_fault : MethodName := ⟨RX0, "fault", "(I)I"⟩
abbrev cX0_size : ByteArray := prog_1_method_39_code
def yX0_size : MethodName := ⟨RX0, "size", "(II)I"⟩
abbrev cX0_isTable : ByteArray := prog_1_method_37_code
def yX0_isTable : MethodName := ⟨RX0, "isTable", "(I)Z"⟩
abbrev cX0_numberOf : ByteArray := prog_1_method_5_code
def yX0_numberOf : MethodName := ⟨RX0, "numberOf", "(J)I"⟩
abbrev cX0_byteAt : ByteArray := prog_1_method_3_code
def yX0_byteAt : MethodName := ⟨RX0, "byteAt", "(JI)I"⟩
abbrev cX0_cell : ByteArray := prog_1_method_40_code
def yX0_cell : MethodName := ⟨RX0, "cell", "(III)J"⟩
abbrev cX0_copy : ByteArray := prog_1_method_41_code
def yX0_copy : MethodName := ⟨RX0, "copy", "(II)I"⟩
abbrev cX0_fits : ByteArray := prog_1_method_42_code
def yX0_fits : MethodName := ⟨RX0, "fits", "(II)I"⟩
abbrev cX0_step : ByteArray := prog_1_method_43_code
def yX0_step : MethodName := ⟨RX0, "step", "(IIII)I"⟩
abbrev cX0_makes : ByteArray := prog_1_method_14_code
def yX0_makes : MethodName := ⟨RX0, "makes", "(LTableWays$Table;IIILTableWays$Table;)Z"⟩
abbrev cX0_isSize : ByteArray := prog_1_method_9_code
def yX0_isSize : MethodName := ⟨RX0, "isSize", "(II)Z"⟩
abbrev cX0_grouped : ByteArray := prog_1_method_11_code
def yX0_grouped : MethodName := ⟨RX0, "grouped", "(LTableWays$Table;IILTableWays$Table;)Z"⟩
abbrev cX0_firstText : ByteArray := prog_1_method_12_code
def yX0_firstText : MethodName := ⟨RX0, "firstText", "(LTableWays$Table;II)I"⟩
abbrev cX0_textOf : ByteArray := prog_1_method_6_code
def yX0_textOf : MethodName := ⟨RX0, "textOf", "(I)J"⟩
abbrev cX0_rowsOf : ByteArray := prog_1_method_10_code
def yX0_rowsOf : MethodName := ⟨RX0, "rowsOf", "(LTableWays$Table;[IILTableWays$Table;)Z"⟩
abbrev cX0_find : ByteArray := prog_1_method_7_code
def yX0_find : MethodName := ⟨RX0, "find", "(JI)I"⟩
abbrev cX0_part : ByteArray := prog_1_method_8_code
def yX0_part : MethodName := ⟨RX0, "part", "(JII)J"⟩
abbrev cX0_against : ByteArray := prog_1_method_4_code
def yX0_against : MethodName := ⟨RX0, "against", "(JJ)I"⟩
abbrev cX0_walk : ByteArray := prog_1_method_45_code
def yX0_walk : MethodName := ⟨RX0, "walk", "(III)I"⟩
abbrev cX0_isWay : ByteArray := prog_1_method_38_code
def yX0_isWay : MethodName := ⟨RX0, "isWay", "(I)Z"⟩
abbrev cX0_walks : ByteArray := prog_1_method_44_code
def yX0_walks : MethodName := ⟨RX0, "walks", "(LTableWays$Way;LTableWays$Table;)I"⟩
abbrev cX0_steps : ByteArray := prog_1_method_46_code
def yX0_steps : MethodName := ⟨RX0, "steps", "(I)I"⟩
abbrev cX0_stepAt : ByteArray := prog_1_method_47_code
def yX0_stepAt : MethodName := ⟨RX0, "stepAt", "(III)I"⟩
abbrev cX0_chain : ByteArray := prog_1_method_48_code
def yX0_chain : MethodName := ⟨RX0, "chain", "(III)I"⟩
abbrev cX0_find_2 : ByteArray := prog_1_method_56_code
def yX0_find_2 : MethodName := ⟨RX0, "find", "(IIIII)I"⟩
abbrev cX0_addState : ByteArray := prog_1_method_54_code
def yX0_addState : MethodName := ⟨RX0, "addState", "(LTableWays$Table;LTableWays$Table;IZ)I"⟩
abbrev cX0_store : ByteArray := prog_1_method_50_code
def yX0_store : MethodName := ⟨RX0, "store", "(IILTableWays$Table;)V"⟩
abbrev cX0_bucketOf : ByteArray := prog_1_method_52_code
def yX0_bucketOf : MethodName := ⟨RX0, "bucketOf", "(LTableWays$Table;LTableWays$Table;)I"⟩
abbrev cX0_countWays : ByteArray := prog_1_method_57_code
def yX0_countWays : MethodName := ⟨RX0, "countWays", "()V"⟩
abbrev cX0_expand : ByteArray := prog_1_method_55_code
def yX0_expand : MethodName := ⟨RX0, "expand", "(ILTableWays$Table;LTableWays$Table;)Z"⟩
abbrev cX0_load : ByteArray := prog_1_method_49_code
def yX0_load : MethodName := ⟨RX0, "load", "(IILTableWays$Table;)V"⟩
abbrev cX0_stateOf : ByteArray := prog_1_method_53_code
def yX0_stateOf : MethodName := ⟨RX0, "stateOf", "(LTableWays$Table;LTableWays$Table;)I"⟩
abbrev cX0_isAt : ByteArray := prog_1_method_51_code
def yX0_isAt : MethodName := ⟨RX0, "isAt", "(IILTableWays$Table;)Z"⟩
abbrev cX0_found : ByteArray := prog_1_method_58_code
def yX0_found : MethodName := ⟨RX0, "found", "(I)I"⟩
abbrev cX0_take : ByteArray := prog_1_method_59_code
def yX0_take : MethodName := ⟨RX0, "take", "(II)I"⟩
abbrev cX0_part_2 : ByteArray := prog_1_method_62_code
def yX0_part_2 : MethodName := ⟨RX0, "part", "(IIIII)I"⟩
abbrev cX0_listed : ByteArray := prog_1_method_60_code
def yX0_listed : MethodName := ⟨RX0, "listed", "(I)J"⟩
abbrev cX0_parts : ByteArray := prog_1_method_61_code
def yX0_parts : MethodName := ⟨RX0, "parts", "(LTableWays$Way;LTableWays$Way;LTableWays$Table;)Z"⟩
abbrev cX0_count : ByteArray := prog_1_method_63_code
def yX0_count : MethodName := ⟨RX0, "count", "(I)I"⟩
theorem q82 : (Jvm.Cond.initialized "TableWays") ∈ lw_all := lw_g (lw_at lw_m1 1 rfl) rfl
theorem q100 : (Jvm.Cond.instantiable "TableWays" (36 : Nat)) ∈ lw_all := lw_g (lw_at lw_m1 19 rfl) rfl
theorem q102 : (Jvm.Cond.instanceMethod ({ cls := "TableWays", name := "<init>", desc := "()V" } : Jvm.MethodName)) ∈ lw_all := lw_g (lw_at lw_m1 21 rfl) rfl
theorem q103 : (Jvm.Cond.code ({ cls := "TableWays", name := "<init>", desc := "()V" } : Jvm.MethodName) prog_1_method_15_code (2 : Nat) (Option.none : Option Jvm.ClassFile.FieldType)) ∈ lw_all := lw_g (lw_at lw_m1 22 rfl) rfl
theorem q104 : (Jvm.Cond.methodLink "TableWays" (121 : Nat) ({ cls := "java/lang/Object", name := "<init>", desc := "()V" } : Jvm.MethodName)) ∈ lw_all := lw_g (lw_at lw_m1 23 rfl) rfl
theorem q107 : (Jvm.Cond.classLink "TableWays" (22 : Nat) "TableWays$Table") ∈ lw_all := lw_g (lw_at lw_m1 26 rfl) rfl
theorem q109 : (Jvm.Cond.classLink "TableWays" (138 : Nat) "TableWays$Wrong") ∈ lw_all := lw_g (lw_at lw_m1 28 rfl) rfl
theorem q147 : (Jvm.Cond.methodLink "TableWays" (140 : Nat) ({ cls := "TableWays$Wrong", name := "<init>", desc := "()V" } : Jvm.MethodName)) ∈ lw_all := lw_g (lw_at lw_m1 66 rfl) rfl
theorem q157 : (Jvm.Cond.fieldLinkNest "TableWays" (232 : Nat) "TableWays$Wrong" "kind" "I" "TableWays") ∈ lw_tbl := lw_at lw_m1 76 rfl
theorem q159 : (Jvm.Cond.fieldLinkNest "TableWays" (235 : Nat) "TableWays$Wrong" "place" "I" "TableWays") ∈ lw_tbl := lw_at lw_m1 78 rfl
theorem q179 : (Jvm.Cond.methodLinkNest "TableWays" (145 : Nat) ({ cls := "TableWays$Table", name := "<init>", desc := "()V" } : Jvm.MethodName) "TableWays") ∈ lw_tbl := lw_at lw_m1 98 rfl
theorem q197 : (Jvm.Cond.fieldLink "TableWays" (41 : Nat) "TableWays$Table" "rows" "I") ∈ lw_all := lw_g (lw_at lw_m1 116 rfl) rfl
theorem q208 : (Jvm.Cond.fieldLink "TableWays" (21 : Nat) "TableWays$Table" "columns" "I") ∈ lw_all := lw_g (lw_at lw_m1 127 rfl) rfl
theorem q210 : (Jvm.Cond.fieldLink "TableWays" (31 : Nat) "TableWays$Table" "cells" "[J") ∈ lw_all := lw_g (lw_at lw_m1 129 rfl) rfl
theorem q227 : (Jvm.Cond.classLink "TableWays" (153 : Nat) "TableWays$Way") ∈ lw_all := lw_g (lw_at lw_m1 146 rfl) rfl
theorem q230 : (Jvm.Cond.methodLinkNest "TableWays" (159 : Nat) ({ cls := "TableWays$Way", name := "<init>", desc := "()V" } : Jvm.MethodName) "TableWays") ∈ lw_tbl := lw_at lw_m1 149 rfl
theorem q235 : (Jvm.Cond.fieldLink "TableWays" (327 : Nat) "TableWays$Way" "many" "I") ∈ lw_all := lw_g (lw_at lw_m1 154 rfl) rfl
theorem q237 : (Jvm.Cond.fieldLink "TableWays" (354 : Nat) "TableWays$Way" "number" "[I") ∈ lw_all := lw_g (lw_at lw_m1 156 rfl) rfl
theorem q239 : (Jvm.Cond.fieldLink "TableWays" (357 : Nat) "TableWays$Way" "a" "[I") ∈ lw_all := lw_g (lw_at lw_m1 158 rfl) rfl
theorem q241 : (Jvm.Cond.fieldLink "TableWays" (360 : Nat) "TableWays$Way" "b" "[I") ∈ lw_all := lw_g (lw_at lw_m1 160 rfl) rfl
theorem q251 : (Jvm.Cond.constant "TableWays" (164 : Nat) (216000 : Int32)) ∈ lw_all := lw_g (lw_at lw_m1 170 rfl) rfl
theorem q252 : (Jvm.Cond.constant "TableWays" (187 : Nat) (180000 : Int32)) ∈ lw_all := lw_g (lw_at lw_m1 171 rfl) rfl
theorem q253 : (Jvm.Cond.fieldLink "TableWays" (127 : Nat) "TableWays" "tables" "[LTableWays$Table;") ∈ lw_all := lw_g (lw_at lw_m1 172 rfl) rfl
theorem q254 : (Jvm.Cond.fieldLink "TableWays" (131 : Nat) "TableWays" "tape" "[B") ∈ lw_all := lw_g (lw_at lw_m1 173 rfl) rfl
theorem q255 : (Jvm.Cond.fieldLink "TableWays" (209 : Nat) "TableWays" "taped" "I") ∈ lw_all := lw_g (lw_at lw_m1 174 rfl) rfl
theorem q256 : (Jvm.Cond.fieldLink "TableWays" (226 : Nat) "TableWays" "faultKind" "I") ∈ lw_all := lw_g (lw_at lw_m1 175 rfl) rfl
theorem q257 : (Jvm.Cond.fieldLink "TableWays" (135 : Nat) "TableWays" "faultPlace" "I") ∈ lw_all := lw_g (lw_at lw_m1 176 rfl) rfl
theorem q258 : (Jvm.Cond.fieldLink "TableWays" (141 : Nat) "TableWays" "wrong" "LTableWays$Wrong;") ∈ lw_all := lw_g (lw_at lw_m1 177 rfl) rfl
theorem q259 : (Jvm.Cond.fieldLink "TableWays" (146 : Nat) "TableWays" "fresh" "LTableWays$Table;") ∈ lw_all := lw_g (lw_at lw_m1 178 rfl) rfl
theorem q260 : (Jvm.Cond.fieldLink "TableWays" (150 : Nat) "TableWays" "spare" "LTableWays$Table;") ∈ lw_all := lw_g (lw_at lw_m1 179 rfl) rfl
theorem q261 : (Jvm.Cond.fieldLink "TableWays" (155 : Nat) "TableWays" "ways" "[LTableWays$Way;") ∈ lw_all := lw_g (lw_at lw_m1 180 rfl) rfl
theorem q262 : (Jvm.Cond.fieldLink "TableWays" (160 : Nat) "TableWays" "told" "LTableWays$Way;") ∈ lw_all := lw_g (lw_at lw_m1 181 rfl) rfl
theorem q263 : (Jvm.Cond.fieldLink "TableWays" (263 : Nat) "TableWays" "size" "I") ∈ lw_all := lw_g (lw_at lw_m1 182 rfl) rfl
theorem q264 : (Jvm.Cond.fieldLink "TableWays" (266 : Nat) "TableWays" "at" "I") ∈ lw_all := lw_g (lw_at lw_m1 183 rfl) rfl
theorem q265 : (Jvm.Cond.fieldLink "TableWays" (260 : Nat) "TableWays" "to" "I") ∈ lw_all := lw_g (lw_at lw_m1 184 rfl) rfl
theorem q266 : (Jvm.Cond.fieldLink "TableWays" (268 : Nat) "TableWays" "sort" "I") ∈ lw_all := lw_g (lw_at lw_m1 185 rfl) rfl
theorem q267 : (Jvm.Cond.fieldLink "TableWays" (348 : Nat) "TableWays" "open" "I") ∈ lw_all := lw_g (lw_at lw_m1 186 rfl) rfl
theorem q268 : (Jvm.Cond.fieldLink "TableWays" (165 : Nat) "TableWays" "cells" "[J") ∈ lw_all := lw_g (lw_at lw_m1 187 rfl) rfl
theorem q269 : (Jvm.Cond.fieldLink "TableWays" (166 : Nat) "TableWays" "rows" "[I") ∈ lw_all := lw_g (lw_at lw_m1 188 rfl) rfl
theorem q270 : (Jvm.Cond.fieldLink "TableWays" (169 : Nat) "TableWays" "columns" "[I") ∈ lw_all := lw_g (lw_at lw_m1 189 rfl) rfl
theorem q271 : (Jvm.Cond.fieldLink "TableWays" (171 : Nat) "TableWays" "depth" "[I") ∈ lw_all := lw_g (lw_at lw_m1 190 rfl) rfl
theorem q272 : (Jvm.Cond.fieldLink "TableWays" (174 : Nat) "TableWays" "next" "[I") ∈ lw_all := lw_g (lw_at lw_m1 191 rfl) rfl
theorem q273 : (Jvm.Cond.fieldLink "TableWays" (177 : Nat) "TableWays" "firstEdge" "[I") ∈ lw_all := lw_g (lw_at lw_m1 192 rfl) rfl
theorem q274 : (Jvm.Cond.fieldLink "TableWays" (180 : Nat) "TableWays" "bucket" "[I") ∈ lw_all := lw_g (lw_at lw_m1 193 rfl) rfl
theorem q275 : (Jvm.Cond.fieldLink "TableWays" (183 : Nat) "TableWays" "isEnd" "[Z") ∈ lw_all := lw_g (lw_at lw_m1 194 rfl) rfl
theorem q276 : (Jvm.Cond.fieldLink "TableWays" (188 : Nat) "TableWays" "edgeStep" "[I") ∈ lw_all := lw_g (lw_at lw_m1 195 rfl) rfl
theorem q277 : (Jvm.Cond.fieldLink "TableWays" (191 : Nat) "TableWays" "edgeTo" "[I") ∈ lw_all := lw_g (lw_at lw_m1 196 rfl) rfl
theorem q278 : (Jvm.Cond.fieldLink "TableWays" (194 : Nat) "TableWays" "waysOn" "[J") ∈ lw_all := lw_g (lw_at lw_m1 197 rfl) rfl
theorem q279 : (Jvm.Cond.fieldLink "TableWays" (408 : Nat) "TableWays" "states" "I") ∈ lw_all := lw_g (lw_at lw_m1 198 rfl) rfl
theorem q280 : (Jvm.Cond.fieldLink "TableWays" (421 : Nat) "TableWays" "edges" "I") ∈ lw_all := lw_g (lw_at lw_m1 199 rfl) rfl
theorem q281 : (Jvm.Cond.fieldLink "TableWays" (415 : Nat) "TableWays" "ends" "I") ∈ lw_all := lw_g (lw_at lw_m1 200 rfl) rfl
theorem q282 : (Jvm.Cond.fieldLink "TableWays" (437 : Nat) "TableWays" "foundMany" "I") ∈ lw_all := lw_g (lw_at lw_m1 201 rfl) rfl
theorem q283 : (Jvm.Cond.fieldLink "TableWays" (440 : Nat) "TableWays" "foundSteps" "I") ∈ lw_all := lw_g (lw_at lw_m1 202 rfl) rfl
theorem q284 : (Jvm.Cond.fieldLink "TableWays" (424 : Nat) "TableWays" "two" "Z") ∈ lw_all := lw_g (lw_at lw_m1 203 rfl) rfl
theorem q285 : (Jvm.Cond.fieldLink "TableWays" (197 : Nat) "TableWays" "first" "LTableWays$Table;") ∈ lw_all := lw_g (lw_at lw_m1 204 rfl) rfl
theorem q286 : (Jvm.Cond.fieldLink "TableWays" (200 : Nat) "TableWays" "second" "LTableWays$Table;") ∈ lw_all := lw_g (lw_at lw_m1 205 rfl) rfl
theorem q287 : (Jvm.Cond.fieldLink "TableWays" (203 : Nat) "TableWays" "firstMade" "LTableWays$Table;") ∈ lw_all := lw_g (lw_at lw_m1 206 rfl) rfl
theorem q288 : (Jvm.Cond.fieldLink "TableWays" (206 : Nat) "TableWays" "secondMade" "LTableWays$Table;") ∈ lw_all := lw_g (lw_at lw_m1 207 rfl) rfl
theorem q289 : (Jvm.Cond.laysFinal "TableWays" "TableWays" "tables" "[LTableWays$Table;") ∈ lw_all := lw_g (lw_at lw_m1 208 rfl) rfl
theorem q290 : (Jvm.Cond.soleField "TableWays" "tables") ∈ lw_all := lw_g (lw_at lw_m1 209 rfl) rfl
theorem q291 : (Jvm.Cond.laysFinal "TableWays" "TableWays" "tape" "[B") ∈ lw_all := lw_g (lw_at lw_m1 210 rfl) rfl
theorem q292 : (Jvm.Cond.soleField "TableWays" "tape") ∈ lw_all := lw_g (lw_at lw_m1 211 rfl) rfl
theorem q293 : (Jvm.Cond.lays "TableWays" "TableWays" "taped" "I") ∈ lw_all := lw_g (lw_at lw_m1 212 rfl) rfl
theorem q294 : (Jvm.Cond.soleField "TableWays" "taped") ∈ lw_all := lw_g (lw_at lw_m1 213 rfl) rfl
theorem q295 : (Jvm.Cond.lays "TableWays" "TableWays" "faultKind" "I") ∈ lw_all := lw_g (lw_at lw_m1 214 rfl) rfl
theorem q296 : (Jvm.Cond.soleField "TableWays" "faultKind") ∈ lw_all := lw_g (lw_at lw_m1 215 rfl) rfl
theorem q297 : (Jvm.Cond.lays "TableWays" "TableWays" "faultPlace" "I") ∈ lw_all := lw_g (lw_at lw_m1 216 rfl) rfl
theorem q298 : (Jvm.Cond.soleField "TableWays" "faultPlace") ∈ lw_all := lw_g (lw_at lw_m1 217 rfl) rfl
theorem q299 : (Jvm.Cond.laysFinal "TableWays" "TableWays" "wrong" "LTableWays$Wrong;") ∈ lw_all := lw_g (lw_at lw_m1 218 rfl) rfl
theorem q300 : (Jvm.Cond.soleField "TableWays" "wrong") ∈ lw_all := lw_g (lw_at lw_m1 219 rfl) rfl
theorem q301 : (Jvm.Cond.laysFinal "TableWays" "TableWays" "fresh" "LTableWays$Table;") ∈ lw_all := lw_g (lw_at lw_m1 220 rfl) rfl
theorem q302 : (Jvm.Cond.soleField "TableWays" "fresh") ∈ lw_all := lw_g (lw_at lw_m1 221 rfl) rfl
theorem q303 : (Jvm.Cond.laysFinal "TableWays" "TableWays" "spare" "LTableWays$Table;") ∈ lw_all := lw_g (lw_at lw_m1 222 rfl) rfl
theorem q304 : (Jvm.Cond.soleField "TableWays" "spare") ∈ lw_all := lw_g (lw_at lw_m1 223 rfl) rfl
theorem q305 : (Jvm.Cond.laysFinal "TableWays" "TableWays" "ways" "[LTableWays$Way;") ∈ lw_all := lw_g (lw_at lw_m1 224 rfl) rfl
theorem q306 : (Jvm.Cond.soleField "TableWays" "ways") ∈ lw_all := lw_g (lw_at lw_m1 225 rfl) rfl
theorem q307 : (Jvm.Cond.laysFinal "TableWays" "TableWays" "told" "LTableWays$Way;") ∈ lw_all := lw_g (lw_at lw_m1 226 rfl) rfl
theorem q308 : (Jvm.Cond.soleField "TableWays" "told") ∈ lw_all := lw_g (lw_at lw_m1 227 rfl) rfl
theorem q309 : (Jvm.Cond.lays "TableWays" "TableWays" "size" "I") ∈ lw_all := lw_g (lw_at lw_m1 228 rfl) rfl
theorem q310 : (Jvm.Cond.soleField "TableWays" "size") ∈ lw_all := lw_g (lw_at lw_m1 229 rfl) rfl
theorem q311 : (Jvm.Cond.lays "TableWays" "TableWays" "at" "I") ∈ lw_all := lw_g (lw_at lw_m1 230 rfl) rfl
theorem q312 : (Jvm.Cond.soleField "TableWays" "at") ∈ lw_all := lw_g (lw_at lw_m1 231 rfl) rfl
theorem q313 : (Jvm.Cond.lays "TableWays" "TableWays" "to" "I") ∈ lw_all := lw_g (lw_at lw_m1 232 rfl) rfl
theorem q314 : (Jvm.Cond.soleField "TableWays" "to") ∈ lw_all := lw_g (lw_at lw_m1 233 rfl) rfl
theorem q315 : (Jvm.Cond.lays "TableWays" "TableWays" "sort" "I") ∈ lw_all := lw_g (lw_at lw_m1 234 rfl) rfl
theorem q316 : (Jvm.Cond.soleField "TableWays" "sort") ∈ lw_all := lw_g (lw_at lw_m1 235 rfl) rfl
theorem q317 : (Jvm.Cond.lays "TableWays" "TableWays" "open" "I") ∈ lw_all := lw_g (lw_at lw_m1 236 rfl) rfl
theorem q318 : (Jvm.Cond.soleField "TableWays" "open") ∈ lw_all := lw_g (lw_at lw_m1 237 rfl) rfl
theorem q319 : (Jvm.Cond.laysFinal "TableWays" "TableWays" "cells" "[J") ∈ lw_all := lw_g (lw_at lw_m1 238 rfl) rfl
theorem q320 : (Jvm.Cond.soleField "TableWays" "cells") ∈ lw_all := lw_g (lw_at lw_m1 239 rfl) rfl
theorem q321 : (Jvm.Cond.laysFinal "TableWays" "TableWays" "rows" "[I") ∈ lw_all := lw_g (lw_at lw_m2 0 rfl) rfl
theorem q322 : (Jvm.Cond.soleField "TableWays" "rows") ∈ lw_all := lw_g (lw_at lw_m2 1 rfl) rfl
theorem q323 : (Jvm.Cond.laysFinal "TableWays" "TableWays" "columns" "[I") ∈ lw_all := lw_g (lw_at lw_m2 2 rfl) rfl
theorem q324 : (Jvm.Cond.soleField "TableWays" "columns") ∈ lw_all := lw_g (lw_at lw_m2 3 rfl) rfl
theorem q325 : (Jvm.Cond.laysFinal "TableWays" "TableWays" "depth" "[I") ∈ lw_all := lw_g (lw_at lw_m2 4 rfl) rfl
theorem q326 : (Jvm.Cond.soleField "TableWays" "depth") ∈ lw_all := lw_g (lw_at lw_m2 5 rfl) rfl
theorem q327 : (Jvm.Cond.laysFinal "TableWays" "TableWays" "next" "[I") ∈ lw_all := lw_g (lw_at lw_m2 6 rfl) rfl
theorem q328 : (Jvm.Cond.soleField "TableWays" "next") ∈ lw_all := lw_g (lw_at lw_m2 7 rfl) rfl
theorem q329 : (Jvm.Cond.laysFinal "TableWays" "TableWays" "firstEdge" "[I") ∈ lw_all := lw_g (lw_at lw_m2 8 rfl) rfl
theorem q330 : (Jvm.Cond.soleField "TableWays" "firstEdge") ∈ lw_all := lw_g (lw_at lw_m2 9 rfl) rfl
theorem q331 : (Jvm.Cond.laysFinal "TableWays" "TableWays" "bucket" "[I") ∈ lw_all := lw_g (lw_at lw_m2 10 rfl) rfl
theorem q332 : (Jvm.Cond.soleField "TableWays" "bucket") ∈ lw_all := lw_g (lw_at lw_m2 11 rfl) rfl
theorem q333 : (Jvm.Cond.laysFinal "TableWays" "TableWays" "isEnd" "[Z") ∈ lw_all := lw_g (lw_at lw_m2 12 rfl) rfl
theorem q334 : (Jvm.Cond.soleField "TableWays" "isEnd") ∈ lw_all := lw_g (lw_at lw_m2 13 rfl) rfl
theorem q335 : (Jvm.Cond.laysFinal "TableWays" "TableWays" "edgeStep" "[I") ∈ lw_all := lw_g (lw_at lw_m2 14 rfl) rfl
theorem q336 : (Jvm.Cond.soleField "TableWays" "edgeStep") ∈ lw_all := lw_g (lw_at lw_m2 15 rfl) rfl
theorem q337 : (Jvm.Cond.laysFinal "TableWays" "TableWays" "edgeTo" "[I") ∈ lw_all := lw_g (lw_at lw_m2 16 rfl) rfl
theorem q338 : (Jvm.Cond.soleField "TableWays" "edgeTo") ∈ lw_all := lw_g (lw_at lw_m2 17 rfl) rfl
theorem q339 : (Jvm.Cond.laysFinal "TableWays" "TableWays" "waysOn" "[J") ∈ lw_all := lw_g (lw_at lw_m2 18 rfl) rfl
theorem q340 : (Jvm.Cond.soleField "TableWays" "waysOn") ∈ lw_all := lw_g (lw_at lw_m2 19 rfl) rfl
theorem q341 : (Jvm.Cond.lays "TableWays" "TableWays" "states" "I") ∈ lw_all := lw_g (lw_at lw_m2 20 rfl) rfl
theorem q342 : (Jvm.Cond.soleField "TableWays" "states") ∈ lw_all := lw_g (lw_at lw_m2 21 rfl) rfl
theorem q343 : (Jvm.Cond.lays "TableWays" "TableWays" "edges" "I") ∈ lw_all := lw_g (lw_at lw_m2 22 rfl) rfl
theorem q344 : (Jvm.Cond.soleField "TableWays" "edges") ∈ lw_all := lw_g (lw_at lw_m2 23 rfl) rfl
theorem q345 : (Jvm.Cond.lays "TableWays" "TableWays" "ends" "I") ∈ lw_all := lw_g (lw_at lw_m2 24 rfl) rfl
theorem q346 : (Jvm.Cond.soleField "TableWays" "ends") ∈ lw_all := lw_g (lw_at lw_m2 25 rfl) rfl
theorem q347 : (Jvm.Cond.lays "TableWays" "TableWays" "foundMany" "I") ∈ lw_all := lw_g (lw_at lw_m2 26 rfl) rfl
theorem q348 : (Jvm.Cond.soleField "TableWays" "foundMany") ∈ lw_all := lw_g (lw_at lw_m2 27 rfl) rfl
theorem q349 : (Jvm.Cond.lays "TableWays" "TableWays" "foundSteps" "I") ∈ lw_all := lw_g (lw_at lw_m2 28 rfl) rfl
theorem q350 : (Jvm.Cond.soleField "TableWays" "foundSteps") ∈ lw_all := lw_g (lw_at lw_m2 29 rfl) rfl
theorem q351 : (Jvm.Cond.lays "TableWays" "TableWays" "two" "Z") ∈ lw_all := lw_g (lw_at lw_m2 30 rfl) rfl
theorem q352 : (Jvm.Cond.soleField "TableWays" "two") ∈ lw_all := lw_g (lw_at lw_m2 31 rfl) rfl
theorem q353 : (Jvm.Cond.laysFinal "TableWays" "TableWays" "first" "LTableWays$Table;") ∈ lw_all := lw_g (lw_at lw_m2 32 rfl) rfl
theorem q354 : (Jvm.Cond.soleField "TableWays" "first") ∈ lw_all := lw_g (lw_at lw_m2 33 rfl) rfl
theorem q355 : (Jvm.Cond.laysFinal "TableWays" "TableWays" "second" "LTableWays$Table;") ∈ lw_all := lw_g (lw_at lw_m2 34 rfl) rfl
theorem q356 : (Jvm.Cond.soleField "TableWays" "second") ∈ lw_all := lw_g (lw_at lw_m2 35 rfl) rfl
theorem q357 : (Jvm.Cond.laysFinal "TableWays" "TableWays" "firstMade" "LTableWays$Table;") ∈ lw_all := lw_g (lw_at lw_m2 36 rfl) rfl
theorem q358 : (Jvm.Cond.soleField "TableWays" "firstMade") ∈ lw_all := lw_g (lw_at lw_m2 37 rfl) rfl
theorem q359 : (Jvm.Cond.laysFinal "TableWays" "TableWays" "secondMade" "LTableWays$Table;") ∈ lw_all := lw_g (lw_at lw_m2 38 rfl) rfl
theorem q360 : (Jvm.Cond.soleField "TableWays" "secondMade") ∈ lw_all := lw_g (lw_at lw_m2 39 rfl) rfl
theorem q361 : (Jvm.Cond.superclass "TableWays" "java/lang/Object") ∈ lw_all := lw_g (lw_at lw_m2 40 rfl) rfl
theorem q364 : (Jvm.Cond.instanceMethod ({ cls := "TableWays", name := "feed", desc := "(IIIII)I" } : Jvm.MethodName)) ∈ lw_all := lw_g (lw_at lw_m2 43 rfl) rfl
theorem q365 : (Jvm.Cond.selects "TableWays" ({ cls := "TableWays", name := "feed", desc := "(IIIII)I" } : Jvm.MethodName) ({ cls := "TableWays", name := "feed", desc := "(IIIII)I" } : Jvm.MethodName)) ∈ lw_all := lw_g (lw_at lw_m2 44 rfl) rfl
theorem q366 : (Jvm.Cond.code ({ cls := "TableWays", name := "feed", desc := "(IIIII)I" } : Jvm.MethodName) prog_1_method_17_code (6 : Nat) (Option.some Jvm.ClassFile.FieldType.int)) ∈ lw_all := lw_g (lw_at lw_m2 45 rfl) rfl
theorem q367 : (Jvm.Cond.methodLink "TableWays" (212 : Nat) ({ cls := "TableWays", name := "four", desc := "(I)V" } : Jvm.MethodName)) ∈ lw_all := lw_g (lw_at lw_m2 46 rfl) rfl
theorem q368 : (Jvm.Cond.privateMethod ({ cls := "TableWays", name := "four", desc := "(I)V" } : Jvm.MethodName)) ∈ lw_tbl := lw_at lw_m2 47 rfl
theorem q369 : (Jvm.Cond.instanceMethod ({ cls := "TableWays", name := "four", desc := "(I)V" } : Jvm.MethodName)) ∈ lw_all := lw_g (lw_at lw_m2 48 rfl) rfl
theorem q370 : (Jvm.Cond.code ({ cls := "TableWays", name := "four", desc := "(I)V" } : Jvm.MethodName) prog_1_method_16_code (3 : Nat) (Option.none : Option Jvm.ClassFile.FieldType)) ∈ lw_all := lw_g (lw_at lw_m2 49 rfl) rfl
theorem q372 : (Jvm.Cond.instanceMethod ({ cls := "TableWays", name := "end", desc := "(I)I" } : Jvm.MethodName)) ∈ lw_all := lw_g (lw_at lw_m2 51 rfl) rfl
theorem q373 : (Jvm.Cond.selects "TableWays" ({ cls := "TableWays", name := "end", desc := "(I)I" } : Jvm.MethodName) ({ cls := "TableWays", name := "end", desc := "(I)I" } : Jvm.MethodName)) ∈ lw_all := lw_g (lw_at lw_m2 52 rfl) rfl
theorem q374 : (Jvm.Cond.code ({ cls := "TableWays", name := "end", desc := "(I)I" } : Jvm.MethodName) prog_1_method_18_code (2 : Nat) (Option.some Jvm.ClassFile.FieldType.int)) ∈ lw_all := lw_g (lw_at lw_m2 53 rfl) rfl
theorem q376 : (Jvm.Cond.instanceMethod ({ cls := "TableWays", name := "table", desc := "(I)I" } : Jvm.MethodName)) ∈ lw_all := lw_g (lw_at lw_m2 55 rfl) rfl
theorem q377 : (Jvm.Cond.selects "TableWays" ({ cls := "TableWays", name := "table", desc := "(I)I" } : Jvm.MethodName) ({ cls := "TableWays", name := "table", desc := "(I)I" } : Jvm.MethodName)) ∈ lw_all := lw_g (lw_at lw_m2 56 rfl) rfl
theorem q378 : (Jvm.Cond.codeWith ({ cls := "TableWays", name := "table", desc := "(I)I" } : Jvm.MethodName) prog_1_method_22_code (4 : Nat) (Option.some Jvm.ClassFile.FieldType.int) [((35 : Nat), (40 : Nat), (43 : Nat), (138 : Nat))]) ∈ lw_all := lw_g (lw_at lw_m2 57 rfl) rfl
theorem q379 : (Jvm.Cond.constantLong "TableWays" (224 : Nat) (7 : Int64)) ∈ lw_all := lw_g (lw_at lw_m2 58 rfl) rfl
theorem q380 : (Jvm.Cond.methodLink "TableWays" (15 : Nat) ({ cls := "TableWays", name := "in", desc := "(JJJ)Z" } : Jvm.MethodName)) ∈ lw_all := lw_g (lw_at lw_m2 59 rfl) rfl
theorem q381 : (Jvm.Cond.static ({ cls := "TableWays", name := "in", desc := "(JJJ)Z" } : Jvm.MethodName)) ∈ lw_all := lw_g (lw_at lw_m2 60 rfl) rfl
theorem q382 : (Jvm.Cond.code ({ cls := "TableWays", name := "in", desc := "(JJJ)Z" } : Jvm.MethodName) prog_1_method_1_code (6 : Nat) (Option.some Jvm.ClassFile.FieldType.boolean)) ∈ lw_all := lw_g (lw_at lw_m2 61 rfl) rfl
theorem q383 : (Jvm.Cond.methodLink "TableWays" (229 : Nat) ({ cls := "TableWays", name := "readTable", desc := "(I)V" } : Jvm.MethodName)) ∈ lw_all := lw_g (lw_at lw_m2 62 rfl) rfl
theorem q384 : (Jvm.Cond.privateMethod ({ cls := "TableWays", name := "readTable", desc := "(I)V" } : Jvm.MethodName)) ∈ lw_tbl := lw_at lw_m2 63 rfl
theorem q385 : (Jvm.Cond.instanceMethod ({ cls := "TableWays", name := "readTable", desc := "(I)V" } : Jvm.MethodName)) ∈ lw_all := lw_g (lw_at lw_m2 64 rfl) rfl
theorem q386 : (Jvm.Cond.code ({ cls := "TableWays", name := "readTable", desc := "(I)V" } : Jvm.MethodName) prog_1_method_23_code (9 : Nat) (Option.none : Option Jvm.ClassFile.FieldType)) ∈ lw_all := lw_g (lw_at lw_m2 65 rfl) rfl
theorem q387 : (Jvm.Cond.methodLink "TableWays" (27 : Nat) ({ cls := "TableWays$Table", name := "begin", desc := "(II)V" } : Jvm.MethodName)) ∈ lw_all := lw_g (lw_at lw_m2 66 rfl) rfl
theorem q391 : (Jvm.Cond.methodLink "TableWays" (242 : Nat) ({ cls := "TableWays$Wrong", name := "by", desc := "(II)LTableWays$Wrong;" } : Jvm.MethodName)) ∈ lw_all := lw_g (lw_at lw_m2 70 rfl) rfl
theorem q395 : (Jvm.Cond.methodLink "TableWays" (246 : Nat) ({ cls := "TableWays", name := "longer", desc := "(JII)J" } : Jvm.MethodName)) ∈ lw_all := lw_g (lw_at lw_m2 74 rfl) rfl
theorem q396 : (Jvm.Cond.privateMethod ({ cls := "TableWays", name := "longer", desc := "(JII)J" } : Jvm.MethodName)) ∈ lw_tbl := lw_at lw_m2 75 rfl
theorem q397 : (Jvm.Cond.instanceMethod ({ cls := "TableWays", name := "longer", desc := "(JII)J" } : Jvm.MethodName)) ∈ lw_all := lw_g (lw_at lw_m2 76 rfl) rfl
theorem q398 : (Jvm.Cond.code ({ cls := "TableWays", name := "longer", desc := "(JII)J" } : Jvm.MethodName) prog_1_method_24_code (5 : Nat) (Option.some Jvm.ClassFile.FieldType.long)) ∈ lw_all := lw_g (lw_at lw_m2 77 rfl) rfl
theorem q399 : (Jvm.Cond.constantLong "TableWays" (11 : Nat) (-1 : Int64)) ∈ lw_all := lw_g (lw_at lw_m2 78 rfl) rfl
theorem q400 : (Jvm.Cond.methodLink "TableWays" (250 : Nat) ({ cls := "TableWays", name := "isSmall", desc := "(I)Z" } : Jvm.MethodName)) ∈ lw_all := lw_g (lw_at lw_m2 79 rfl) rfl
theorem q401 : (Jvm.Cond.static ({ cls := "TableWays", name := "isSmall", desc := "(I)Z" } : Jvm.MethodName)) ∈ lw_all := lw_g (lw_at lw_m2 80 rfl) rfl
theorem q402 : (Jvm.Cond.code ({ cls := "TableWays", name := "isSmall", desc := "(I)Z" } : Jvm.MethodName) prog_1_method_19_code (1 : Nat) (Option.some Jvm.ClassFile.FieldType.boolean)) ∈ lw_all := lw_g (lw_at lw_m2 81 rfl) rfl
theorem q403 : (Jvm.Cond.methodLink "TableWays" (254 : Nat) ({ cls := "TableWays", name := "isDigit", desc := "(I)Z" } : Jvm.MethodName)) ∈ lw_all := lw_g (lw_at lw_m2 82 rfl) rfl
theorem q404 : (Jvm.Cond.static ({ cls := "TableWays", name := "isDigit", desc := "(I)Z" } : Jvm.MethodName)) ∈ lw_all := lw_g (lw_at lw_m2 83 rfl) rfl
theorem q405 : (Jvm.Cond.code ({ cls := "TableWays", name := "isDigit", desc := "(I)Z" } : Jvm.MethodName) prog_1_method_20_code (1 : Nat) (Option.some Jvm.ClassFile.FieldType.boolean)) ∈ lw_all := lw_g (lw_at lw_m2 84 rfl) rfl
theorem q406 : (Jvm.Cond.methodLink "TableWays" (257 : Nat) ({ cls := "TableWays", name := "isMark", desc := "(I)Z" } : Jvm.MethodName)) ∈ lw_all := lw_g (lw_at lw_m2 85 rfl) rfl
theorem q407 : (Jvm.Cond.static ({ cls := "TableWays", name := "isMark", desc := "(I)Z" } : Jvm.MethodName)) ∈ lw_all := lw_g (lw_at lw_m2 86 rfl) rfl
theorem q408 : (Jvm.Cond.code ({ cls := "TableWays", name := "isMark", desc := "(I)Z" } : Jvm.MethodName) prog_1_method_21_code (1 : Nat) (Option.some Jvm.ClassFile.FieldType.boolean)) ∈ lw_all := lw_g (lw_at lw_m2 87 rfl) rfl
theorem q409 : (Jvm.Cond.stringRef "TableWays" (216 : Nat) "-:/.") ∈ lw_tbl := lw_at lw_m2 88 rfl
theorem q410 : (Jvm.Cond.methodLink "TableWays" (218 : Nat) ({ cls := "java/lang/String", name := "indexOf", desc := "(I)I" } : Jvm.MethodName)) ∈ lw_all := lw_g (lw_at lw_m2 89 rfl) rfl
theorem q496 : (Jvm.Cond.methodLink "TableWays" (3 : Nat) ({ cls := "TableWays", name := "bytesOf", desc := "(J)I" } : Jvm.MethodName)) ∈ lw_all := lw_g (lw_at lw_m2 175 rfl) rfl
theorem q497 : (Jvm.Cond.static ({ cls := "TableWays", name := "bytesOf", desc := "(J)I" } : Jvm.MethodName)) ∈ lw_all := lw_g (lw_at lw_m2 176 rfl) rfl
theorem q498 : (Jvm.Cond.code ({ cls := "TableWays", name := "bytesOf", desc := "(J)I" } : Jvm.MethodName) prog_1_method_2_code (5 : Nat) (Option.some Jvm.ClassFile.FieldType.int)) ∈ lw_all := lw_g (lw_at lw_m2 177 rfl) rfl
theorem q499 : (Jvm.Cond.methodLink "TableWays" (56 : Nat) ({ cls := "TableWays$Table", name := "set", desc := "(IIJ)V" } : Jvm.MethodName)) ∈ lw_all := lw_g (lw_at lw_m2 178 rfl) rfl
theorem q503 : (Jvm.Cond.methodLink "TableWays" (238 : Nat) ({ cls := "TableWays$Table", name := "take", desc := "(LTableWays$Table;)V" } : Jvm.MethodName)) ∈ lw_all := lw_g (lw_at lw_m2 182 rfl) rfl
theorem q511 : (Jvm.Cond.instanceMethod ({ cls := "TableWays", name := "way", desc := "(I)I" } : Jvm.MethodName)) ∈ lw_all := lw_g (lw_at lw_m2 190 rfl) rfl
theorem q512 : (Jvm.Cond.selects "TableWays" ({ cls := "TableWays", name := "way", desc := "(I)I" } : Jvm.MethodName) ({ cls := "TableWays", name := "way", desc := "(I)I" } : Jvm.MethodName)) ∈ lw_all := lw_g (lw_at lw_m2 191 rfl) rfl
theorem q513 : (Jvm.Cond.codeWith ({ cls := "TableWays", name := "way", desc := "(I)I" } : Jvm.MethodName) prog_1_method_35_code (3 : Nat) (Option.some Jvm.ClassFile.FieldType.int) [((56 : Nat), (81 : Nat), (84 : Nat), (138 : Nat))]) ∈ lw_all := lw_g (lw_at lw_m2 192 rfl) rfl
theorem q514 : (Jvm.Cond.methodLink "TableWays" (286 : Nat) ({ cls := "TableWays", name := "next", desc := "()V" } : Jvm.MethodName)) ∈ lw_all := lw_g (lw_at lw_m2 193 rfl) rfl
theorem q515 : (Jvm.Cond.privateMethod ({ cls := "TableWays", name := "next", desc := "()V" } : Jvm.MethodName)) ∈ lw_tbl := lw_at lw_m2 194 rfl
theorem q516 : (Jvm.Cond.instanceMethod ({ cls := "TableWays", name := "next", desc := "()V" } : Jvm.MethodName)) ∈ lw_all := lw_g (lw_at lw_m2 195 rfl) rfl
theorem q517 : (Jvm.Cond.code ({ cls := "TableWays", name := "next", desc := "()V" } : Jvm.MethodName) prog_1_method_25_code (3 : Nat) (Option.none : Option Jvm.ClassFile.FieldType)) ∈ lw_all := lw_g (lw_at lw_m2 196 rfl) rfl
theorem q518 : (Jvm.Cond.methodLink "TableWays" (351 : Nat) ({ cls := "TableWays", name := "readWay", desc := "()V" } : Jvm.MethodName)) ∈ lw_all := lw_g (lw_at lw_m2 197 rfl) rfl
theorem q519 : (Jvm.Cond.privateMethod ({ cls := "TableWays", name := "readWay", desc := "()V" } : Jvm.MethodName)) ∈ lw_tbl := lw_at lw_m2 198 rfl
theorem q520 : (Jvm.Cond.instanceMethod ({ cls := "TableWays", name := "readWay", desc := "()V" } : Jvm.MethodName)) ∈ lw_all := lw_g (lw_at lw_m2 199 rfl) rfl
theorem q521 : (Jvm.Cond.code ({ cls := "TableWays", name := "readWay", desc := "()V" } : Jvm.MethodName) prog_1_method_33_code (4 : Nat) (Option.none : Option Jvm.ClassFile.FieldType)) ∈ lw_all := lw_g (lw_at lw_m2 200 rfl) rfl
theorem q522 : (Jvm.Cond.stringRef "TableWays" (319 : Nat) "repeat") ∈ lw_tbl := lw_at lw_m2 201 rfl
theorem q523 : (Jvm.Cond.methodLink "TableWays" (290 : Nat) ({ cls := "TableWays", name := "is", desc := "(Ljava/lang/String;)Z" } : Jvm.MethodName)) ∈ lw_all := lw_g (lw_at lw_m2 202 rfl) rfl
theorem q524 : (Jvm.Cond.privateMethod ({ cls := "TableWays", name := "is", desc := "(Ljava/lang/String;)Z" } : Jvm.MethodName)) ∈ lw_tbl := lw_at lw_m2 203 rfl
theorem q525 : (Jvm.Cond.instanceMethod ({ cls := "TableWays", name := "is", desc := "(Ljava/lang/String;)Z" } : Jvm.MethodName)) ∈ lw_all := lw_g (lw_at lw_m2 204 rfl) rfl
theorem q526 : (Jvm.Cond.code ({ cls := "TableWays", name := "is", desc := "(Ljava/lang/String;)Z" } : Jvm.MethodName) prog_1_method_26_code (3 : Nat) (Option.some Jvm.ClassFile.FieldType.boolean)) ∈ lw_all := lw_g (lw_at lw_m2 205 rfl) rfl
theorem q527 : (Jvm.Cond.methodLink "TableWays" (271 : Nat) ({ cls := "java/lang/String", name := "length", desc := "()I" } : Jvm.MethodName)) ∈ lw_all := lw_g (lw_at lw_m2 206 rfl) rfl
theorem q528 : (Jvm.Cond.methodLink "TableWays" (275 : Nat) ({ cls := "java/lang/String", name := "charAt", desc := "(I)C" } : Jvm.MethodName)) ∈ lw_all := lw_g (lw_at lw_m2 207 rfl) rfl
theorem q548 : (Jvm.Cond.methodLink "TableWays" (321 : Nat) ({ cls := "TableWays", name := "readRepeat", desc := "()V" } : Jvm.MethodName)) ∈ lw_all := lw_g (lw_at lw_m2 227 rfl) rfl
theorem q549 : (Jvm.Cond.privateMethod ({ cls := "TableWays", name := "readRepeat", desc := "()V" } : Jvm.MethodName)) ∈ lw_tbl := lw_at lw_m2 228 rfl
theorem q550 : (Jvm.Cond.instanceMethod ({ cls := "TableWays", name := "readRepeat", desc := "()V" } : Jvm.MethodName)) ∈ lw_all := lw_g (lw_at lw_m2 229 rfl) rfl
theorem q551 : (Jvm.Cond.code ({ cls := "TableWays", name := "readRepeat", desc := "()V" } : Jvm.MethodName) prog_1_method_34_code (5 : Nat) (Option.none : Option Jvm.ClassFile.FieldType)) ∈ lw_all := lw_g (lw_at lw_m2 230 rfl) rfl
theorem q552 : (Jvm.Cond.methodLink "TableWays" (332 : Nat) ({ cls := "TableWays", name := "digit", desc := "(II)I" } : Jvm.MethodName)) ∈ lw_all := lw_g (lw_at lw_m2 231 rfl) rfl
theorem q553 : (Jvm.Cond.privateMethod ({ cls := "TableWays", name := "digit", desc := "(II)I" } : Jvm.MethodName)) ∈ lw_tbl := lw_at lw_m2 232 rfl
theorem q554 : (Jvm.Cond.instanceMethod ({ cls := "TableWays", name := "digit", desc := "(II)I" } : Jvm.MethodName)) ∈ lw_all := lw_g (lw_at lw_m2 233 rfl) rfl
theorem q555 : (Jvm.Cond.code ({ cls := "TableWays", name := "digit", desc := "(II)I" } : Jvm.MethodName) prog_1_method_30_code (4 : Nat) (Option.some Jvm.ClassFile.FieldType.int)) ∈ lw_all := lw_g (lw_at lw_m2 234 rfl) rfl
theorem q556 : (Jvm.Cond.methodLink "TableWays" (282 : Nat) ({ cls := "TableWays", name := "need", desc := "(ZI)V" } : Jvm.MethodName)) ∈ lw_all := lw_g (lw_at lw_m2 235 rfl) rfl
theorem q557 : (Jvm.Cond.privateMethod ({ cls := "TableWays", name := "need", desc := "(ZI)V" } : Jvm.MethodName)) ∈ lw_tbl := lw_at lw_m2 236 rfl
theorem q558 : (Jvm.Cond.instanceMethod ({ cls := "TableWays", name := "need", desc := "(ZI)V" } : Jvm.MethodName)) ∈ lw_all := lw_g (lw_at lw_m2 237 rfl) rfl
theorem q559 : (Jvm.Cond.code ({ cls := "TableWays", name := "need", desc := "(ZI)V" } : Jvm.MethodName) prog_1_method_27_code (3 : Nat) (Option.none : Option Jvm.ClassFile.FieldType)) ∈ lw_all := lw_g (lw_at lw_m2 238 rfl) rfl
theorem q560 : (Jvm.Cond.methodLink "TableWays" (279 : Nat) ({ cls := "TableWays", name := "isSign", desc := "(I)Z" } : Jvm.MethodName)) ∈ lw_all := lw_g (lw_at lw_m2 239 rfl) rfl
theorem q561 : (Jvm.Cond.privateMethod ({ cls := "TableWays", name := "isSign", desc := "(I)Z" } : Jvm.MethodName)) ∈ lw_tbl := lw_at lw_m3 0 rfl
theorem q562 : (Jvm.Cond.instanceMethod ({ cls := "TableWays", name := "isSign", desc := "(I)Z" } : Jvm.MethodName)) ∈ lw_all := lw_g (lw_at lw_m3 1 rfl) rfl
theorem q563 : (Jvm.Cond.code ({ cls := "TableWays", name := "isSign", desc := "(I)Z" } : Jvm.MethodName) prog_1_method_28_code (2 : Nat) (Option.some Jvm.ClassFile.FieldType.boolean)) ∈ lw_all := lw_g (lw_at lw_m3 2 rfl) rfl
theorem q564 : (Jvm.Cond.methodLink "TableWays" (344 : Nat) ({ cls := "TableWays$Way", name := "add", desc := "(III)V" } : Jvm.MethodName)) ∈ lw_all := lw_g (lw_at lw_m3 3 rfl) rfl
theorem q568 : (Jvm.Cond.methodLink "TableWays" (324 : Nat) ({ cls := "TableWays", name := "stepHere", desc := "()I" } : Jvm.MethodName)) ∈ lw_all := lw_g (lw_at lw_m3 7 rfl) rfl
theorem q569 : (Jvm.Cond.privateMethod ({ cls := "TableWays", name := "stepHere", desc := "()I" } : Jvm.MethodName)) ∈ lw_tbl := lw_at lw_m3 8 rfl
theorem q570 : (Jvm.Cond.instanceMethod ({ cls := "TableWays", name := "stepHere", desc := "()I" } : Jvm.MethodName)) ∈ lw_all := lw_g (lw_at lw_m3 9 rfl) rfl
theorem q571 : (Jvm.Cond.code ({ cls := "TableWays", name := "stepHere", desc := "()I" } : Jvm.MethodName) prog_1_method_32_code (1 : Nat) (Option.some Jvm.ClassFile.FieldType.int)) ∈ lw_all := lw_g (lw_at lw_m3 10 rfl) rfl
theorem q572 : (Jvm.Cond.stringRef "TableWays" (288 : Nat) "turn") ∈ lw_tbl := lw_at lw_m3 11 rfl
theorem q573 : (Jvm.Cond.stringRef "TableWays" (294 : Nat) "drop") ∈ lw_tbl := lw_at lw_m3 12 rfl
theorem q574 : (Jvm.Cond.stringRef "TableWays" (296 : Nat) "split") ∈ lw_tbl := lw_at lw_m3 13 rfl
theorem q575 : (Jvm.Cond.stringRef "TableWays" (298 : Nat) "fill") ∈ lw_tbl := lw_at lw_m3 14 rfl
theorem q576 : (Jvm.Cond.stringRef "TableWays" (300 : Nat) "join") ∈ lw_tbl := lw_at lw_m3 15 rfl
theorem q577 : (Jvm.Cond.stringRef "TableWays" (302 : Nat) "fold") ∈ lw_tbl := lw_at lw_m3 16 rfl
theorem q578 : (Jvm.Cond.stringRef "TableWays" (304 : Nat) "unfold") ∈ lw_tbl := lw_at lw_m3 17 rfl
theorem q579 : (Jvm.Cond.stringRef "TableWays" (306 : Nat) "sort") ∈ lw_tbl := lw_at lw_m3 18 rfl
theorem q580 : (Jvm.Cond.stringRef "TableWays" (307 : Nat) "single") ∈ lw_tbl := lw_at lw_m3 19 rfl
theorem q581 : (Jvm.Cond.stringRef "TableWays" (309 : Nat) "count") ∈ lw_tbl := lw_at lw_m3 20 rfl
theorem q582 : (Jvm.Cond.stringRef "TableWays" (311 : Nat) "sum") ∈ lw_tbl := lw_at lw_m3 21 rfl
theorem q583 : (Jvm.Cond.stringRef "TableWays" (313 : Nat) "keep") ∈ lw_tbl := lw_at lw_m3 22 rfl
theorem q584 : (Jvm.Cond.stringRef "TableWays" (315 : Nat) "head") ∈ lw_tbl := lw_at lw_m3 23 rfl
theorem q585 : (Jvm.Cond.stringRef "TableWays" (317 : Nat) "swap") ∈ lw_tbl := lw_at lw_m3 24 rfl
theorem q586 : (Jvm.Cond.methodLink "TableWays" (109 : Nat) ({ cls := "TableWays", name := "kindOf", desc := "(I)LTableWays$Kind;" } : Jvm.MethodName)) ∈ lw_all := lw_g (lw_at lw_m3 25 rfl) rfl
theorem q587 : (Jvm.Cond.static ({ cls := "TableWays", name := "kindOf", desc := "(I)LTableWays$Kind;" } : Jvm.MethodName)) ∈ lw_all := lw_g (lw_at lw_m3 26 rfl) rfl
theorem q588 : (Jvm.Cond.code ({ cls := "TableWays", name := "kindOf", desc := "(I)LTableWays$Kind;" } : Jvm.MethodName) prog_1_method_13_code (1 : Nat) (Option.some (Jvm.ClassFile.FieldType.object "TableWays$Kind"))) ∈ lw_all := lw_g (lw_at lw_m3 27 rfl) rfl
theorem q589 : (Jvm.Cond.fieldLink "TableWays" (64 : Nat) "TableWays$Kind" "TURN" "LTableWays$Kind;") ∈ lw_all := lw_g (lw_at lw_m3 28 rfl) rfl
theorem q591 : (Jvm.Cond.fieldLink "TableWays" (70 : Nat) "TableWays$Kind" "DROP" "LTableWays$Kind;") ∈ lw_all := lw_g (lw_at lw_m3 30 rfl) rfl
theorem q593 : (Jvm.Cond.fieldLink "TableWays" (73 : Nat) "TableWays$Kind" "SPLIT" "LTableWays$Kind;") ∈ lw_all := lw_g (lw_at lw_m3 32 rfl) rfl
theorem q595 : (Jvm.Cond.fieldLink "TableWays" (76 : Nat) "TableWays$Kind" "FILL" "LTableWays$Kind;") ∈ lw_all := lw_g (lw_at lw_m3 34 rfl) rfl
theorem q597 : (Jvm.Cond.fieldLink "TableWays" (79 : Nat) "TableWays$Kind" "JOIN" "LTableWays$Kind;") ∈ lw_all := lw_g (lw_at lw_m3 36 rfl) rfl
theorem q599 : (Jvm.Cond.fieldLink "TableWays" (82 : Nat) "TableWays$Kind" "FOLD" "LTableWays$Kind;") ∈ lw_all := lw_g (lw_at lw_m3 38 rfl) rfl
theorem q601 : (Jvm.Cond.fieldLink "TableWays" (85 : Nat) "TableWays$Kind" "UNFOLD" "LTableWays$Kind;") ∈ lw_all := lw_g (lw_at lw_m3 40 rfl) rfl
theorem q603 : (Jvm.Cond.fieldLink "TableWays" (88 : Nat) "TableWays$Kind" "SORT" "LTableWays$Kind;") ∈ lw_all := lw_g (lw_at lw_m3 42 rfl) rfl
theorem q605 : (Jvm.Cond.fieldLink "TableWays" (91 : Nat) "TableWays$Kind" "SINGLE" "LTableWays$Kind;") ∈ lw_all := lw_g (lw_at lw_m3 44 rfl) rfl
theorem q607 : (Jvm.Cond.fieldLink "TableWays" (94 : Nat) "TableWays$Kind" "COUNT" "LTableWays$Kind;") ∈ lw_all := lw_g (lw_at lw_m3 46 rfl) rfl
theorem q609 : (Jvm.Cond.fieldLink "TableWays" (97 : Nat) "TableWays$Kind" "SUM" "LTableWays$Kind;") ∈ lw_all := lw_g (lw_at lw_m3 48 rfl) rfl
theorem q611 : (Jvm.Cond.fieldLink "TableWays" (100 : Nat) "TableWays$Kind" "KEEP" "LTableWays$Kind;") ∈ lw_all := lw_g (lw_at lw_m3 50 rfl) rfl
theorem q613 : (Jvm.Cond.fieldLink "TableWays" (103 : Nat) "TableWays$Kind" "HEAD" "LTableWays$Kind;") ∈ lw_all := lw_g (lw_at lw_m3 52 rfl) rfl
theorem q615 : (Jvm.Cond.fieldLink "TableWays" (106 : Nat) "TableWays$Kind" "SWAP" "LTableWays$Kind;") ∈ lw_all := lw_g (lw_at lw_m3 54 rfl) rfl
theorem q617 : (Jvm.Cond.methodLink "TableWays" (338 : Nat) ({ cls := "TableWays", name := "mark", desc := "()I" } : Jvm.MethodName)) ∈ lw_all := lw_g (lw_at lw_m3 56 rfl) rfl
theorem q618 : (Jvm.Cond.privateMethod ({ cls := "TableWays", name := "mark", desc := "()I" } : Jvm.MethodName)) ∈ lw_tbl := lw_at lw_m3 57 rfl
theorem q619 : (Jvm.Cond.instanceMethod ({ cls := "TableWays", name := "mark", desc := "()I" } : Jvm.MethodName)) ∈ lw_all := lw_g (lw_at lw_m3 58 rfl) rfl
theorem q620 : (Jvm.Cond.code ({ cls := "TableWays", name := "mark", desc := "()I" } : Jvm.MethodName) prog_1_method_31_code (2 : Nat) (Option.some Jvm.ClassFile.FieldType.int)) ∈ lw_all := lw_g (lw_at lw_m3 59 rfl) rfl
theorem q621 : (Jvm.Cond.methodLink "TableWays" (341 : Nat) ({ cls := "TableWays", name := "sign", desc := "(I)V" } : Jvm.MethodName)) ∈ lw_all := lw_g (lw_at lw_m3 60 rfl) rfl
theorem q622 : (Jvm.Cond.privateMethod ({ cls := "TableWays", name := "sign", desc := "(I)V" } : Jvm.MethodName)) ∈ lw_tbl := lw_at lw_m3 61 rfl
theorem q623 : (Jvm.Cond.instanceMethod ({ cls := "TableWays", name := "sign", desc := "(I)V" } : Jvm.MethodName)) ∈ lw_all := lw_g (lw_at lw_m3 62 rfl) rfl
theorem q624 : (Jvm.Cond.code ({ cls := "TableWays", name := "sign", desc := "(I)V" } : Jvm.MethodName) prog_1_method_29_code (2 : Nat) (Option.none : Option Jvm.ClassFile.FieldType)) ∈ lw_all := lw_g (lw_at lw_m3 63 rfl) rfl
theorem q625 : (Jvm.Cond.methodLink "TableWays" (363 : Nat) ({ cls := "TableWays$Way", name := "take", desc := "(LTableWays$Way;)V" } : Jvm.MethodName)) ∈ lw_all := lw_g (lw_at lw_m3 64 rfl) rfl
theorem q631 : (Jvm.Cond.instanceMethod ({ cls := "TableWays", name := "fault", desc := "(I)I" } : Jvm.MethodName)) ∈ lw_all := lw_g (lw_at lw_m3 70 rfl) rfl
theorem q632 : (Jvm.Cond.selects "TableWays" ({ cls := "TableWays", name := "fault", desc := "(I)I" } : Jvm.MethodName) ({ cls := "TableWays", name := "fault", desc := "(I)I" } : Jvm.MethodName)) ∈ lw_all := lw_g (lw_at lw_m3 71 rfl) rfl
theorem q633 : (Jvm.Cond.code ({ cls := "TableWays", name := "fault", desc := "(I)I" } : Jvm.MethodName) prog_1_method_36_code (2 : Nat) (Option.some Jvm.ClassFile.FieldType.int)) ∈ lw_all := lw_g (lw_at lw_m3 72 rfl) rfl
theorem q635 : (Jvm.Cond.instanceMethod ({ cls := "TableWays", name := "size", desc := "(II)I" } : Jvm.MethodName)) ∈ lw_all := lw_g (lw_at lw_m3 74 rfl) rfl
theorem q636 : (Jvm.Cond.selects "TableWays" ({ cls := "TableWays", name := "size", desc := "(II)I" } : Jvm.MethodName) ({ cls := "TableWays", name := "size", desc := "(II)I" } : Jvm.MethodName)) ∈ lw_all := lw_g (lw_at lw_m3 75 rfl) rfl
theorem q637 : (Jvm.Cond.code ({ cls := "TableWays", name := "size", desc := "(II)I" } : Jvm.MethodName) prog_1_method_39_code (9 : Nat) (Option.some Jvm.ClassFile.FieldType.int)) ∈ lw_all := lw_g (lw_at lw_m3 76 rfl) rfl
theorem q638 : (Jvm.Cond.methodLink "TableWays" (366 : Nat) ({ cls := "TableWays", name := "isTable", desc := "(I)Z" } : Jvm.MethodName)) ∈ lw_all := lw_g (lw_at lw_m3 77 rfl) rfl
theorem q639 : (Jvm.Cond.static ({ cls := "TableWays", name := "isTable", desc := "(I)Z" } : Jvm.MethodName)) ∈ lw_all := lw_g (lw_at lw_m3 78 rfl) rfl
theorem q640 : (Jvm.Cond.code ({ cls := "TableWays", name := "isTable", desc := "(I)Z" } : Jvm.MethodName) prog_1_method_37_code (1 : Nat) (Option.some Jvm.ClassFile.FieldType.boolean)) ∈ lw_all := lw_g (lw_at lw_m3 79 rfl) rfl
theorem q641 : (Jvm.Cond.constantLong "TableWays" (369 : Nat) (2 : Int64)) ∈ lw_all := lw_g (lw_at lw_m3 80 rfl) rfl
theorem q642 : (Jvm.Cond.constantLong "TableWays" (371 : Nat) (4 : Int64)) ∈ lw_all := lw_g (lw_at lw_m3 81 rfl) rfl
theorem q643 : (Jvm.Cond.methodLink "TableWays" (52 : Nat) ({ cls := "TableWays", name := "numberOf", desc := "(J)I" } : Jvm.MethodName)) ∈ lw_all := lw_g (lw_at lw_m3 82 rfl) rfl
theorem q644 : (Jvm.Cond.static ({ cls := "TableWays", name := "numberOf", desc := "(J)I" } : Jvm.MethodName)) ∈ lw_all := lw_g (lw_at lw_m3 83 rfl) rfl
theorem q645 : (Jvm.Cond.code ({ cls := "TableWays", name := "numberOf", desc := "(J)I" } : Jvm.MethodName) prog_1_method_5_code (6 : Nat) (Option.some Jvm.ClassFile.FieldType.int)) ∈ lw_all := lw_g (lw_at lw_m3 84 rfl) rfl
theorem q646 : (Jvm.Cond.constantLong "TableWays" (13 : Nat) (6 : Int64)) ∈ lw_all := lw_g (lw_at lw_m3 85 rfl) rfl
theorem q647 : (Jvm.Cond.methodLink "TableWays" (7 : Nat) ({ cls := "TableWays", name := "byteAt", desc := "(JI)I" } : Jvm.MethodName)) ∈ lw_all := lw_g (lw_at lw_m3 86 rfl) rfl
theorem q648 : (Jvm.Cond.static ({ cls := "TableWays", name := "byteAt", desc := "(JI)I" } : Jvm.MethodName)) ∈ lw_all := lw_g (lw_at lw_m3 87 rfl) rfl
theorem q649 : (Jvm.Cond.code ({ cls := "TableWays", name := "byteAt", desc := "(JI)I" } : Jvm.MethodName) prog_1_method_3_code (3 : Nat) (Option.some Jvm.ClassFile.FieldType.int)) ∈ lw_all := lw_g (lw_at lw_m3 88 rfl) rfl
theorem q651 : (Jvm.Cond.instanceMethod ({ cls := "TableWays", name := "cell", desc := "(III)J" } : Jvm.MethodName)) ∈ lw_all := lw_g (lw_at lw_m3 90 rfl) rfl
theorem q652 : (Jvm.Cond.selects "TableWays" ({ cls := "TableWays", name := "cell", desc := "(III)J" } : Jvm.MethodName) ({ cls := "TableWays", name := "cell", desc := "(III)J" } : Jvm.MethodName)) ∈ lw_all := lw_g (lw_at lw_m3 91 rfl) rfl
theorem q653 : (Jvm.Cond.code ({ cls := "TableWays", name := "cell", desc := "(III)J" } : Jvm.MethodName) prog_1_method_40_code (4 : Nat) (Option.some Jvm.ClassFile.FieldType.long)) ∈ lw_all := lw_g (lw_at lw_m3 92 rfl) rfl
theorem q654 : (Jvm.Cond.methodLink "TableWays" (48 : Nat) ({ cls := "TableWays$Table", name := "at", desc := "(II)J" } : Jvm.MethodName)) ∈ lw_all := lw_g (lw_at lw_m3 93 rfl) rfl
theorem q658 : (Jvm.Cond.constantLong "TableWays" (373 : Nat) (-2 : Int64)) ∈ lw_all := lw_g (lw_at lw_m3 97 rfl) rfl
theorem q660 : (Jvm.Cond.instanceMethod ({ cls := "TableWays", name := "copy", desc := "(II)I" } : Jvm.MethodName)) ∈ lw_all := lw_g (lw_at lw_m3 99 rfl) rfl
theorem q661 : (Jvm.Cond.selects "TableWays" ({ cls := "TableWays", name := "copy", desc := "(II)I" } : Jvm.MethodName) ({ cls := "TableWays", name := "copy", desc := "(II)I" } : Jvm.MethodName)) ∈ lw_all := lw_g (lw_at lw_m3 100 rfl) rfl
theorem q662 : (Jvm.Cond.code ({ cls := "TableWays", name := "copy", desc := "(II)I" } : Jvm.MethodName) prog_1_method_41_code (3 : Nat) (Option.some Jvm.ClassFile.FieldType.int)) ∈ lw_all := lw_g (lw_at lw_m3 101 rfl) rfl
theorem q664 : (Jvm.Cond.instanceMethod ({ cls := "TableWays", name := "fits", desc := "(II)I" } : Jvm.MethodName)) ∈ lw_all := lw_g (lw_at lw_m3 103 rfl) rfl
theorem q665 : (Jvm.Cond.selects "TableWays" ({ cls := "TableWays", name := "fits", desc := "(II)I" } : Jvm.MethodName) ({ cls := "TableWays", name := "fits", desc := "(II)I" } : Jvm.MethodName)) ∈ lw_all := lw_g (lw_at lw_m3 104 rfl) rfl
theorem q666 : (Jvm.Cond.code ({ cls := "TableWays", name := "fits", desc := "(II)I" } : Jvm.MethodName) prog_1_method_42_code (3 : Nat) (Option.some Jvm.ClassFile.FieldType.int)) ∈ lw_all := lw_g (lw_at lw_m3 105 rfl) rfl
theorem q667 : (Jvm.Cond.methodLink "TableWays" (375 : Nat) ({ cls := "TableWays$Table", name := "fits", desc := "(LTableWays$Table;)Z" } : Jvm.MethodName)) ∈ lw_all := lw_g (lw_at lw_m3 106 rfl) rfl
theorem q673 : (Jvm.Cond.instanceMethod ({ cls := "TableWays", name := "step", desc := "(IIII)I" } : Jvm.MethodName)) ∈ lw_all := lw_g (lw_at lw_m3 112 rfl) rfl
theorem q674 : (Jvm.Cond.selects "TableWays" ({ cls := "TableWays", name := "step", desc := "(IIII)I" } : Jvm.MethodName) ({ cls := "TableWays", name := "step", desc := "(IIII)I" } : Jvm.MethodName)) ∈ lw_all := lw_g (lw_at lw_m3 113 rfl) rfl
theorem q675 : (Jvm.Cond.code ({ cls := "TableWays", name := "step", desc := "(IIII)I" } : Jvm.MethodName) prog_1_method_43_code (5 : Nat) (Option.some Jvm.ClassFile.FieldType.int)) ∈ lw_all := lw_g (lw_at lw_m3 114 rfl) rfl
theorem q676 : (Jvm.Cond.constantLong "TableWays" (379 : Nat) (14 : Int64)) ∈ lw_all := lw_g (lw_at lw_m3 115 rfl) rfl
theorem q677 : (Jvm.Cond.methodLink "TableWays" (381 : Nat) ({ cls := "TableWays", name := "makes", desc := "(LTableWays$Table;IIILTableWays$Table;)Z" } : Jvm.MethodName)) ∈ lw_all := lw_g (lw_at lw_m3 116 rfl) rfl
theorem q678 : (Jvm.Cond.static ({ cls := "TableWays", name := "makes", desc := "(LTableWays$Table;IIILTableWays$Table;)Z" } : Jvm.MethodName)) ∈ lw_all := lw_g (lw_at lw_m3 117 rfl) rfl
theorem q679 : (Jvm.Cond.code ({ cls := "TableWays", name := "makes", desc := "(LTableWays$Table;IIILTableWays$Table;)Z" } : Jvm.MethodName) prog_1_method_14_code (6 : Nat) (Option.some Jvm.ClassFile.FieldType.boolean)) ∈ lw_all := lw_g (lw_at lw_m3 118 rfl) rfl
theorem q680 : (Jvm.Cond.methodLink "TableWays" (113 : Nat) ({ cls := "TableWays$Kind", name := "may", desc := "(LTableWays$Table;II)Z" } : Jvm.MethodName)) ∈ lw_all := lw_g (lw_at lw_m3 119 rfl) rfl
theorem q704 : (Jvm.Cond.methodLink "TableWays" (117 : Nat) ({ cls := "TableWays$Kind", name := "of", desc := "(LTableWays$Table;IILTableWays$Table;)Z" } : Jvm.MethodName)) ∈ lw_all := lw_g (lw_at lw_m3 143 rfl) rfl
theorem q711 : (Jvm.Cond.static ({ cls := "TableWays", name := "isSize", desc := "(II)Z" } : Jvm.MethodName)) ∈ lw_all := lw_g (lw_at lw_m3 150 rfl) rfl
theorem q712 : (Jvm.Cond.code ({ cls := "TableWays", name := "isSize", desc := "(II)Z" } : Jvm.MethodName) prog_1_method_9_code (2 : Nat) (Option.some Jvm.ClassFile.FieldType.boolean)) ∈ lw_all := lw_g (lw_at lw_m3 151 rfl) rfl
theorem q713 : (Jvm.Cond.constantLong "TableWays" (19 : Nat) (12 : Int64)) ∈ lw_all := lw_g (lw_at lw_m3 152 rfl) rfl
theorem q721 : (Jvm.Cond.static ({ cls := "TableWays", name := "grouped", desc := "(LTableWays$Table;IILTableWays$Table;)Z" } : Jvm.MethodName)) ∈ lw_all := lw_g (lw_at lw_m3 160 rfl) rfl
theorem q722 : (Jvm.Cond.code ({ cls := "TableWays", name := "grouped", desc := "(LTableWays$Table;IILTableWays$Table;)Z" } : Jvm.MethodName) prog_1_method_11_code (9 : Nat) (Option.some Jvm.ClassFile.FieldType.boolean)) ∈ lw_all := lw_g (lw_at lw_m3 161 rfl) rfl
theorem q723 : (Jvm.Cond.methodLink "TableWays" (44 : Nat) ({ cls := "TableWays", name := "firstText", desc := "(LTableWays$Table;II)I" } : Jvm.MethodName)) ∈ lw_all := lw_g (lw_at lw_m3 162 rfl) rfl
theorem q724 : (Jvm.Cond.static ({ cls := "TableWays", name := "firstText", desc := "(LTableWays$Table;II)I" } : Jvm.MethodName)) ∈ lw_all := lw_g (lw_at lw_m3 163 rfl) rfl
theorem q725 : (Jvm.Cond.code ({ cls := "TableWays", name := "firstText", desc := "(LTableWays$Table;II)I" } : Jvm.MethodName) prog_1_method_12_code (4 : Nat) (Option.some Jvm.ClassFile.FieldType.int)) ∈ lw_all := lw_g (lw_at lw_m3 164 rfl) rfl
theorem q726 : (Jvm.Cond.constant "TableWays" (55 : Nat) (999999 : Int32)) ∈ lw_all := lw_g (lw_at lw_m3 165 rfl) rfl
theorem q727 : (Jvm.Cond.methodLink "TableWays" (60 : Nat) ({ cls := "TableWays", name := "textOf", desc := "(I)J" } : Jvm.MethodName)) ∈ lw_all := lw_g (lw_at lw_m3 166 rfl) rfl
theorem q728 : (Jvm.Cond.static ({ cls := "TableWays", name := "textOf", desc := "(I)J" } : Jvm.MethodName)) ∈ lw_all := lw_g (lw_at lw_m3 167 rfl) rfl
theorem q729 : (Jvm.Cond.code ({ cls := "TableWays", name := "textOf", desc := "(I)J" } : Jvm.MethodName) prog_1_method_6_code (5 : Nat) (Option.some Jvm.ClassFile.FieldType.long)) ∈ lw_all := lw_g (lw_at lw_m3 168 rfl) rfl
theorem q741 : (Jvm.Cond.static ({ cls := "TableWays", name := "rowsOf", desc := "(LTableWays$Table;[IILTableWays$Table;)Z" } : Jvm.MethodName)) ∈ lw_all := lw_g (lw_at lw_m3 180 rfl) rfl
theorem q742 : (Jvm.Cond.code ({ cls := "TableWays", name := "rowsOf", desc := "(LTableWays$Table;[IILTableWays$Table;)Z" } : Jvm.MethodName) prog_1_method_10_code (5 : Nat) (Option.some Jvm.ClassFile.FieldType.boolean)) ∈ lw_all := lw_g (lw_at lw_m3 181 rfl) rfl
theorem q743 : (Jvm.Cond.methodLink "TableWays" (35 : Nat) ({ cls := "java/lang/System", name := "arraycopy", desc := "(Ljava/lang/Object;ILjava/lang/Object;II)V" } : Jvm.MethodName)) ∈ lw_all := lw_g (lw_at lw_m3 182 rfl) rfl
theorem q769 : (Jvm.Cond.static ({ cls := "TableWays", name := "find", desc := "(JI)I" } : Jvm.MethodName)) ∈ lw_all := lw_g (lw_at lw_m3 208 rfl) rfl
theorem q770 : (Jvm.Cond.code ({ cls := "TableWays", name := "find", desc := "(JI)I" } : Jvm.MethodName) prog_1_method_7_code (4 : Nat) (Option.some Jvm.ClassFile.FieldType.int)) ∈ lw_all := lw_g (lw_at lw_m3 209 rfl) rfl
theorem q772 : (Jvm.Cond.static ({ cls := "TableWays", name := "part", desc := "(JII)J" } : Jvm.MethodName)) ∈ lw_all := lw_g (lw_at lw_m3 211 rfl) rfl
theorem q773 : (Jvm.Cond.code ({ cls := "TableWays", name := "part", desc := "(JII)J" } : Jvm.MethodName) prog_1_method_8_code (7 : Nat) (Option.some Jvm.ClassFile.FieldType.long)) ∈ lw_all := lw_g (lw_at lw_m3 212 rfl) rfl
theorem q824 : (Jvm.Cond.static ({ cls := "TableWays", name := "against", desc := "(JJ)I" } : Jvm.MethodName)) ∈ lw_all := lw_g (lw_at lw_m4 23 rfl) rfl
theorem q825 : (Jvm.Cond.code ({ cls := "TableWays", name := "against", desc := "(JJ)I" } : Jvm.MethodName) prog_1_method_4_code (7 : Nat) (Option.some Jvm.ClassFile.FieldType.int)) ∈ lw_all := lw_g (lw_at lw_m4 24 rfl) rfl
theorem q833 : (Jvm.Cond.instanceMethod ({ cls := "TableWays", name := "walk", desc := "(III)I" } : Jvm.MethodName)) ∈ lw_all := lw_g (lw_at lw_m4 32 rfl) rfl
theorem q834 : (Jvm.Cond.selects "TableWays" ({ cls := "TableWays", name := "walk", desc := "(III)I" } : Jvm.MethodName) ({ cls := "TableWays", name := "walk", desc := "(III)I" } : Jvm.MethodName)) ∈ lw_all := lw_g (lw_at lw_m4 33 rfl) rfl
theorem q835 : (Jvm.Cond.code ({ cls := "TableWays", name := "walk", desc := "(III)I" } : Jvm.MethodName) prog_1_method_45_code (5 : Nat) (Option.some Jvm.ClassFile.FieldType.int)) ∈ lw_all := lw_g (lw_at lw_m4 34 rfl) rfl
theorem q836 : (Jvm.Cond.methodLink "TableWays" (385 : Nat) ({ cls := "TableWays", name := "isWay", desc := "(I)Z" } : Jvm.MethodName)) ∈ lw_all := lw_g (lw_at lw_m4 35 rfl) rfl
theorem q837 : (Jvm.Cond.static ({ cls := "TableWays", name := "isWay", desc := "(I)Z" } : Jvm.MethodName)) ∈ lw_all := lw_g (lw_at lw_m4 36 rfl) rfl
theorem q838 : (Jvm.Cond.code ({ cls := "TableWays", name := "isWay", desc := "(I)Z" } : Jvm.MethodName) prog_1_method_38_code (1 : Nat) (Option.some Jvm.ClassFile.FieldType.boolean)) ∈ lw_all := lw_g (lw_at lw_m4 37 rfl) rfl
theorem q839 : (Jvm.Cond.methodLink "TableWays" (388 : Nat) ({ cls := "TableWays", name := "walks", desc := "(LTableWays$Way;LTableWays$Table;)I" } : Jvm.MethodName)) ∈ lw_all := lw_g (lw_at lw_m4 38 rfl) rfl
theorem q840 : (Jvm.Cond.privateMethod ({ cls := "TableWays", name := "walks", desc := "(LTableWays$Way;LTableWays$Table;)I" } : Jvm.MethodName)) ∈ lw_tbl := lw_at lw_m4 39 rfl
theorem q841 : (Jvm.Cond.instanceMethod ({ cls := "TableWays", name := "walks", desc := "(LTableWays$Way;LTableWays$Table;)I" } : Jvm.MethodName)) ∈ lw_all := lw_g (lw_at lw_m4 40 rfl) rfl
theorem q842 : (Jvm.Cond.code ({ cls := "TableWays", name := "walks", desc := "(LTableWays$Way;LTableWays$Table;)I" } : Jvm.MethodName) prog_1_method_44_code (4 : Nat) (Option.some Jvm.ClassFile.FieldType.int)) ∈ lw_all := lw_g (lw_at lw_m4 41 rfl) rfl
theorem q844 : (Jvm.Cond.instanceMethod ({ cls := "TableWays", name := "steps", desc := "(I)I" } : Jvm.MethodName)) ∈ lw_all := lw_g (lw_at lw_m4 43 rfl) rfl
theorem q845 : (Jvm.Cond.selects "TableWays" ({ cls := "TableWays", name := "steps", desc := "(I)I" } : Jvm.MethodName) ({ cls := "TableWays", name := "steps", desc := "(I)I" } : Jvm.MethodName)) ∈ lw_all := lw_g (lw_at lw_m4 44 rfl) rfl
theorem q846 : (Jvm.Cond.code ({ cls := "TableWays", name := "steps", desc := "(I)I" } : Jvm.MethodName) prog_1_method_46_code (2 : Nat) (Option.some Jvm.ClassFile.FieldType.int)) ∈ lw_all := lw_g (lw_at lw_m4 45 rfl) rfl
theorem q848 : (Jvm.Cond.instanceMethod ({ cls := "TableWays", name := "stepAt", desc := "(III)I" } : Jvm.MethodName)) ∈ lw_all := lw_g (lw_at lw_m4 47 rfl) rfl
theorem q849 : (Jvm.Cond.selects "TableWays" ({ cls := "TableWays", name := "stepAt", desc := "(III)I" } : Jvm.MethodName) ({ cls := "TableWays", name := "stepAt", desc := "(III)I" } : Jvm.MethodName)) ∈ lw_all := lw_g (lw_at lw_m4 48 rfl) rfl
theorem q850 : (Jvm.Cond.code ({ cls := "TableWays", name := "stepAt", desc := "(III)I" } : Jvm.MethodName) prog_1_method_47_code (4 : Nat) (Option.some Jvm.ClassFile.FieldType.int)) ∈ lw_all := lw_g (lw_at lw_m4 49 rfl) rfl
theorem q852 : (Jvm.Cond.instanceMethod ({ cls := "TableWays", name := "chain", desc := "(III)I" } : Jvm.MethodName)) ∈ lw_all := lw_g (lw_at lw_m4 51 rfl) rfl
theorem q853 : (Jvm.Cond.selects "TableWays" ({ cls := "TableWays", name := "chain", desc := "(III)I" } : Jvm.MethodName) ({ cls := "TableWays", name := "chain", desc := "(III)I" } : Jvm.MethodName)) ∈ lw_all := lw_g (lw_at lw_m4 52 rfl) rfl
theorem q854 : (Jvm.Cond.code ({ cls := "TableWays", name := "chain", desc := "(III)I" } : Jvm.MethodName) prog_1_method_48_code (6 : Nat) (Option.some Jvm.ClassFile.FieldType.int)) ∈ lw_all := lw_g (lw_at lw_m4 53 rfl) rfl
theorem q856 : (Jvm.Cond.instanceMethod ({ cls := "TableWays", name := "find", desc := "(IIIII)I" } : Jvm.MethodName)) ∈ lw_all := lw_g (lw_at lw_m4 55 rfl) rfl
theorem q857 : (Jvm.Cond.selects "TableWays" ({ cls := "TableWays", name := "find", desc := "(IIIII)I" } : Jvm.MethodName) ({ cls := "TableWays", name := "find", desc := "(IIIII)I" } : Jvm.MethodName)) ∈ lw_all := lw_g (lw_at lw_m4 56 rfl) rfl
theorem q858 : (Jvm.Cond.code ({ cls := "TableWays", name := "find", desc := "(IIIII)I" } : Jvm.MethodName) prog_1_method_56_code (11 : Nat) (Option.some Jvm.ClassFile.FieldType.int)) ∈ lw_all := lw_g (lw_at lw_m4 57 rfl) rfl
theorem q859 : (Jvm.Cond.constantLong "TableWays" (435 : Nat) (3 : Int64)) ∈ lw_all := lw_g (lw_at lw_m4 58 rfl) rfl
theorem q860 : (Jvm.Cond.methodLink "TableWays" (431 : Nat) ({ cls := "TableWays", name := "addState", desc := "(LTableWays$Table;LTableWays$Table;IZ)I" } : Jvm.MethodName)) ∈ lw_all := lw_g (lw_at lw_m4 59 rfl) rfl
theorem q861 : (Jvm.Cond.privateMethod ({ cls := "TableWays", name := "addState", desc := "(LTableWays$Table;LTableWays$Table;IZ)I" } : Jvm.MethodName)) ∈ lw_tbl := lw_at lw_m4 60 rfl
theorem q862 : (Jvm.Cond.instanceMethod ({ cls := "TableWays", name := "addState", desc := "(LTableWays$Table;LTableWays$Table;IZ)I" } : Jvm.MethodName)) ∈ lw_all := lw_g (lw_at lw_m4 61 rfl) rfl
theorem q863 : (Jvm.Cond.code ({ cls := "TableWays", name := "addState", desc := "(LTableWays$Table;LTableWays$Table;IZ)I" } : Jvm.MethodName) prog_1_method_54_code (7 : Nat) (Option.some Jvm.ClassFile.FieldType.int)) ∈ lw_all := lw_g (lw_at lw_m4 62 rfl) rfl
theorem q864 : (Jvm.Cond.methodLink "TableWays" (411 : Nat) ({ cls := "TableWays", name := "store", desc := "(IILTableWays$Table;)V" } : Jvm.MethodName)) ∈ lw_all := lw_g (lw_at lw_m4 63 rfl) rfl
theorem q865 : (Jvm.Cond.privateMethod ({ cls := "TableWays", name := "store", desc := "(IILTableWays$Table;)V" } : Jvm.MethodName)) ∈ lw_tbl := lw_at lw_m4 64 rfl
theorem q866 : (Jvm.Cond.instanceMethod ({ cls := "TableWays", name := "store", desc := "(IILTableWays$Table;)V" } : Jvm.MethodName)) ∈ lw_all := lw_g (lw_at lw_m4 65 rfl) rfl
theorem q867 : (Jvm.Cond.code ({ cls := "TableWays", name := "store", desc := "(IILTableWays$Table;)V" } : Jvm.MethodName) prog_1_method_50_code (4 : Nat) (Option.none : Option Jvm.ClassFile.FieldType)) ∈ lw_all := lw_g (lw_at lw_m4 66 rfl) rfl
theorem q868 : (Jvm.Cond.methodLink "TableWays" (400 : Nat) ({ cls := "TableWays", name := "bucketOf", desc := "(LTableWays$Table;LTableWays$Table;)I" } : Jvm.MethodName)) ∈ lw_all := lw_g (lw_at lw_m4 67 rfl) rfl
theorem q869 : (Jvm.Cond.privateMethod ({ cls := "TableWays", name := "bucketOf", desc := "(LTableWays$Table;LTableWays$Table;)I" } : Jvm.MethodName)) ∈ lw_tbl := lw_at lw_m4 68 rfl
theorem q870 : (Jvm.Cond.instanceMethod ({ cls := "TableWays", name := "bucketOf", desc := "(LTableWays$Table;LTableWays$Table;)I" } : Jvm.MethodName)) ∈ lw_all := lw_g (lw_at lw_m4 69 rfl) rfl
theorem q871 : (Jvm.Cond.code ({ cls := "TableWays", name := "bucketOf", desc := "(LTableWays$Table;LTableWays$Table;)I" } : Jvm.MethodName) prog_1_method_52_code (3 : Nat) (Option.some Jvm.ClassFile.FieldType.int)) ∈ lw_all := lw_g (lw_at lw_m4 70 rfl) rfl
theorem q872 : (Jvm.Cond.methodLink "TableWays" (392 : Nat) ({ cls := "TableWays$Table", name := "hash", desc := "()J" } : Jvm.MethodName)) ∈ lw_all := lw_g (lw_at lw_m4 71 rfl) rfl
theorem q878 : (Jvm.Cond.constantLong "TableWays" (396 : Nat) (31 : Int64)) ∈ lw_all := lw_g (lw_at lw_m4 77 rfl) rfl
theorem q879 : (Jvm.Cond.constantLong "TableWays" (398 : Nat) (4096 : Int64)) ∈ lw_all := lw_g (lw_at lw_m4 78 rfl) rfl
theorem q880 : (Jvm.Cond.methodLink "TableWays" (443 : Nat) ({ cls := "TableWays", name := "countWays", desc := "()V" } : Jvm.MethodName)) ∈ lw_all := lw_g (lw_at lw_m4 79 rfl) rfl
theorem q881 : (Jvm.Cond.privateMethod ({ cls := "TableWays", name := "countWays", desc := "()V" } : Jvm.MethodName)) ∈ lw_tbl := lw_at lw_m4 80 rfl
theorem q882 : (Jvm.Cond.instanceMethod ({ cls := "TableWays", name := "countWays", desc := "()V" } : Jvm.MethodName)) ∈ lw_all := lw_g (lw_at lw_m4 81 rfl) rfl
theorem q883 : (Jvm.Cond.code ({ cls := "TableWays", name := "countWays", desc := "()V" } : Jvm.MethodName) prog_1_method_57_code (5 : Nat) (Option.none : Option Jvm.ClassFile.FieldType)) ∈ lw_all := lw_g (lw_at lw_m4 82 rfl) rfl
theorem q884 : (Jvm.Cond.constantLong "TableWays" (450 : Nat) (1000000 : Int64)) ∈ lw_all := lw_g (lw_at lw_m4 83 rfl) rfl
theorem q885 : (Jvm.Cond.methodLink "TableWays" (452 : Nat) ({ cls := "java/lang/Math", name := "min", desc := "(JJ)J" } : Jvm.MethodName)) ∈ lw_all := lw_g (lw_at lw_m4 84 rfl) rfl
theorem q888 : (Jvm.Cond.methodLink "TableWays" (446 : Nat) ({ cls := "TableWays", name := "expand", desc := "(ILTableWays$Table;LTableWays$Table;)Z" } : Jvm.MethodName)) ∈ lw_all := lw_g (lw_at lw_m4 87 rfl) rfl
theorem q889 : (Jvm.Cond.privateMethod ({ cls := "TableWays", name := "expand", desc := "(ILTableWays$Table;LTableWays$Table;)Z" } : Jvm.MethodName)) ∈ lw_tbl := lw_at lw_m4 88 rfl
theorem q890 : (Jvm.Cond.instanceMethod ({ cls := "TableWays", name := "expand", desc := "(ILTableWays$Table;LTableWays$Table;)Z" } : Jvm.MethodName)) ∈ lw_all := lw_g (lw_at lw_m4 89 rfl) rfl
theorem q891 : (Jvm.Cond.code ({ cls := "TableWays", name := "expand", desc := "(ILTableWays$Table;LTableWays$Table;)Z" } : Jvm.MethodName) prog_1_method_55_code (11 : Nat) (Option.some Jvm.ClassFile.FieldType.boolean)) ∈ lw_all := lw_g (lw_at lw_m4 90 rfl) rfl
theorem q892 : (Jvm.Cond.methodLink "TableWays" (418 : Nat) ({ cls := "TableWays", name := "load", desc := "(IILTableWays$Table;)V" } : Jvm.MethodName)) ∈ lw_all := lw_g (lw_at lw_m4 91 rfl) rfl
theorem q893 : (Jvm.Cond.privateMethod ({ cls := "TableWays", name := "load", desc := "(IILTableWays$Table;)V" } : Jvm.MethodName)) ∈ lw_tbl := lw_at lw_m4 92 rfl
theorem q894 : (Jvm.Cond.instanceMethod ({ cls := "TableWays", name := "load", desc := "(IILTableWays$Table;)V" } : Jvm.MethodName)) ∈ lw_all := lw_g (lw_at lw_m4 93 rfl) rfl
theorem q895 : (Jvm.Cond.code ({ cls := "TableWays", name := "load", desc := "(IILTableWays$Table;)V" } : Jvm.MethodName) prog_1_method_49_code (4 : Nat) (Option.none : Option Jvm.ClassFile.FieldType)) ∈ lw_all := lw_g (lw_at lw_m4 94 rfl) rfl
theorem q896 : (Jvm.Cond.methodLink "TableWays" (428 : Nat) ({ cls := "TableWays", name := "stateOf", desc := "(LTableWays$Table;LTableWays$Table;)I" } : Jvm.MethodName)) ∈ lw_all := lw_g (lw_at lw_m4 95 rfl) rfl
theorem q897 : (Jvm.Cond.privateMethod ({ cls := "TableWays", name := "stateOf", desc := "(LTableWays$Table;LTableWays$Table;)I" } : Jvm.MethodName)) ∈ lw_tbl := lw_at lw_m4 96 rfl
theorem q898 : (Jvm.Cond.instanceMethod ({ cls := "TableWays", name := "stateOf", desc := "(LTableWays$Table;LTableWays$Table;)I" } : Jvm.MethodName)) ∈ lw_all := lw_g (lw_at lw_m4 97 rfl) rfl
theorem q899 : (Jvm.Cond.code ({ cls := "TableWays", name := "stateOf", desc := "(LTableWays$Table;LTableWays$Table;)I" } : Jvm.MethodName) prog_1_method_53_code (4 : Nat) (Option.some Jvm.ClassFile.FieldType.int)) ∈ lw_all := lw_g (lw_at lw_m4 98 rfl) rfl
theorem q900 : (Jvm.Cond.methodLink "TableWays" (404 : Nat) ({ cls := "TableWays", name := "isAt", desc := "(IILTableWays$Table;)Z" } : Jvm.MethodName)) ∈ lw_all := lw_g (lw_at lw_m4 99 rfl) rfl
theorem q901 : (Jvm.Cond.privateMethod ({ cls := "TableWays", name := "isAt", desc := "(IILTableWays$Table;)Z" } : Jvm.MethodName)) ∈ lw_tbl := lw_at lw_m4 100 rfl
theorem q902 : (Jvm.Cond.instanceMethod ({ cls := "TableWays", name := "isAt", desc := "(IILTableWays$Table;)Z" } : Jvm.MethodName)) ∈ lw_all := lw_g (lw_at lw_m4 101 rfl) rfl
theorem q903 : (Jvm.Cond.code ({ cls := "TableWays", name := "isAt", desc := "(IILTableWays$Table;)Z" } : Jvm.MethodName) prog_1_method_51_code (6 : Nat) (Option.some Jvm.ClassFile.FieldType.boolean)) ∈ lw_all := lw_g (lw_at lw_m4 102 rfl) rfl
theorem q905 : (Jvm.Cond.instanceMethod ({ cls := "TableWays", name := "found", desc := "(I)I" } : Jvm.MethodName)) ∈ lw_all := lw_g (lw_at lw_m4 104 rfl) rfl
theorem q906 : (Jvm.Cond.selects "TableWays" ({ cls := "TableWays", name := "found", desc := "(I)I" } : Jvm.MethodName) ({ cls := "TableWays", name := "found", desc := "(I)I" } : Jvm.MethodName)) ∈ lw_all := lw_g (lw_at lw_m4 105 rfl) rfl
theorem q907 : (Jvm.Cond.code ({ cls := "TableWays", name := "found", desc := "(I)I" } : Jvm.MethodName) prog_1_method_58_code (2 : Nat) (Option.some Jvm.ClassFile.FieldType.int)) ∈ lw_all := lw_g (lw_at lw_m4 106 rfl) rfl
theorem q909 : (Jvm.Cond.instanceMethod ({ cls := "TableWays", name := "take", desc := "(II)I" } : Jvm.MethodName)) ∈ lw_all := lw_g (lw_at lw_m4 108 rfl) rfl
theorem q910 : (Jvm.Cond.selects "TableWays" ({ cls := "TableWays", name := "take", desc := "(II)I" } : Jvm.MethodName) ({ cls := "TableWays", name := "take", desc := "(II)I" } : Jvm.MethodName)) ∈ lw_all := lw_g (lw_at lw_m4 109 rfl) rfl
theorem q911 : (Jvm.Cond.code ({ cls := "TableWays", name := "take", desc := "(II)I" } : Jvm.MethodName) prog_1_method_59_code (8 : Nat) (Option.some Jvm.ClassFile.FieldType.int)) ∈ lw_all := lw_g (lw_at lw_m4 110 rfl) rfl
theorem q912 : (Jvm.Cond.methodLink "TableWays" (458 : Nat) ({ cls := "java/lang/Math", name := "min", desc := "(II)I" } : Jvm.MethodName)) ∈ lw_all := lw_g (lw_at lw_m4 111 rfl) rfl
theorem q914 : (Jvm.Cond.instanceMethod ({ cls := "TableWays", name := "part", desc := "(IIIII)I" } : Jvm.MethodName)) ∈ lw_all := lw_g (lw_at lw_m4 113 rfl) rfl
theorem q915 : (Jvm.Cond.selects "TableWays" ({ cls := "TableWays", name := "part", desc := "(IIIII)I" } : Jvm.MethodName) ({ cls := "TableWays", name := "part", desc := "(IIIII)I" } : Jvm.MethodName)) ∈ lw_all := lw_g (lw_at lw_m4 114 rfl) rfl
theorem q916 : (Jvm.Cond.code ({ cls := "TableWays", name := "part", desc := "(IIIII)I" } : Jvm.MethodName) prog_1_method_62_code (12 : Nat) (Option.some Jvm.ClassFile.FieldType.int)) ∈ lw_all := lw_g (lw_at lw_m4 115 rfl) rfl
theorem q917 : (Jvm.Cond.methodLink "TableWays" (465 : Nat) ({ cls := "TableWays", name := "listed", desc := "(I)J" } : Jvm.MethodName)) ∈ lw_all := lw_g (lw_at lw_m4 116 rfl) rfl
theorem q918 : (Jvm.Cond.static ({ cls := "TableWays", name := "listed", desc := "(I)J" } : Jvm.MethodName)) ∈ lw_all := lw_g (lw_at lw_m4 117 rfl) rfl
theorem q919 : (Jvm.Cond.code ({ cls := "TableWays", name := "listed", desc := "(I)J" } : Jvm.MethodName) prog_1_method_60_code (5 : Nat) (Option.some Jvm.ClassFile.FieldType.long)) ∈ lw_all := lw_g (lw_at lw_m4 118 rfl) rfl
theorem q920 : (Jvm.Cond.stringRef "TableWays" (460 : Nat) ",a,b,a-b,1,2") ∈ lw_tbl := lw_at lw_m4 119 rfl
theorem q921 : (Jvm.Cond.methodLink "TableWays" (468 : Nat) ({ cls := "TableWays", name := "parts", desc := "(LTableWays$Way;LTableWays$Way;LTableWays$Table;)Z" } : Jvm.MethodName)) ∈ lw_all := lw_g (lw_at lw_m4 120 rfl) rfl
theorem q922 : (Jvm.Cond.privateMethod ({ cls := "TableWays", name := "parts", desc := "(LTableWays$Way;LTableWays$Way;LTableWays$Table;)Z" } : Jvm.MethodName)) ∈ lw_tbl := lw_at lw_m4 121 rfl
theorem q923 : (Jvm.Cond.instanceMethod ({ cls := "TableWays", name := "parts", desc := "(LTableWays$Way;LTableWays$Way;LTableWays$Table;)Z" } : Jvm.MethodName)) ∈ lw_all := lw_g (lw_at lw_m4 122 rfl) rfl
theorem q924 : (Jvm.Cond.code ({ cls := "TableWays", name := "parts", desc := "(LTableWays$Way;LTableWays$Way;LTableWays$Table;)Z" } : Jvm.MethodName) prog_1_method_61_code (6 : Nat) (Option.some Jvm.ClassFile.FieldType.boolean)) ∈ lw_all := lw_g (lw_at lw_m4 123 rfl) rfl
theorem q925 : (Jvm.Cond.methodLink "TableWays" (462 : Nat) ({ cls := "TableWays$Table", name := "isLike", desc := "(LTableWays$Table;)Z" } : Jvm.MethodName)) ∈ lw_all := lw_g (lw_at lw_m4 124 rfl) rfl
theorem q930 : (Jvm.Cond.instanceMethod ({ cls := "TableWays", name := "count", desc := "(I)I" } : Jvm.MethodName)) ∈ lw_all := lw_g (lw_at lw_m4 129 rfl) rfl
theorem q931 : (Jvm.Cond.selects "TableWays" ({ cls := "TableWays", name := "count", desc := "(I)I" } : Jvm.MethodName) ({ cls := "TableWays", name := "count", desc := "(I)I" } : Jvm.MethodName)) ∈ lw_all := lw_g (lw_at lw_m4 130 rfl) rfl
theorem q932 : (Jvm.Cond.code ({ cls := "TableWays", name := "count", desc := "(I)I" } : Jvm.MethodName) prog_1_method_63_code (4 : Nat) (Option.some Jvm.ClassFile.FieldType.int)) ∈ lw_all := lw_g (lw_at lw_m4 131 rfl) rfl
theorem q1447 : (Jvm.Cond.fieldLink "TableWays" (330 : Nat) "TableWays$Kind" "first" "I") ∈ lw_all := lw_g (lw_at lw_m6 166 rfl) rfl
theorem q1448 : (Jvm.Cond.fieldLink "TableWays" (336 : Nat) "TableWays$Kind" "second" "I") ∈ lw_all := lw_g (lw_at lw_m6 167 rfl) rfl
theorem in_X0 : ∀ w ∈ wsX00, w ∈ lw_all := lw_in wsX00 [289, 291, 293, 295, 297, 299, 301, 303, 305, 307, 309, 311, 313, 315, 317, 319, 321, 323, 325, 327, 329, 331, 333, 335, 337, 339, 341, 343, 345, 347, 349, 351, 353, 355, 357, 359] (by decide +kernel) (by decide +kernel)
/-! X1.TableWays_Wrong.lean.txt -/
/-! TableWays$Wrong -/
set_option maxRecDepth 100000
def RX1 : String := "TableWays$Wrong"
def TX1 : u_T := fun k => match k with
  | 0 => ("java/lang/Throwable", "cause", "Ljava/lang/Throwable;", false)
  | 1 => ("java/lang/Throwable", "stackTrace", "[Ljava/lang/StackTraceElement;", false)
  | 2 => ("java/lang/Throwable", "suppressedExceptions", "Ljava/util/List;", false)
  | 3 => ("java/lang/Throwable", "detailMessage", "Ljava/lang/String;", false)
  | 4 => ("java/lang/Throwable", "backtrace", "Ljava/lang/Object;", false)
  | 5 => ("java/lang/Throwable", "depth", "I", false)
  | 6 => ("TableWays$Wrong", "kind", "I", false)
  | _ => ("TableWays$Wrong", "place", "I", false)
def tyX1 : Nat → FieldType := fun k => match k with
  | 0 => .object "java/lang/Throwable"
  | 1 => .array (.object "java/lang/StackTraceElement")
  | 2 => .object "java/util/List"
  | 3 => .object "java/lang/String"
  | 4 => .object "java/lang/Object"
  | 5 => .int
  | 6 => .int
  | _ => .int
abbrev wsX10 : List Cond := u_ws RX1 TX1 8
theorem nmX1 : ∀ a, a < 8 → ∀ b, b < 8 → a ≠ b → (TX1 a).2.1 ≠ (TX1 b).2.1 := by decide +kernel
theorem tyX1_ok : ∀ k, k < 8 → parseFieldDescriptor (TX1 k).2.2.1 = some (tyX1 k) := by decide +kernel
abbrev cX1_init : ByteArray := prog_19_method_1_code
def yX1_init : MethodName := ⟨RX1, "<init>", "()V"⟩
abbrev cX1_by : ByteArray := prog_19_method_2_code
def yX1_by : MethodName := ⟨RX1, "by", "(II)LTableWays$Wrong;"⟩
theorem q85 : (Jvm.Cond.initialized "TableWays$Wrong") ∈ lw_all := lw_g (lw_at lw_m1 4 rfl) rfl
theorem q110 : (Jvm.Cond.instantiable "TableWays$Wrong" (8 : Nat)) ∈ lw_all := lw_g (lw_at lw_m1 29 rfl) rfl
theorem q111 : (Jvm.Cond.castable "TableWays$Wrong" "TableWays$Wrong") ∈ lw_tbl := lw_at lw_m1 30 rfl
theorem q116 : (Jvm.Cond.selects "TableWays$Wrong" ({ cls := "java/lang/Throwable", name := "fillInStackTrace", desc := "(I)Ljava/lang/Throwable;" } : Jvm.MethodName) ({ cls := "java/lang/Throwable", name := "fillInStackTrace", desc := "(I)Ljava/lang/Throwable;" } : Jvm.MethodName)) ∈ lw_all := lw_g (lw_at lw_m1 35 rfl) rfl
theorem q117 : (Jvm.Cond.selects "TableWays$Wrong" ({ cls := "java/lang/Throwable", name := "fillInStackTrace", desc := "()Ljava/lang/Throwable;" } : Jvm.MethodName) ({ cls := "java/lang/Throwable", name := "fillInStackTrace", desc := "()Ljava/lang/Throwable;" } : Jvm.MethodName)) ∈ lw_all := lw_g (lw_at lw_m1 36 rfl) rfl
theorem q118 : (Jvm.Cond.lays "TableWays$Wrong" "java/lang/Throwable" "cause" "Ljava/lang/Throwable;") ∈ lw_all := lw_g (lw_at lw_m1 37 rfl) rfl
theorem q120 : (Jvm.Cond.lays "TableWays$Wrong" "java/lang/Throwable" "stackTrace" "[Ljava/lang/StackTraceElement;") ∈ lw_all := lw_g (lw_at lw_m1 39 rfl) rfl
theorem q122 : (Jvm.Cond.lays "TableWays$Wrong" "java/lang/Throwable" "suppressedExceptions" "Ljava/util/List;") ∈ lw_all := lw_g (lw_at lw_m1 41 rfl) rfl
theorem q124 : (Jvm.Cond.lays "TableWays$Wrong" "java/lang/Throwable" "detailMessage" "Ljava/lang/String;") ∈ lw_all := lw_g (lw_at lw_m1 43 rfl) rfl
theorem q126 : (Jvm.Cond.lays "TableWays$Wrong" "java/lang/Throwable" "backtrace" "Ljava/lang/Object;") ∈ lw_all := lw_g (lw_at lw_m1 45 rfl) rfl
theorem q148 : (Jvm.Cond.instanceMethod ({ cls := "TableWays$Wrong", name := "<init>", desc := "()V" } : Jvm.MethodName)) ∈ lw_all := lw_g (lw_at lw_m1 67 rfl) rfl
theorem q149 : (Jvm.Cond.code ({ cls := "TableWays$Wrong", name := "<init>", desc := "()V" } : Jvm.MethodName) prog_19_method_1_code (1 : Nat) (Option.none : Option Jvm.ClassFile.FieldType)) ∈ lw_all := lw_g (lw_at lw_m1 68 rfl) rfl
theorem q150 : (Jvm.Cond.methodLink "TableWays$Wrong" (1 : Nat) ({ cls := "java/lang/Exception", name := "<init>", desc := "(Ljava/lang/String;Ljava/lang/Throwable;ZZ)V" } : Jvm.MethodName)) ∈ lw_all := lw_g (lw_at lw_m1 69 rfl) rfl
theorem q156 : (Jvm.Cond.fieldLink "TableWays$Wrong" (7 : Nat) "TableWays$Wrong" "kind" "I") ∈ lw_all := lw_g (lw_at lw_m1 75 rfl) rfl
theorem q158 : (Jvm.Cond.fieldLink "TableWays$Wrong" (13 : Nat) "TableWays$Wrong" "place" "I") ∈ lw_all := lw_g (lw_at lw_m1 77 rfl) rfl
theorem q165 : (Jvm.Cond.lays "TableWays$Wrong" "TableWays$Wrong" "kind" "I") ∈ lw_all := lw_g (lw_at lw_m1 84 rfl) rfl
theorem q166 : (Jvm.Cond.soleField "TableWays$Wrong" "kind") ∈ lw_all := lw_g (lw_at lw_m1 85 rfl) rfl
theorem q167 : (Jvm.Cond.lays "TableWays$Wrong" "TableWays$Wrong" "place" "I") ∈ lw_all := lw_g (lw_at lw_m1 86 rfl) rfl
theorem q168 : (Jvm.Cond.soleField "TableWays$Wrong" "place") ∈ lw_all := lw_g (lw_at lw_m1 87 rfl) rfl
theorem q173 : (Jvm.Cond.lays "TableWays$Wrong" "java/lang/Throwable" "depth" "I") ∈ lw_all := lw_g (lw_at lw_m1 92 rfl) rfl
theorem q176 : (Jvm.Cond.superclass "TableWays$Wrong" "java/lang/Exception") ∈ lw_all := lw_g (lw_at lw_m1 95 rfl) rfl
theorem q392 : (Jvm.Cond.instanceMethod ({ cls := "TableWays$Wrong", name := "by", desc := "(II)LTableWays$Wrong;" } : Jvm.MethodName)) ∈ lw_all := lw_g (lw_at lw_m2 71 rfl) rfl
theorem q393 : (Jvm.Cond.selects "TableWays$Wrong" ({ cls := "TableWays$Wrong", name := "by", desc := "(II)LTableWays$Wrong;" } : Jvm.MethodName) ({ cls := "TableWays$Wrong", name := "by", desc := "(II)LTableWays$Wrong;" } : Jvm.MethodName)) ∈ lw_all := lw_g (lw_at lw_m2 72 rfl) rfl
theorem q394 : (Jvm.Cond.code ({ cls := "TableWays$Wrong", name := "by", desc := "(II)LTableWays$Wrong;" } : Jvm.MethodName) prog_19_method_2_code (3 : Nat) (Option.some (Jvm.ClassFile.FieldType.object "TableWays$Wrong"))) ∈ lw_all := lw_g (lw_at lw_m2 73 rfl) rfl
theorem in_X1 : ∀ w ∈ wsX10, w ∈ lw_all := lw_in wsX10 [118, 120, 122, 124, 126, 173, 165, 167] (by decide +kernel) (by decide +kernel)
/-! X2.TableWays_Table.lean.txt -/
/-! TableWays$Table -/
set_option maxRecDepth 100000
def RX2 : String := "TableWays$Table"
def TX2 : u_T := fun k => match k with
  | 0 => ("TableWays$Table", "rows", "I", false)
  | 1 => ("TableWays$Table", "columns", "I", false)
  | 2 => ("TableWays$Table", "cells", "[J", true)
  | _ => ("TableWays$Table", "order", "[I", true)
def tyX2 : Nat → FieldType := fun k => match k with
  | 0 => .int
  | 1 => .int
  | 2 => .array .long
  | _ => .array .int
abbrev wsX20 : List Cond := u_ws RX2 TX2 4
theorem nmX2 : ∀ a, a < 4 → ∀ b, b < 4 → a ≠ b → (TX2 a).2.1 ≠ (TX2 b).2.1 := by decide +kernel
theorem tyX2_ok : ∀ k, k < 4 → parseFieldDescriptor (TX2 k).2.2.1 = some (tyX2 k) := by decide +kernel
abbrev cX2_init : ByteArray := prog_17_method_1_code
def yX2_init : MethodName := ⟨RX2, "<init>", "()V"⟩
abbrev cX2_begin : ByteArray := prog_17_method_2_code
def yX2_begin : MethodName := ⟨RX2, "begin", "(II)V"⟩
abbrev cX2_set : ByteArray := prog_17_method_5_code
def yX2_set : MethodName := ⟨RX2, "set", "(IIJ)V"⟩
abbrev cX2_take : ByteArray := prog_17_method_3_code
def yX2_take : MethodName := ⟨RX2, "take", "(LTableWays$Table;)V"⟩
abbrev cX2_at : ByteArray := prog_17_method_4_code
def yX2_at : MethodName := ⟨RX2, "at", "(II)J"⟩
abbrev cX2_fits : ByteArray := prog_17_method_7_code
def yX2_fits : MethodName := ⟨RX2, "fits", "(LTableWays$Table;)Z"⟩
abbrev cX2_hasAny : ByteArray := prog_17_method_8_code
def yX2_hasAny : MethodName := ⟨RX2, "hasAny", "()Z"⟩
abbrev cX2_sameRow : ByteArray := prog_17_method_9_code
def yX2_sameRow : MethodName := ⟨RX2, "sameRow", "(III)Z"⟩
abbrev cX2_hash : ByteArray := prog_17_method_10_code
def yX2_hash : MethodName := ⟨RX2, "hash", "()J"⟩
abbrev cX2_isLike : ByteArray := prog_17_method_6_code
def yX2_isLike : MethodName := ⟨RX2, "isLike", "(LTableWays$Table;)Z"⟩
theorem q86 : (Jvm.Cond.initialized "TableWays$Table") ∈ lw_all := lw_g (lw_at lw_m1 5 rfl) rfl
theorem q178 : (Jvm.Cond.instantiable "TableWays$Table" (4 : Nat)) ∈ lw_all := lw_g (lw_at lw_m1 97 rfl) rfl
theorem q180 : (Jvm.Cond.instanceMethod ({ cls := "TableWays$Table", name := "<init>", desc := "()V" } : Jvm.MethodName)) ∈ lw_all := lw_g (lw_at lw_m1 99 rfl) rfl
theorem q181 : (Jvm.Cond.code ({ cls := "TableWays$Table", name := "<init>", desc := "()V" } : Jvm.MethodName) prog_17_method_1_code (1 : Nat) (Option.none : Option Jvm.ClassFile.FieldType)) ∈ lw_all := lw_g (lw_at lw_m1 100 rfl) rfl
theorem q182 : (Jvm.Cond.methodLink "TableWays$Table" (3 : Nat) ({ cls := "java/lang/Object", name := "<init>", desc := "()V" } : Jvm.MethodName)) ∈ lw_all := lw_g (lw_at lw_m1 101 rfl) rfl
theorem q183 : (Jvm.Cond.fieldLink "TableWays$Table" (9 : Nat) "TableWays$Table" "rows" "I") ∈ lw_all := lw_g (lw_at lw_m1 102 rfl) rfl
theorem q198 : (Jvm.Cond.fieldLink "TableWays$Table" (15 : Nat) "TableWays$Table" "columns" "I") ∈ lw_all := lw_g (lw_at lw_m1 117 rfl) rfl
theorem q209 : (Jvm.Cond.fieldLink "TableWays$Table" (18 : Nat) "TableWays$Table" "cells" "[J") ∈ lw_all := lw_g (lw_at lw_m1 128 rfl) rfl
theorem q211 : (Jvm.Cond.fieldLink "TableWays$Table" (22 : Nat) "TableWays$Table" "order" "[I") ∈ lw_all := lw_g (lw_at lw_m1 130 rfl) rfl
theorem q216 : (Jvm.Cond.lays "TableWays$Table" "TableWays$Table" "rows" "I") ∈ lw_all := lw_g (lw_at lw_m1 135 rfl) rfl
theorem q217 : (Jvm.Cond.soleField "TableWays$Table" "rows") ∈ lw_all := lw_g (lw_at lw_m1 136 rfl) rfl
theorem q218 : (Jvm.Cond.lays "TableWays$Table" "TableWays$Table" "columns" "I") ∈ lw_all := lw_g (lw_at lw_m1 137 rfl) rfl
theorem q219 : (Jvm.Cond.soleField "TableWays$Table" "columns") ∈ lw_all := lw_g (lw_at lw_m1 138 rfl) rfl
theorem q220 : (Jvm.Cond.laysFinal "TableWays$Table" "TableWays$Table" "cells" "[J") ∈ lw_all := lw_g (lw_at lw_m1 139 rfl) rfl
theorem q221 : (Jvm.Cond.soleField "TableWays$Table" "cells") ∈ lw_all := lw_g (lw_at lw_m1 140 rfl) rfl
theorem q222 : (Jvm.Cond.laysFinal "TableWays$Table" "TableWays$Table" "order" "[I") ∈ lw_all := lw_g (lw_at lw_m1 141 rfl) rfl
theorem q223 : (Jvm.Cond.soleField "TableWays$Table" "order") ∈ lw_all := lw_g (lw_at lw_m1 142 rfl) rfl
theorem q224 : (Jvm.Cond.superclass "TableWays$Table" "java/lang/Object") ∈ lw_all := lw_g (lw_at lw_m1 143 rfl) rfl
theorem q388 : (Jvm.Cond.instanceMethod ({ cls := "TableWays$Table", name := "begin", desc := "(II)V" } : Jvm.MethodName)) ∈ lw_all := lw_g (lw_at lw_m2 67 rfl) rfl
theorem q389 : (Jvm.Cond.selects "TableWays$Table" ({ cls := "TableWays$Table", name := "begin", desc := "(II)V" } : Jvm.MethodName) ({ cls := "TableWays$Table", name := "begin", desc := "(II)V" } : Jvm.MethodName)) ∈ lw_all := lw_g (lw_at lw_m2 68 rfl) rfl
theorem q390 : (Jvm.Cond.code ({ cls := "TableWays$Table", name := "begin", desc := "(II)V" } : Jvm.MethodName) prog_17_method_2_code (4 : Nat) (Option.none : Option Jvm.ClassFile.FieldType)) ∈ lw_all := lw_g (lw_at lw_m2 69 rfl) rfl
theorem q500 : (Jvm.Cond.instanceMethod ({ cls := "TableWays$Table", name := "set", desc := "(IIJ)V" } : Jvm.MethodName)) ∈ lw_all := lw_g (lw_at lw_m2 179 rfl) rfl
theorem q501 : (Jvm.Cond.selects "TableWays$Table" ({ cls := "TableWays$Table", name := "set", desc := "(IIJ)V" } : Jvm.MethodName) ({ cls := "TableWays$Table", name := "set", desc := "(IIJ)V" } : Jvm.MethodName)) ∈ lw_all := lw_g (lw_at lw_m2 180 rfl) rfl
theorem q502 : (Jvm.Cond.code ({ cls := "TableWays$Table", name := "set", desc := "(IIJ)V" } : Jvm.MethodName) prog_17_method_5_code (5 : Nat) (Option.none : Option Jvm.ClassFile.FieldType)) ∈ lw_all := lw_g (lw_at lw_m2 181 rfl) rfl
theorem q504 : (Jvm.Cond.instanceMethod ({ cls := "TableWays$Table", name := "take", desc := "(LTableWays$Table;)V" } : Jvm.MethodName)) ∈ lw_all := lw_g (lw_at lw_m2 183 rfl) rfl
theorem q505 : (Jvm.Cond.selects "TableWays$Table" ({ cls := "TableWays$Table", name := "take", desc := "(LTableWays$Table;)V" } : Jvm.MethodName) ({ cls := "TableWays$Table", name := "take", desc := "(LTableWays$Table;)V" } : Jvm.MethodName)) ∈ lw_all := lw_g (lw_at lw_m2 184 rfl) rfl
theorem q506 : (Jvm.Cond.code ({ cls := "TableWays$Table", name := "take", desc := "(LTableWays$Table;)V" } : Jvm.MethodName) prog_17_method_3_code (2 : Nat) (Option.none : Option Jvm.ClassFile.FieldType)) ∈ lw_all := lw_g (lw_at lw_m2 185 rfl) rfl
theorem q507 : (Jvm.Cond.methodLink "TableWays$Table" (26 : Nat) ({ cls := "java/lang/System", name := "arraycopy", desc := "(Ljava/lang/Object;ILjava/lang/Object;II)V" } : Jvm.MethodName)) ∈ lw_all := lw_g (lw_at lw_m2 186 rfl) rfl
theorem q655 : (Jvm.Cond.instanceMethod ({ cls := "TableWays$Table", name := "at", desc := "(II)J" } : Jvm.MethodName)) ∈ lw_all := lw_g (lw_at lw_m3 94 rfl) rfl
theorem q656 : (Jvm.Cond.selects "TableWays$Table" ({ cls := "TableWays$Table", name := "at", desc := "(II)J" } : Jvm.MethodName) ({ cls := "TableWays$Table", name := "at", desc := "(II)J" } : Jvm.MethodName)) ∈ lw_all := lw_g (lw_at lw_m3 95 rfl) rfl
theorem q657 : (Jvm.Cond.code ({ cls := "TableWays$Table", name := "at", desc := "(II)J" } : Jvm.MethodName) prog_17_method_4_code (3 : Nat) (Option.some Jvm.ClassFile.FieldType.long)) ∈ lw_all := lw_g (lw_at lw_m3 96 rfl) rfl
theorem q668 : (Jvm.Cond.instanceMethod ({ cls := "TableWays$Table", name := "fits", desc := "(LTableWays$Table;)Z" } : Jvm.MethodName)) ∈ lw_all := lw_g (lw_at lw_m3 107 rfl) rfl
theorem q669 : (Jvm.Cond.selects "TableWays$Table" ({ cls := "TableWays$Table", name := "fits", desc := "(LTableWays$Table;)Z" } : Jvm.MethodName) ({ cls := "TableWays$Table", name := "fits", desc := "(LTableWays$Table;)Z" } : Jvm.MethodName)) ∈ lw_all := lw_g (lw_at lw_m3 108 rfl) rfl
theorem q670 : (Jvm.Cond.code ({ cls := "TableWays$Table", name := "fits", desc := "(LTableWays$Table;)Z" } : Jvm.MethodName) prog_17_method_7_code (3 : Nat) (Option.some Jvm.ClassFile.FieldType.boolean)) ∈ lw_all := lw_g (lw_at lw_m3 109 rfl) rfl
theorem q671 : (Jvm.Cond.constantLong "TableWays$Table" (32 : Nat) (-1 : Int64)) ∈ lw_all := lw_g (lw_at lw_m3 110 rfl) rfl
theorem q701 : (Jvm.Cond.instanceMethod ({ cls := "TableWays$Table", name := "hasAny", desc := "()Z" } : Jvm.MethodName)) ∈ lw_all := lw_g (lw_at lw_m3 140 rfl) rfl
theorem q702 : (Jvm.Cond.selects "TableWays$Table" ({ cls := "TableWays$Table", name := "hasAny", desc := "()Z" } : Jvm.MethodName) ({ cls := "TableWays$Table", name := "hasAny", desc := "()Z" } : Jvm.MethodName)) ∈ lw_all := lw_g (lw_at lw_m3 141 rfl) rfl
theorem q703 : (Jvm.Cond.code ({ cls := "TableWays$Table", name := "hasAny", desc := "()Z" } : Jvm.MethodName) prog_17_method_8_code (2 : Nat) (Option.some Jvm.ClassFile.FieldType.boolean)) ∈ lw_all := lw_g (lw_at lw_m3 142 rfl) rfl
theorem q812 : (Jvm.Cond.instanceMethod ({ cls := "TableWays$Table", name := "sameRow", desc := "(III)Z" } : Jvm.MethodName)) ∈ lw_all := lw_g (lw_at lw_m4 11 rfl) rfl
theorem q813 : (Jvm.Cond.selects "TableWays$Table" ({ cls := "TableWays$Table", name := "sameRow", desc := "(III)Z" } : Jvm.MethodName) ({ cls := "TableWays$Table", name := "sameRow", desc := "(III)Z" } : Jvm.MethodName)) ∈ lw_all := lw_g (lw_at lw_m4 12 rfl) rfl
theorem q814 : (Jvm.Cond.code ({ cls := "TableWays$Table", name := "sameRow", desc := "(III)Z" } : Jvm.MethodName) prog_17_method_9_code (5 : Nat) (Option.some Jvm.ClassFile.FieldType.boolean)) ∈ lw_all := lw_g (lw_at lw_m4 13 rfl) rfl
theorem q815 : (Jvm.Cond.methodLink "TableWays$Table" (34 : Nat) ({ cls := "TableWays$Table", name := "at", desc := "(II)J" } : Jvm.MethodName)) ∈ lw_all := lw_g (lw_at lw_m4 14 rfl) rfl
theorem q873 : (Jvm.Cond.instanceMethod ({ cls := "TableWays$Table", name := "hash", desc := "()J" } : Jvm.MethodName)) ∈ lw_all := lw_g (lw_at lw_m4 72 rfl) rfl
theorem q874 : (Jvm.Cond.selects "TableWays$Table" ({ cls := "TableWays$Table", name := "hash", desc := "()J" } : Jvm.MethodName) ({ cls := "TableWays$Table", name := "hash", desc := "()J" } : Jvm.MethodName)) ∈ lw_all := lw_g (lw_at lw_m4 73 rfl) rfl
theorem q875 : (Jvm.Cond.code ({ cls := "TableWays$Table", name := "hash", desc := "()J" } : Jvm.MethodName) prog_17_method_10_code (4 : Nat) (Option.some Jvm.ClassFile.FieldType.long)) ∈ lw_all := lw_g (lw_at lw_m4 74 rfl) rfl
theorem q876 : (Jvm.Cond.constantLong "TableWays$Table" (38 : Nat) (31 : Int64)) ∈ lw_all := lw_g (lw_at lw_m4 75 rfl) rfl
theorem q877 : (Jvm.Cond.constantLong "TableWays$Table" (40 : Nat) (1099511628211 : Int64)) ∈ lw_all := lw_g (lw_at lw_m4 76 rfl) rfl
theorem q926 : (Jvm.Cond.instanceMethod ({ cls := "TableWays$Table", name := "isLike", desc := "(LTableWays$Table;)Z" } : Jvm.MethodName)) ∈ lw_all := lw_g (lw_at lw_m4 125 rfl) rfl
theorem q927 : (Jvm.Cond.selects "TableWays$Table" ({ cls := "TableWays$Table", name := "isLike", desc := "(LTableWays$Table;)Z" } : Jvm.MethodName) ({ cls := "TableWays$Table", name := "isLike", desc := "(LTableWays$Table;)Z" } : Jvm.MethodName)) ∈ lw_all := lw_g (lw_at lw_m4 126 rfl) rfl
theorem q928 : (Jvm.Cond.code ({ cls := "TableWays$Table", name := "isLike", desc := "(LTableWays$Table;)Z" } : Jvm.MethodName) prog_17_method_6_code (3 : Nat) (Option.some Jvm.ClassFile.FieldType.boolean)) ∈ lw_all := lw_g (lw_at lw_m4 127 rfl) rfl
theorem in_X2 : ∀ w ∈ wsX20, w ∈ lw_all := lw_in wsX20 [216, 218, 220, 222] (by decide +kernel) (by decide +kernel)
/-! X3.TableWays_Way.lean.txt -/
/-! TableWays$Way -/
set_option maxRecDepth 100000
def RX3 : String := "TableWays$Way"
def TX3 : u_T := fun k => match k with
  | 0 => ("TableWays$Way", "many", "I", false)
  | 1 => ("TableWays$Way", "number", "[I", true)
  | 2 => ("TableWays$Way", "a", "[I", true)
  | _ => ("TableWays$Way", "b", "[I", true)
def tyX3 : Nat → FieldType := fun k => match k with
  | 0 => .int
  | 1 => .array .int
  | 2 => .array .int
  | _ => .array .int
abbrev wsX30 : List Cond := u_ws RX3 TX3 4
theorem nmX3 : ∀ a, a < 4 → ∀ b, b < 4 → a ≠ b → (TX3 a).2.1 ≠ (TX3 b).2.1 := by decide +kernel
theorem tyX3_ok : ∀ k, k < 4 → parseFieldDescriptor (TX3 k).2.2.1 = some (tyX3 k) := by decide +kernel
abbrev cX3_init : ByteArray := prog_18_method_1_code
def yX3_init : MethodName := ⟨RX3, "<init>", "()V"⟩
abbrev cX3_add : ByteArray := prog_18_method_2_code
def yX3_add : MethodName := ⟨RX3, "add", "(III)V"⟩
abbrev cX3_take : ByteArray := prog_18_method_3_code
def yX3_take : MethodName := ⟨RX3, "take", "(LTableWays$Way;)V"⟩
theorem q87 : (Jvm.Cond.initialized "TableWays$Way") ∈ lw_all := lw_g (lw_at lw_m1 6 rfl) rfl
theorem q229 : (Jvm.Cond.instantiable "TableWays$Way" (4 : Nat)) ∈ lw_all := lw_g (lw_at lw_m1 148 rfl) rfl
theorem q231 : (Jvm.Cond.instanceMethod ({ cls := "TableWays$Way", name := "<init>", desc := "()V" } : Jvm.MethodName)) ∈ lw_all := lw_g (lw_at lw_m1 150 rfl) rfl
theorem q232 : (Jvm.Cond.code ({ cls := "TableWays$Way", name := "<init>", desc := "()V" } : Jvm.MethodName) prog_18_method_1_code (1 : Nat) (Option.none : Option Jvm.ClassFile.FieldType)) ∈ lw_all := lw_g (lw_at lw_m1 151 rfl) rfl
theorem q233 : (Jvm.Cond.methodLink "TableWays$Way" (3 : Nat) ({ cls := "java/lang/Object", name := "<init>", desc := "()V" } : Jvm.MethodName)) ∈ lw_all := lw_g (lw_at lw_m1 152 rfl) rfl
theorem q234 : (Jvm.Cond.fieldLink "TableWays$Way" (21 : Nat) "TableWays$Way" "many" "I") ∈ lw_all := lw_g (lw_at lw_m1 153 rfl) rfl
theorem q236 : (Jvm.Cond.fieldLink "TableWays$Way" (9 : Nat) "TableWays$Way" "number" "[I") ∈ lw_all := lw_g (lw_at lw_m1 155 rfl) rfl
theorem q238 : (Jvm.Cond.fieldLink "TableWays$Way" (15 : Nat) "TableWays$Way" "a" "[I") ∈ lw_all := lw_g (lw_at lw_m1 157 rfl) rfl
theorem q240 : (Jvm.Cond.fieldLink "TableWays$Way" (18 : Nat) "TableWays$Way" "b" "[I") ∈ lw_all := lw_g (lw_at lw_m1 159 rfl) rfl
theorem q242 : (Jvm.Cond.lays "TableWays$Way" "TableWays$Way" "many" "I") ∈ lw_all := lw_g (lw_at lw_m1 161 rfl) rfl
theorem q243 : (Jvm.Cond.soleField "TableWays$Way" "many") ∈ lw_all := lw_g (lw_at lw_m1 162 rfl) rfl
theorem q244 : (Jvm.Cond.laysFinal "TableWays$Way" "TableWays$Way" "number" "[I") ∈ lw_all := lw_g (lw_at lw_m1 163 rfl) rfl
theorem q245 : (Jvm.Cond.soleField "TableWays$Way" "number") ∈ lw_all := lw_g (lw_at lw_m1 164 rfl) rfl
theorem q246 : (Jvm.Cond.laysFinal "TableWays$Way" "TableWays$Way" "a" "[I") ∈ lw_all := lw_g (lw_at lw_m1 165 rfl) rfl
theorem q247 : (Jvm.Cond.soleField "TableWays$Way" "a") ∈ lw_all := lw_g (lw_at lw_m1 166 rfl) rfl
theorem q248 : (Jvm.Cond.laysFinal "TableWays$Way" "TableWays$Way" "b" "[I") ∈ lw_all := lw_g (lw_at lw_m1 167 rfl) rfl
theorem q249 : (Jvm.Cond.soleField "TableWays$Way" "b") ∈ lw_all := lw_g (lw_at lw_m1 168 rfl) rfl
theorem q250 : (Jvm.Cond.superclass "TableWays$Way" "java/lang/Object") ∈ lw_all := lw_g (lw_at lw_m1 169 rfl) rfl
theorem q565 : (Jvm.Cond.instanceMethod ({ cls := "TableWays$Way", name := "add", desc := "(III)V" } : Jvm.MethodName)) ∈ lw_all := lw_g (lw_at lw_m3 4 rfl) rfl
theorem q566 : (Jvm.Cond.selects "TableWays$Way" ({ cls := "TableWays$Way", name := "add", desc := "(III)V" } : Jvm.MethodName) ({ cls := "TableWays$Way", name := "add", desc := "(III)V" } : Jvm.MethodName)) ∈ lw_all := lw_g (lw_at lw_m3 5 rfl) rfl
theorem q567 : (Jvm.Cond.code ({ cls := "TableWays$Way", name := "add", desc := "(III)V" } : Jvm.MethodName) prog_18_method_2_code (4 : Nat) (Option.none : Option Jvm.ClassFile.FieldType)) ∈ lw_all := lw_g (lw_at lw_m3 6 rfl) rfl
theorem q626 : (Jvm.Cond.instanceMethod ({ cls := "TableWays$Way", name := "take", desc := "(LTableWays$Way;)V" } : Jvm.MethodName)) ∈ lw_all := lw_g (lw_at lw_m3 65 rfl) rfl
theorem q627 : (Jvm.Cond.selects "TableWays$Way" ({ cls := "TableWays$Way", name := "take", desc := "(LTableWays$Way;)V" } : Jvm.MethodName) ({ cls := "TableWays$Way", name := "take", desc := "(LTableWays$Way;)V" } : Jvm.MethodName)) ∈ lw_all := lw_g (lw_at lw_m3 66 rfl) rfl
theorem q628 : (Jvm.Cond.code ({ cls := "TableWays$Way", name := "take", desc := "(LTableWays$Way;)V" } : Jvm.MethodName) prog_18_method_3_code (2 : Nat) (Option.none : Option Jvm.ClassFile.FieldType)) ∈ lw_all := lw_g (lw_at lw_m3 67 rfl) rfl
theorem q629 : (Jvm.Cond.methodLink "TableWays$Way" (25 : Nat) ({ cls := "java/lang/System", name := "arraycopy", desc := "(Ljava/lang/Object;ILjava/lang/Object;II)V" } : Jvm.MethodName)) ∈ lw_all := lw_g (lw_at lw_m3 68 rfl) rfl
theorem in_X3 : ∀ w ∈ wsX30, w ∈ lw_all := lw_in wsX30 [242, 244, 246, 248] (by decide +kernel) (by decide +kernel)
/-! X6.TableWays_Kind.lean.txt -/
/-! TableWays$Kind -/
set_option maxRecDepth 100000
def RX6 : String := "TableWays$Kind"
abbrev cX6_may : ByteArray := prog_2_method_5_code
def yX6_may : MethodName := ⟨RX6, "may", "(LTableWays$Table;II)Z"⟩
theorem q98 : (Jvm.Cond.initialized "TableWays$Kind") ∈ lw_all := lw_g (lw_at lw_m1 17 rfl) rfl
theorem q207 : (Jvm.Cond.fieldLink "TableWays$Kind" (72 : Nat) "TableWays$Table" "columns" "I") ∈ lw_all := lw_g (lw_at lw_m1 126 rfl) rfl
theorem q590 : (Jvm.Cond.laysStatic "TableWays$Kind" "TURN" "LTableWays$Kind;") ∈ lw_tbl := lw_at lw_m3 29 rfl
theorem q592 : (Jvm.Cond.laysStatic "TableWays$Kind" "DROP" "LTableWays$Kind;") ∈ lw_tbl := lw_at lw_m3 31 rfl
theorem q594 : (Jvm.Cond.laysStatic "TableWays$Kind" "SPLIT" "LTableWays$Kind;") ∈ lw_tbl := lw_at lw_m3 33 rfl
theorem q596 : (Jvm.Cond.laysStatic "TableWays$Kind" "FILL" "LTableWays$Kind;") ∈ lw_tbl := lw_at lw_m3 35 rfl
theorem q598 : (Jvm.Cond.laysStatic "TableWays$Kind" "JOIN" "LTableWays$Kind;") ∈ lw_tbl := lw_at lw_m3 37 rfl
theorem q600 : (Jvm.Cond.laysStatic "TableWays$Kind" "FOLD" "LTableWays$Kind;") ∈ lw_tbl := lw_at lw_m3 39 rfl
theorem q602 : (Jvm.Cond.laysStatic "TableWays$Kind" "UNFOLD" "LTableWays$Kind;") ∈ lw_tbl := lw_at lw_m3 41 rfl
theorem q604 : (Jvm.Cond.laysStatic "TableWays$Kind" "SORT" "LTableWays$Kind;") ∈ lw_tbl := lw_at lw_m3 43 rfl
theorem q606 : (Jvm.Cond.laysStatic "TableWays$Kind" "SINGLE" "LTableWays$Kind;") ∈ lw_tbl := lw_at lw_m3 45 rfl
theorem q608 : (Jvm.Cond.laysStatic "TableWays$Kind" "COUNT" "LTableWays$Kind;") ∈ lw_tbl := lw_at lw_m3 47 rfl
theorem q610 : (Jvm.Cond.laysStatic "TableWays$Kind" "SUM" "LTableWays$Kind;") ∈ lw_tbl := lw_at lw_m3 49 rfl
theorem q612 : (Jvm.Cond.laysStatic "TableWays$Kind" "KEEP" "LTableWays$Kind;") ∈ lw_tbl := lw_at lw_m3 51 rfl
theorem q614 : (Jvm.Cond.laysStatic "TableWays$Kind" "HEAD" "LTableWays$Kind;") ∈ lw_tbl := lw_at lw_m3 53 rfl
theorem q616 : (Jvm.Cond.laysStatic "TableWays$Kind" "SWAP" "LTableWays$Kind;") ∈ lw_tbl := lw_at lw_m3 55 rfl
theorem q681 : (Jvm.Cond.instanceMethod ({ cls := "TableWays$Kind", name := "may", desc := "(LTableWays$Table;II)Z" } : Jvm.MethodName)) ∈ lw_all := lw_g (lw_at lw_m3 120 rfl) rfl
theorem q682 : (Jvm.Cond.sameMethod "TableWays$Kind" "TableWays$Kind" "may" "(LTableWays$Table;II)Z") ∈ lw_all := lw_g (lw_at lw_m3 121 rfl) rfl
theorem q697 : (Jvm.Cond.code ({ cls := "TableWays$Kind", name := "may", desc := "(LTableWays$Table;II)Z" } : Jvm.MethodName) prog_2_method_5_code (6 : Nat) (Option.some Jvm.ClassFile.FieldType.boolean)) ∈ lw_all := lw_g (lw_at lw_m3 136 rfl) rfl
theorem q698 : (Jvm.Cond.methodLinkNest "TableWays$Kind" (77 : Nat) ({ cls := "TableWays", name := "in", desc := "(JJJ)Z" } : Jvm.MethodName) "TableWays") ∈ lw_tbl := lw_at lw_m3 137 rfl
theorem q699 : (Jvm.Cond.constantLong "TableWays$Kind" (83 : Nat) (3 : Int64)) ∈ lw_all := lw_g (lw_at lw_m3 138 rfl) rfl
theorem q700 : (Jvm.Cond.methodLink "TableWays$Kind" (85 : Nat) ({ cls := "TableWays$Table", name := "hasAny", desc := "()Z" } : Jvm.MethodName)) ∈ lw_all := lw_g (lw_at lw_m3 139 rfl) rfl
theorem q705 : (Jvm.Cond.declares ({ cls := "TableWays$Kind", name := "of", desc := "(LTableWays$Table;IILTableWays$Table;)Z" } : Jvm.MethodName)) ∈ lw_tbl := lw_at lw_m3 144 rfl
theorem q706 : (Jvm.Cond.sameMethod "TableWays$Kind" "TableWays$Kind" "of" "(LTableWays$Table;IILTableWays$Table;)Z") ∈ lw_all := lw_g (lw_at lw_m3 145 rfl) rfl
theorem q1449 : (Jvm.Cond.fieldLink "TableWays$Kind" (65 : Nat) "TableWays$Kind" "first" "I") ∈ lw_all := lw_g (lw_at lw_m6 168 rfl) rfl
theorem q1450 : (Jvm.Cond.fieldLink "TableWays$Kind" (69 : Nat) "TableWays$Kind" "second" "I") ∈ lw_all := lw_g (lw_at lw_m6 169 rfl) rfl
