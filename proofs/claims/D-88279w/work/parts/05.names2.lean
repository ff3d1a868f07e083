/-! X4.TableWaysModel.lean.txt -/
/-! TableWaysModel -/
set_option maxRecDepth 100000
def RX4 : String := "TableWaysModel"
def TX4 : u_T := fun k => match k with
  | 0 => ("TableWaysModel", "rows", "[I", true)
  | 1 => ("TableWaysModel", "columns", "[I", true)
  | 2 => ("TableWaysModel", "cells", "[J", true)
  | 3 => ("TableWaysModel", "of", "I", false)
  | 4 => ("TableWaysModel", "many", "I", false)
  | 5 => ("TableWaysModel", "beginning", "[I", true)
  | 6 => ("TableWaysModel", "name", "[I", true)
  | 7 => ("TableWaysModel", "chosen", "[I", true)
  | 8 => ("TableWaysModel", "wayMany", "[I", true)
  | 9 => ("TableWaysModel", "wayStep", "[I", true)
  | 10 => ("TableWaysModel", "wayA", "[I", true)
  | 11 => ("TableWaysModel", "wayB", "[I", true)
  | 12 => ("TableWaysModel", "stop", "LTableWaysModel$Stop;", true)
  | 13 => ("TableWaysModel", "tape", "[B", true)
  | 14 => ("TableWaysModel", "taped", "I", false)
  | 15 => ("TableWaysModel", "size", "I", false)
  | 16 => ("TableWaysModel", "from", "I", false)
  | 17 => ("TableWaysModel", "behind", "I", false)
  | 18 => ("TableWaysModel", "hand", "I", false)
  | 19 => ("TableWaysModel", "blocks", "I", false)
  | 20 => ("TableWaysModel", "fault", "I", false)
  | 21 => ("TableWaysModel", "faultAt", "I", false)
  | 22 => ("TableWaysModel", "stateCells", "[J", true)
  | 23 => ("TableWaysModel", "stateShape", "[I", true)
  | 24 => ("TableWaysModel", "chained", "[I", true)
  | 25 => ("TableWaysModel", "head", "[I", true)
  | 26 => ("TableWaysModel", "leads", "[I", true)
  | 27 => ("TableWaysModel", "levelFrom", "[I", true)
  | 28 => ("TableWaysModel", "isEnd", "[Z", true)
  | 29 => ("TableWaysModel", "states", "I", false)
  | 30 => ("TableWaysModel", "ends", "I", false)
  | 31 => ("TableWaysModel", "ways", "I", false)
  | 32 => ("TableWaysModel", "hasTwo", "Z", false)
  | 33 => ("TableWaysModel", "wishOne", "I", false)
  | 34 => ("TableWaysModel", "wishTwo", "I", false)
  | 35 => ("TableWaysModel", "rowStep", "[I", true)
  | 36 => ("TableWaysModel", "rowA", "[I", true)
  | 37 => ("TableWaysModel", "rowB", "[I", true)
  | 38 => ("TableWaysModel", "toldStep", "[I", true)
  | 39 => ("TableWaysModel", "toldA", "[I", true)
  | 40 => ("TableWaysModel", "toldB", "[I", true)
  | 41 => ("TableWaysModel", "told", "I", false)
  | _ => ("TableWaysModel", "toldLength", "I", false)
def tyX4 : Nat → FieldType := fun k => match k with
  | 0 => .array .int
  | 1 => .array .int
  | 2 => .array .long
  | 3 => .int
  | 4 => .int
  | 5 => .array .int
  | 6 => .array .int
  | 7 => .array .int
  | 8 => .array .int
  | 9 => .array .int
  | 10 => .array .int
  | 11 => .array .int
  | 12 => .object "TableWaysModel$Stop"
  | 13 => .array .byte
  | 14 => .int
  | 15 => .int
  | 16 => .int
  | 17 => .int
  | 18 => .int
  | 19 => .int
  | 20 => .int
  | 21 => .int
  | 22 => .array .long
  | 23 => .array .int
  | 24 => .array .int
  | 25 => .array .int
  | 26 => .array .int
  | 27 => .array .int
  | 28 => .array .boolean
  | 29 => .int
  | 30 => .int
  | 31 => .int
  | 32 => .boolean
  | 33 => .int
  | 34 => .int
  | 35 => .array .int
  | 36 => .array .int
  | 37 => .array .int
  | 38 => .array .int
  | 39 => .array .int
  | 40 => .array .int
  | 41 => .int
  | _ => .int
abbrev wsX40 : List Cond := u_ws RX4 TX4 43
set_option maxRecDepth 100000 in
theorem nmX4 : ∀ a, a < 43 → ∀ b, b < 43 → a ≠ b → (TX4 a).2.1 ≠ (TX4 b).2.1 := by decide +kernel
set_option maxRecDepth 100000 in
theorem tyX4_ok : ∀ k, k < 43 → parseFieldDescriptor (TX4 k).2.2.1 = some (tyX4 k) := by decide +kernel
abbrev cX4_init : ByteArray := prog_21_method_2_code
def yX4_init : MethodName := ⟨RX4, "<init>", "()V"⟩
abbrev cX4_feed : ByteArray := prog_21_method_56_code
def yX4_feed : MethodName := ⟨RX4, "feed", "(IIIII)I"⟩
abbrev cX4_lay : ByteArray := prog_21_method_57_code
def yX4_lay : MethodName := ⟨RX4, "lay", "(I)V"⟩
abbrev cX4_end : ByteArray := prog_21_method_58_code
def yX4_end : MethodName := ⟨RX4, "end", "(I)I"⟩
abbrev cX4_in : ByteArray := prog_21_method_1_code
def yX4_in : MethodName := ⟨RX4, "in", "(JJJ)Z"⟩
abbrev cX4_table : ByteArray := prog_21_method_59_code
def yX4_table : MethodName := ⟨RX4, "table", "(I)I"⟩
abbrev cX4_begin : ByteArray := prog_21_method_45_code
def yX4_begin : MethodName := ⟨RX4, "begin", "()V"⟩
abbrev cX4_isTable : ByteArray := prog_21_method_14_code
def yX4_isTable : MethodName := ⟨RX4, "isTable", "(I)Z"⟩
abbrev cX4_readTable : ByteArray := prog_21_method_46_code
def yX4_readTable : MethodName := ⟨RX4, "readTable", "()V"⟩
abbrev cX4_shape : ByteArray := prog_21_method_5_code
def yX4_shape : MethodName := ⟨RX4, "shape", "(III)V"⟩
abbrev cX4_byteAt : ByteArray := prog_21_method_42_code
def yX4_byteAt : MethodName := ⟨RX4, "byteAt", "(I)I"⟩
abbrev cX4_isLetter : ByteArray := prog_21_method_43_code
def yX4_isLetter : MethodName := ⟨RX4, "isLetter", "(I)Z"⟩
abbrev cX4_isDigit : ByteArray := prog_21_method_8_code
def yX4_isDigit : MethodName := ⟨RX4, "isDigit", "(I)Z"⟩
abbrev cX4_isMark : ByteArray := prog_21_method_44_code
def yX4_isMark : MethodName := ⟨RX4, "isMark", "(I)Z"⟩
abbrev cX4_wrong : ByteArray := prog_21_method_41_code
def yX4_wrong : MethodName := ⟨RX4, "wrong", "(II)LTableWaysModel$Stop;"⟩
abbrev cX4_put : ByteArray := prog_21_method_16_code
def yX4_put : MethodName := ⟨RX4, "put", "(IIJ)V"⟩
abbrev cX4_at : ByteArray := prog_21_method_3_code
def yX4_at : MethodName := ⟨RX4, "at", "(III)I"⟩
abbrev cX4_become : ByteArray := prog_21_method_4_code
def yX4_become : MethodName := ⟨RX4, "become", "(II)V"⟩
abbrev cX4_way : ByteArray := prog_21_method_60_code
def yX4_way : MethodName := ⟨RX4, "way", "(I)I"⟩
abbrev cX4_isWay : ByteArray := prog_21_method_38_code
def yX4_isWay : MethodName := ⟨RX4, "isWay", "(I)Z"⟩
abbrev cX4_scan : ByteArray := prog_21_method_47_code
def yX4_scan : MethodName := ⟨RX4, "scan", "()V"⟩
abbrev cX4_readWay : ByteArray := prog_21_method_53_code
def yX4_readWay : MethodName := ⟨RX4, "readWay", "()V"⟩
abbrev cX4_isSign : ByteArray := prog_21_method_48_code
def yX4_isSign : MethodName := ⟨RX4, "isSign", "(I)Z"⟩
abbrev cX4_stepAtHand : ByteArray := prog_21_method_49_code
def yX4_stepAtHand : MethodName := ⟨RX4, "stepAtHand", "()I"⟩
abbrev cX4_readRepeat : ByteArray := prog_21_method_54_code
def yX4_readRepeat : MethodName := ⟨RX4, "readRepeat", "()V"⟩
abbrev cX4_digit : ByteArray := prog_21_method_51_code
def yX4_digit : MethodName := ⟨RX4, "digit", "(II)I"⟩
abbrev cX4_readStep : ByteArray := prog_21_method_55_code
def yX4_readStep : MethodName := ⟨RX4, "readStep", "(I)V"⟩
abbrev cX4_mark : ByteArray := prog_21_method_52_code
def yX4_mark : MethodName := ⟨RX4, "mark", "()I"⟩
abbrev cX4_needSign : ByteArray := prog_21_method_50_code
def yX4_needSign : MethodName := ⟨RX4, "needSign", "(I)V"⟩
abbrev cX4_takeWay : ByteArray := prog_21_method_39_code
def yX4_takeWay : MethodName := ⟨RX4, "takeWay", "(II)V"⟩
abbrev cX4_fault : ByteArray := prog_21_method_61_code
def yX4_fault : MethodName := ⟨RX4, "fault", "(I)I"⟩
abbrev cX4_size : ByteArray := prog_21_method_62_code
def yX4_size : MethodName := ⟨RX4, "size", "(II)I"⟩
abbrev cX4_isNumber : ByteArray := prog_21_method_9_code
def yX4_isNumber : MethodName := ⟨RX4, "isNumber", "(J)Z"⟩
abbrev cX4_length : ByteArray := prog_21_method_6_code
def yX4_length : MethodName := ⟨RX4, "length", "(J)I"⟩
abbrev cX4_byteOf : ByteArray := prog_21_method_7_code
def yX4_byteOf : MethodName := ⟨RX4, "byteOf", "(JII)I"⟩
abbrev cX4_cell : ByteArray := prog_21_method_63_code
def yX4_cell : MethodName := ⟨RX4, "cell", "(III)J"⟩
abbrev cX4_copy : ByteArray := prog_21_method_64_code
def yX4_copy : MethodName := ⟨RX4, "copy", "(II)I"⟩
abbrev cX4_fits : ByteArray := prog_21_method_66_code
def yX4_fits : MethodName := ⟨RX4, "fits", "(II)I"⟩
abbrev cX4_fit : ByteArray := prog_21_method_65_code
def yX4_fit : MethodName := ⟨RX4, "fit", "(IIZ)Z"⟩
abbrev cX4_step : ByteArray := prog_21_method_67_code
def yX4_step : MethodName := ⟨RX4, "step", "(IIII)I"⟩
abbrev cX4_makes : ByteArray := prog_21_method_18_code
def yX4_makes : MethodName := ⟨RX4, "makes", "(IIII)Z"⟩
abbrev cX4_hasAny : ByteArray := prog_21_method_17_code
def yX4_hasAny : MethodName := ⟨RX4, "hasAny", "(I)Z"⟩
abbrev cX4_turns : ByteArray := prog_21_method_19_code
def yX4_turns : MethodName := ⟨RX4, "turns", "(I)Z"⟩
abbrev cX4_cellAt : ByteArray := prog_21_method_15_code
def yX4_cellAt : MethodName := ⟨RX4, "cellAt", "(II)J"⟩
abbrev cX4_drops : ByteArray := prog_21_method_20_code
def yX4_drops : MethodName := ⟨RX4, "drops", "(II)Z"⟩
abbrev cX4_splits : ByteArray := prog_21_method_22_code
def yX4_splits : MethodName := ⟨RX4, "splits", "(III)Z"⟩
abbrev cX4_markOf : ByteArray := prog_21_method_13_code
def yX4_markOf : MethodName := ⟨RX4, "markOf", "(I)I"⟩
abbrev cX4_markAt : ByteArray := prog_21_method_21_code
def yX4_markAt : MethodName := ⟨RX4, "markAt", "(JI)I"⟩
abbrev cX4_fills : ByteArray := prog_21_method_23_code
def yX4_fills : MethodName := ⟨RX4, "fills", "(II)Z"⟩
abbrev cX4_joins : ByteArray := prog_21_method_24_code
def yX4_joins : MethodName := ⟨RX4, "joins", "(III)Z"⟩
abbrev cX4_folds : ByteArray := prog_21_method_25_code
def yX4_folds : MethodName := ⟨RX4, "folds", "(II)Z"⟩
abbrev cX4_unfolds : ByteArray := prog_21_method_29_code
def yX4_unfolds : MethodName := ⟨RX4, "unfolds", "(I)Z"⟩
abbrev cX4_firstLike : ByteArray := prog_21_method_27_code
def yX4_firstLike : MethodName := ⟨RX4, "firstLike", "(II)I"⟩
abbrev cX4_areLike : ByteArray := prog_21_method_26_code
def yX4_areLike : MethodName := ⟨RX4, "areLike", "(III)Z"⟩
abbrev cX4_firstName : ByteArray := prog_21_method_28_code
def yX4_firstName : MethodName := ⟨RX4, "firstName", "(II)I"⟩
abbrev cX4_sorts : ByteArray := prog_21_method_31_code
def yX4_sorts : MethodName := ⟨RX4, "sorts", "(II)Z"⟩
abbrev cX4_order : ByteArray := prog_21_method_12_code
def yX4_order : MethodName := ⟨RX4, "order", "(J)J"⟩
abbrev cX4_rowsBy : ByteArray := prog_21_method_30_code
def yX4_rowsBy : MethodName := ⟨RX4, "rowsBy", "(II)V"⟩
abbrev cX4_singles : ByteArray := prog_21_method_32_code
def yX4_singles : MethodName := ⟨RX4, "singles", "(I)Z"⟩
abbrev cX4_counts : ByteArray := prog_21_method_33_code
def yX4_counts : MethodName := ⟨RX4, "counts", "(I)Z"⟩
abbrev cX4_textOf : ByteArray := prog_21_method_11_code
def yX4_textOf : MethodName := ⟨RX4, "textOf", "(I)J"⟩
abbrev cX4_sums : ByteArray := prog_21_method_34_code
def yX4_sums : MethodName := ⟨RX4, "sums", "(III)Z"⟩
abbrev cX4_numberOf : ByteArray := prog_21_method_10_code
def yX4_numberOf : MethodName := ⟨RX4, "numberOf", "(J)I"⟩
abbrev cX4_keeps : ByteArray := prog_21_method_35_code
def yX4_keeps : MethodName := ⟨RX4, "keeps", "(II)Z"⟩
abbrev cX4_loses : ByteArray := prog_21_method_36_code
def yX4_loses : MethodName := ⟨RX4, "loses", "(I)Z"⟩
abbrev cX4_swaps : ByteArray := prog_21_method_37_code
def yX4_swaps : MethodName := ⟨RX4, "swaps", "(II)Z"⟩
abbrev cX4_walk : ByteArray := prog_21_method_68_code
def yX4_walk : MethodName := ⟨RX4, "walk", "(III)I"⟩
abbrev cX4_walks : ByteArray := prog_21_method_40_code
def yX4_walks : MethodName := ⟨RX4, "walks", "(II)I"⟩
abbrev cX4_steps : ByteArray := prog_21_method_69_code
def yX4_steps : MethodName := ⟨RX4, "steps", "(I)I"⟩
abbrev cX4_stepAt : ByteArray := prog_21_method_70_code
def yX4_stepAt : MethodName := ⟨RX4, "stepAt", "(III)I"⟩
abbrev cX4_chain : ByteArray := prog_21_method_71_code
def yX4_chain : MethodName := ⟨RX4, "chain", "(III)I"⟩
abbrev cX4_find : ByteArray := prog_21_method_80_code
def yX4_find : MethodName := ⟨RX4, "find", "(IIIII)I"⟩
abbrev cX4_clean : ByteArray := prog_21_method_81_code
def yX4_clean : MethodName := ⟨RX4, "clean", "(I)V"⟩
abbrev cX4_keepState : ByteArray := prog_21_method_76_code
def yX4_keepState : MethodName := ⟨RX4, "keepState", "()V"⟩
abbrev cX4_sum : ByteArray := prog_21_method_74_code
def yX4_sum : MethodName := ⟨RX4, "sum", "()I"⟩
abbrev cX4_shapeNow : ByteArray := prog_21_method_73_code
def yX4_shapeNow : MethodName := ⟨RX4, "shapeNow", "()I"⟩
abbrev cX4_noteEnd : ByteArray := prog_21_method_79_code
def yX4_noteEnd : MethodName := ⟨RX4, "noteEnd", "(I)V"⟩
abbrev cX4_spread : ByteArray := prog_21_method_82_code
def yX4_spread : MethodName := ⟨RX4, "spread", "(I)Z"⟩
abbrev cX4_goes : ByteArray := prog_21_method_78_code
def yX4_goes : MethodName := ⟨RX4, "goes", "(IIII)Z"⟩
abbrev cX4_takeState : ByteArray := prog_21_method_77_code
def yX4_takeState : MethodName := ⟨RX4, "takeState", "(I)V"⟩
abbrev cX4_search : ByteArray := prog_21_method_72_code
def yX4_search : MethodName := ⟨RX4, "search", "()I"⟩
abbrev cX4_isState : ByteArray := prog_21_method_75_code
def yX4_isState : MethodName := ⟨RX4, "isState", "(I)Z"⟩
abbrev cX4_countWays : ByteArray := prog_21_method_83_code
def yX4_countWays : MethodName := ⟨RX4, "countWays", "(I)V"⟩
abbrev cX4_leadsBy : ByteArray := prog_21_method_84_code
def yX4_leadsBy : MethodName := ⟨RX4, "leadsBy", "(IIIII)I"⟩
abbrev cX4_tellWays : ByteArray := prog_21_method_85_code
def yX4_tellWays : MethodName := ⟨RX4, "tellWays", "(III)V"⟩
abbrev cX4_found : ByteArray := prog_21_method_86_code
def yX4_found : MethodName := ⟨RX4, "found", "(I)I"⟩
abbrev cX4_take : ByteArray := prog_21_method_87_code
def yX4_take : MethodName := ⟨RX4, "take", "(II)I"⟩
abbrev cX4_part : ByteArray := prog_21_method_88_code
def yX4_part : MethodName := ⟨RX4, "part", "(IIIII)I"⟩
abbrev cX4_list : ByteArray := prog_21_method_89_code
def yX4_list : MethodName := ⟨RX4, "list", "(IIII)V"⟩
abbrev cX4_count : ByteArray := prog_21_method_90_code
def yX4_count : MethodName := ⟨RX4, "count", "(I)I"⟩
theorem q88 : (Jvm.Cond.initialized "TableWaysModel") ∈ lw_all := lw_g (lw_at lw_m1 7 rfl) rfl
theorem q934 : (Jvm.Cond.instantiable "TableWaysModel" (43 : Nat)) ∈ lw_all := lw_g (lw_at lw_m4 133 rfl) rfl
theorem q936 : (Jvm.Cond.instanceMethod ({ cls := "TableWaysModel", name := "<init>", desc := "()V" } : Jvm.MethodName)) ∈ lw_all := lw_g (lw_at lw_m4 135 rfl) rfl
theorem q937 : (Jvm.Cond.code ({ cls := "TableWaysModel", name := "<init>", desc := "()V" } : Jvm.MethodName) prog_21_method_2_code (2 : Nat) (Option.none : Option Jvm.ClassFile.FieldType)) ∈ lw_all := lw_g (lw_at lw_m4 136 rfl) rfl
theorem q938 : (Jvm.Cond.methodLink "TableWaysModel" (3 : Nat) ({ cls := "java/lang/Object", name := "<init>", desc := "()V" } : Jvm.MethodName)) ∈ lw_all := lw_g (lw_at lw_m4 137 rfl) rfl
theorem q939 : (Jvm.Cond.classLink "TableWaysModel" (41 : Nat) "TableWaysModel$Stop") ∈ lw_all := lw_g (lw_at lw_m4 138 rfl) rfl
theorem q948 : (Jvm.Cond.methodLink "TableWaysModel" (43 : Nat) ({ cls := "TableWaysModel$Stop", name := "<init>", desc := "()V" } : Jvm.MethodName)) ∈ lw_all := lw_g (lw_at lw_m4 147 rfl) rfl
theorem q954 : (Jvm.Cond.constant "TableWaysModel" (56 : Nat) (216000 : Int32)) ∈ lw_all := lw_g (lw_at lw_m4 153 rfl) rfl
theorem q955 : (Jvm.Cond.fieldLink "TableWaysModel" (9 : Nat) "TableWaysModel" "rows" "[I") ∈ lw_all := lw_g (lw_at lw_m4 154 rfl) rfl
theorem q956 : (Jvm.Cond.fieldLink "TableWaysModel" (13 : Nat) "TableWaysModel" "columns" "[I") ∈ lw_all := lw_g (lw_at lw_m4 155 rfl) rfl
theorem q957 : (Jvm.Cond.fieldLink "TableWaysModel" (16 : Nat) "TableWaysModel" "cells" "[J") ∈ lw_all := lw_g (lw_at lw_m4 156 rfl) rfl
theorem q958 : (Jvm.Cond.fieldLink "TableWaysModel" (117 : Nat) "TableWaysModel" "of" "I") ∈ lw_all := lw_g (lw_at lw_m4 157 rfl) rfl
theorem q959 : (Jvm.Cond.fieldLink "TableWaysModel" (126 : Nat) "TableWaysModel" "many" "I") ∈ lw_all := lw_g (lw_at lw_m4 158 rfl) rfl
theorem q960 : (Jvm.Cond.fieldLink "TableWaysModel" (20 : Nat) "TableWaysModel" "beginning" "[I") ∈ lw_all := lw_g (lw_at lw_m4 159 rfl) rfl
theorem q961 : (Jvm.Cond.fieldLink "TableWaysModel" (23 : Nat) "TableWaysModel" "name" "[I") ∈ lw_all := lw_g (lw_at lw_m4 160 rfl) rfl
theorem q962 : (Jvm.Cond.fieldLink "TableWaysModel" (26 : Nat) "TableWaysModel" "chosen" "[I") ∈ lw_all := lw_g (lw_at lw_m4 161 rfl) rfl
theorem q963 : (Jvm.Cond.fieldLink "TableWaysModel" (29 : Nat) "TableWaysModel" "wayMany" "[I") ∈ lw_all := lw_g (lw_at lw_m4 162 rfl) rfl
theorem q964 : (Jvm.Cond.fieldLink "TableWaysModel" (32 : Nat) "TableWaysModel" "wayStep" "[I") ∈ lw_all := lw_g (lw_at lw_m4 163 rfl) rfl
theorem q965 : (Jvm.Cond.fieldLink "TableWaysModel" (35 : Nat) "TableWaysModel" "wayA" "[I") ∈ lw_all := lw_g (lw_at lw_m4 164 rfl) rfl
theorem q966 : (Jvm.Cond.fieldLink "TableWaysModel" (38 : Nat) "TableWaysModel" "wayB" "[I") ∈ lw_all := lw_g (lw_at lw_m4 165 rfl) rfl
theorem q967 : (Jvm.Cond.fieldLink "TableWaysModel" (44 : Nat) "TableWaysModel" "stop" "LTableWaysModel$Stop;") ∈ lw_all := lw_g (lw_at lw_m4 166 rfl) rfl
theorem q968 : (Jvm.Cond.fieldLink "TableWaysModel" (48 : Nat) "TableWaysModel" "tape" "[B") ∈ lw_all := lw_g (lw_at lw_m4 167 rfl) rfl
theorem q969 : (Jvm.Cond.fieldLink "TableWaysModel" (239 : Nat) "TableWaysModel" "taped" "I") ∈ lw_all := lw_g (lw_at lw_m4 168 rfl) rfl
theorem q970 : (Jvm.Cond.fieldLink "TableWaysModel" (236 : Nat) "TableWaysModel" "size" "I") ∈ lw_all := lw_g (lw_at lw_m4 169 rfl) rfl
theorem q971 : (Jvm.Cond.fieldLink "TableWaysModel" (258 : Nat) "TableWaysModel" "from" "I") ∈ lw_all := lw_g (lw_at lw_m4 170 rfl) rfl
theorem q972 : (Jvm.Cond.fieldLink "TableWaysModel" (242 : Nat) "TableWaysModel" "behind" "I") ∈ lw_all := lw_g (lw_at lw_m4 171 rfl) rfl
theorem q973 : (Jvm.Cond.fieldLink "TableWaysModel" (261 : Nat) "TableWaysModel" "hand" "I") ∈ lw_all := lw_g (lw_at lw_m4 172 rfl) rfl
theorem q974 : (Jvm.Cond.fieldLink "TableWaysModel" (297 : Nat) "TableWaysModel" "blocks" "I") ∈ lw_all := lw_g (lw_at lw_m4 173 rfl) rfl
theorem q975 : (Jvm.Cond.fieldLink "TableWaysModel" (233 : Nat) "TableWaysModel" "fault" "I") ∈ lw_all := lw_g (lw_at lw_m4 174 rfl) rfl
theorem q976 : (Jvm.Cond.fieldLink "TableWaysModel" (52 : Nat) "TableWaysModel" "faultAt" "I") ∈ lw_all := lw_g (lw_at lw_m4 175 rfl) rfl
theorem q977 : (Jvm.Cond.fieldLink "TableWaysModel" (57 : Nat) "TableWaysModel" "stateCells" "[J") ∈ lw_all := lw_g (lw_at lw_m4 176 rfl) rfl
theorem q978 : (Jvm.Cond.fieldLink "TableWaysModel" (60 : Nat) "TableWaysModel" "stateShape" "[I") ∈ lw_all := lw_g (lw_at lw_m4 177 rfl) rfl
theorem q979 : (Jvm.Cond.fieldLink "TableWaysModel" (63 : Nat) "TableWaysModel" "chained" "[I") ∈ lw_all := lw_g (lw_at lw_m4 178 rfl) rfl
theorem q980 : (Jvm.Cond.fieldLink "TableWaysModel" (66 : Nat) "TableWaysModel" "head" "[I") ∈ lw_all := lw_g (lw_at lw_m4 179 rfl) rfl
theorem q981 : (Jvm.Cond.fieldLink "TableWaysModel" (69 : Nat) "TableWaysModel" "leads" "[I") ∈ lw_all := lw_g (lw_at lw_m4 180 rfl) rfl
theorem q982 : (Jvm.Cond.fieldLink "TableWaysModel" (72 : Nat) "TableWaysModel" "levelFrom" "[I") ∈ lw_all := lw_g (lw_at lw_m4 181 rfl) rfl
theorem q983 : (Jvm.Cond.fieldLink "TableWaysModel" (75 : Nat) "TableWaysModel" "isEnd" "[Z") ∈ lw_all := lw_g (lw_at lw_m4 182 rfl) rfl
theorem q984 : (Jvm.Cond.fieldLink "TableWaysModel" (359 : Nat) "TableWaysModel" "states" "I") ∈ lw_all := lw_g (lw_at lw_m4 183 rfl) rfl
theorem q985 : (Jvm.Cond.fieldLink "TableWaysModel" (371 : Nat) "TableWaysModel" "ends" "I") ∈ lw_all := lw_g (lw_at lw_m4 184 rfl) rfl
theorem q986 : (Jvm.Cond.fieldLink "TableWaysModel" (376 : Nat) "TableWaysModel" "ways" "I") ∈ lw_all := lw_g (lw_at lw_m4 185 rfl) rfl
theorem q987 : (Jvm.Cond.fieldLink "TableWaysModel" (348 : Nat) "TableWaysModel" "hasTwo" "Z") ∈ lw_all := lw_g (lw_at lw_m4 186 rfl) rfl
theorem q988 : (Jvm.Cond.fieldLink "TableWaysModel" (365 : Nat) "TableWaysModel" "wishOne" "I") ∈ lw_all := lw_g (lw_at lw_m4 187 rfl) rfl
theorem q989 : (Jvm.Cond.fieldLink "TableWaysModel" (368 : Nat) "TableWaysModel" "wishTwo" "I") ∈ lw_all := lw_g (lw_at lw_m4 188 rfl) rfl
theorem q990 : (Jvm.Cond.fieldLink "TableWaysModel" (79 : Nat) "TableWaysModel" "rowStep" "[I") ∈ lw_all := lw_g (lw_at lw_m4 189 rfl) rfl
theorem q991 : (Jvm.Cond.fieldLink "TableWaysModel" (82 : Nat) "TableWaysModel" "rowA" "[I") ∈ lw_all := lw_g (lw_at lw_m4 190 rfl) rfl
theorem q992 : (Jvm.Cond.fieldLink "TableWaysModel" (85 : Nat) "TableWaysModel" "rowB" "[I") ∈ lw_all := lw_g (lw_at lw_m4 191 rfl) rfl
theorem q993 : (Jvm.Cond.fieldLink "TableWaysModel" (88 : Nat) "TableWaysModel" "toldStep" "[I") ∈ lw_all := lw_g (lw_at lw_m4 192 rfl) rfl
theorem q994 : (Jvm.Cond.fieldLink "TableWaysModel" (91 : Nat) "TableWaysModel" "toldA" "[I") ∈ lw_all := lw_g (lw_at lw_m4 193 rfl) rfl
theorem q995 : (Jvm.Cond.fieldLink "TableWaysModel" (94 : Nat) "TableWaysModel" "toldB" "[I") ∈ lw_all := lw_g (lw_at lw_m4 194 rfl) rfl
theorem q996 : (Jvm.Cond.fieldLink "TableWaysModel" (379 : Nat) "TableWaysModel" "told" "I") ∈ lw_all := lw_g (lw_at lw_m4 195 rfl) rfl
theorem q997 : (Jvm.Cond.fieldLink "TableWaysModel" (415 : Nat) "TableWaysModel" "toldLength" "I") ∈ lw_all := lw_g (lw_at lw_m4 196 rfl) rfl
theorem q998 : (Jvm.Cond.laysFinal "TableWaysModel" "TableWaysModel" "rows" "[I") ∈ lw_all := lw_g (lw_at lw_m4 197 rfl) rfl
theorem q999 : (Jvm.Cond.soleField "TableWaysModel" "rows") ∈ lw_all := lw_g (lw_at lw_m4 198 rfl) rfl
theorem q1000 : (Jvm.Cond.laysFinal "TableWaysModel" "TableWaysModel" "columns" "[I") ∈ lw_all := lw_g (lw_at lw_m4 199 rfl) rfl
theorem q1001 : (Jvm.Cond.soleField "TableWaysModel" "columns") ∈ lw_all := lw_g (lw_at lw_m4 200 rfl) rfl
theorem q1002 : (Jvm.Cond.laysFinal "TableWaysModel" "TableWaysModel" "cells" "[J") ∈ lw_all := lw_g (lw_at lw_m4 201 rfl) rfl
theorem q1003 : (Jvm.Cond.soleField "TableWaysModel" "cells") ∈ lw_all := lw_g (lw_at lw_m4 202 rfl) rfl
theorem q1004 : (Jvm.Cond.lays "TableWaysModel" "TableWaysModel" "of" "I") ∈ lw_all := lw_g (lw_at lw_m4 203 rfl) rfl
theorem q1005 : (Jvm.Cond.soleField "TableWaysModel" "of") ∈ lw_all := lw_g (lw_at lw_m4 204 rfl) rfl
theorem q1006 : (Jvm.Cond.lays "TableWaysModel" "TableWaysModel" "many" "I") ∈ lw_all := lw_g (lw_at lw_m4 205 rfl) rfl
theorem q1007 : (Jvm.Cond.soleField "TableWaysModel" "many") ∈ lw_all := lw_g (lw_at lw_m4 206 rfl) rfl
theorem q1008 : (Jvm.Cond.laysFinal "TableWaysModel" "TableWaysModel" "beginning" "[I") ∈ lw_all := lw_g (lw_at lw_m4 207 rfl) rfl
theorem q1009 : (Jvm.Cond.soleField "TableWaysModel" "beginning") ∈ lw_all := lw_g (lw_at lw_m4 208 rfl) rfl
theorem q1010 : (Jvm.Cond.laysFinal "TableWaysModel" "TableWaysModel" "name" "[I") ∈ lw_all := lw_g (lw_at lw_m4 209 rfl) rfl
theorem q1011 : (Jvm.Cond.soleField "TableWaysModel" "name") ∈ lw_all := lw_g (lw_at lw_m4 210 rfl) rfl
theorem q1012 : (Jvm.Cond.laysFinal "TableWaysModel" "TableWaysModel" "chosen" "[I") ∈ lw_all := lw_g (lw_at lw_m4 211 rfl) rfl
theorem q1013 : (Jvm.Cond.soleField "TableWaysModel" "chosen") ∈ lw_all := lw_g (lw_at lw_m4 212 rfl) rfl
theorem q1014 : (Jvm.Cond.laysFinal "TableWaysModel" "TableWaysModel" "wayMany" "[I") ∈ lw_all := lw_g (lw_at lw_m4 213 rfl) rfl
theorem q1015 : (Jvm.Cond.soleField "TableWaysModel" "wayMany") ∈ lw_all := lw_g (lw_at lw_m4 214 rfl) rfl
theorem q1016 : (Jvm.Cond.laysFinal "TableWaysModel" "TableWaysModel" "wayStep" "[I") ∈ lw_all := lw_g (lw_at lw_m4 215 rfl) rfl
theorem q1017 : (Jvm.Cond.soleField "TableWaysModel" "wayStep") ∈ lw_all := lw_g (lw_at lw_m4 216 rfl) rfl
theorem q1018 : (Jvm.Cond.laysFinal "TableWaysModel" "TableWaysModel" "wayA" "[I") ∈ lw_all := lw_g (lw_at lw_m4 217 rfl) rfl
theorem q1019 : (Jvm.Cond.soleField "TableWaysModel" "wayA") ∈ lw_all := lw_g (lw_at lw_m4 218 rfl) rfl
theorem q1020 : (Jvm.Cond.laysFinal "TableWaysModel" "TableWaysModel" "wayB" "[I") ∈ lw_all := lw_g (lw_at lw_m4 219 rfl) rfl
theorem q1021 : (Jvm.Cond.soleField "TableWaysModel" "wayB") ∈ lw_all := lw_g (lw_at lw_m4 220 rfl) rfl
theorem q1022 : (Jvm.Cond.laysFinal "TableWaysModel" "TableWaysModel" "stop" "LTableWaysModel$Stop;") ∈ lw_all := lw_g (lw_at lw_m4 221 rfl) rfl
theorem q1023 : (Jvm.Cond.soleField "TableWaysModel" "stop") ∈ lw_all := lw_g (lw_at lw_m4 222 rfl) rfl
theorem q1024 : (Jvm.Cond.laysFinal "TableWaysModel" "TableWaysModel" "tape" "[B") ∈ lw_all := lw_g (lw_at lw_m4 223 rfl) rfl
theorem q1025 : (Jvm.Cond.soleField "TableWaysModel" "tape") ∈ lw_all := lw_g (lw_at lw_m4 224 rfl) rfl
theorem q1026 : (Jvm.Cond.lays "TableWaysModel" "TableWaysModel" "taped" "I") ∈ lw_all := lw_g (lw_at lw_m4 225 rfl) rfl
theorem q1027 : (Jvm.Cond.soleField "TableWaysModel" "taped") ∈ lw_all := lw_g (lw_at lw_m4 226 rfl) rfl
theorem q1028 : (Jvm.Cond.lays "TableWaysModel" "TableWaysModel" "size" "I") ∈ lw_all := lw_g (lw_at lw_m4 227 rfl) rfl
theorem q1029 : (Jvm.Cond.soleField "TableWaysModel" "size") ∈ lw_all := lw_g (lw_at lw_m4 228 rfl) rfl
theorem q1030 : (Jvm.Cond.lays "TableWaysModel" "TableWaysModel" "from" "I") ∈ lw_all := lw_g (lw_at lw_m4 229 rfl) rfl
theorem q1031 : (Jvm.Cond.soleField "TableWaysModel" "from") ∈ lw_all := lw_g (lw_at lw_m4 230 rfl) rfl
theorem q1032 : (Jvm.Cond.lays "TableWaysModel" "TableWaysModel" "behind" "I") ∈ lw_all := lw_g (lw_at lw_m4 231 rfl) rfl
theorem q1033 : (Jvm.Cond.soleField "TableWaysModel" "behind") ∈ lw_all := lw_g (lw_at lw_m4 232 rfl) rfl
theorem q1034 : (Jvm.Cond.lays "TableWaysModel" "TableWaysModel" "hand" "I") ∈ lw_all := lw_g (lw_at lw_m4 233 rfl) rfl
theorem q1035 : (Jvm.Cond.soleField "TableWaysModel" "hand") ∈ lw_all := lw_g (lw_at lw_m4 234 rfl) rfl
theorem q1036 : (Jvm.Cond.lays "TableWaysModel" "TableWaysModel" "blocks" "I") ∈ lw_all := lw_g (lw_at lw_m4 235 rfl) rfl
theorem q1037 : (Jvm.Cond.soleField "TableWaysModel" "blocks") ∈ lw_all := lw_g (lw_at lw_m4 236 rfl) rfl
theorem q1038 : (Jvm.Cond.lays "TableWaysModel" "TableWaysModel" "fault" "I") ∈ lw_all := lw_g (lw_at lw_m4 237 rfl) rfl
theorem q1039 : (Jvm.Cond.soleField "TableWaysModel" "fault") ∈ lw_all := lw_g (lw_at lw_m4 238 rfl) rfl
theorem q1040 : (Jvm.Cond.lays "TableWaysModel" "TableWaysModel" "faultAt" "I") ∈ lw_all := lw_g (lw_at lw_m4 239 rfl) rfl
theorem q1041 : (Jvm.Cond.soleField "TableWaysModel" "faultAt") ∈ lw_all := lw_g (lw_at lw_m5 0 rfl) rfl
theorem q1042 : (Jvm.Cond.laysFinal "TableWaysModel" "TableWaysModel" "stateCells" "[J") ∈ lw_all := lw_g (lw_at lw_m5 1 rfl) rfl
theorem q1043 : (Jvm.Cond.soleField "TableWaysModel" "stateCells") ∈ lw_all := lw_g (lw_at lw_m5 2 rfl) rfl
theorem q1044 : (Jvm.Cond.laysFinal "TableWaysModel" "TableWaysModel" "stateShape" "[I") ∈ lw_all := lw_g (lw_at lw_m5 3 rfl) rfl
theorem q1045 : (Jvm.Cond.soleField "TableWaysModel" "stateShape") ∈ lw_all := lw_g (lw_at lw_m5 4 rfl) rfl
theorem q1046 : (Jvm.Cond.laysFinal "TableWaysModel" "TableWaysModel" "chained" "[I") ∈ lw_all := lw_g (lw_at lw_m5 5 rfl) rfl
theorem q1047 : (Jvm.Cond.soleField "TableWaysModel" "chained") ∈ lw_all := lw_g (lw_at lw_m5 6 rfl) rfl
theorem q1048 : (Jvm.Cond.laysFinal "TableWaysModel" "TableWaysModel" "head" "[I") ∈ lw_all := lw_g (lw_at lw_m5 7 rfl) rfl
theorem q1049 : (Jvm.Cond.soleField "TableWaysModel" "head") ∈ lw_all := lw_g (lw_at lw_m5 8 rfl) rfl
theorem q1050 : (Jvm.Cond.laysFinal "TableWaysModel" "TableWaysModel" "leads" "[I") ∈ lw_all := lw_g (lw_at lw_m5 9 rfl) rfl
theorem q1051 : (Jvm.Cond.soleField "TableWaysModel" "leads") ∈ lw_all := lw_g (lw_at lw_m5 10 rfl) rfl
theorem q1052 : (Jvm.Cond.laysFinal "TableWaysModel" "TableWaysModel" "levelFrom" "[I") ∈ lw_all := lw_g (lw_at lw_m5 11 rfl) rfl
theorem q1053 : (Jvm.Cond.soleField "TableWaysModel" "levelFrom") ∈ lw_all := lw_g (lw_at lw_m5 12 rfl) rfl
theorem q1054 : (Jvm.Cond.laysFinal "TableWaysModel" "TableWaysModel" "isEnd" "[Z") ∈ lw_all := lw_g (lw_at lw_m5 13 rfl) rfl
theorem q1055 : (Jvm.Cond.soleField "TableWaysModel" "isEnd") ∈ lw_all := lw_g (lw_at lw_m5 14 rfl) rfl
theorem q1056 : (Jvm.Cond.lays "TableWaysModel" "TableWaysModel" "states" "I") ∈ lw_all := lw_g (lw_at lw_m5 15 rfl) rfl
theorem q1057 : (Jvm.Cond.soleField "TableWaysModel" "states") ∈ lw_all := lw_g (lw_at lw_m5 16 rfl) rfl
theorem q1058 : (Jvm.Cond.lays "TableWaysModel" "TableWaysModel" "ends" "I") ∈ lw_all := lw_g (lw_at lw_m5 17 rfl) rfl
theorem q1059 : (Jvm.Cond.soleField "TableWaysModel" "ends") ∈ lw_all := lw_g (lw_at lw_m5 18 rfl) rfl
theorem q1060 : (Jvm.Cond.lays "TableWaysModel" "TableWaysModel" "ways" "I") ∈ lw_all := lw_g (lw_at lw_m5 19 rfl) rfl
theorem q1061 : (Jvm.Cond.soleField "TableWaysModel" "ways") ∈ lw_all := lw_g (lw_at lw_m5 20 rfl) rfl
theorem q1062 : (Jvm.Cond.lays "TableWaysModel" "TableWaysModel" "hasTwo" "Z") ∈ lw_all := lw_g (lw_at lw_m5 21 rfl) rfl
theorem q1063 : (Jvm.Cond.soleField "TableWaysModel" "hasTwo") ∈ lw_all := lw_g (lw_at lw_m5 22 rfl) rfl
theorem q1064 : (Jvm.Cond.lays "TableWaysModel" "TableWaysModel" "wishOne" "I") ∈ lw_all := lw_g (lw_at lw_m5 23 rfl) rfl
theorem q1065 : (Jvm.Cond.soleField "TableWaysModel" "wishOne") ∈ lw_all := lw_g (lw_at lw_m5 24 rfl) rfl
theorem q1066 : (Jvm.Cond.lays "TableWaysModel" "TableWaysModel" "wishTwo" "I") ∈ lw_all := lw_g (lw_at lw_m5 25 rfl) rfl
theorem q1067 : (Jvm.Cond.soleField "TableWaysModel" "wishTwo") ∈ lw_all := lw_g (lw_at lw_m5 26 rfl) rfl
theorem q1068 : (Jvm.Cond.laysFinal "TableWaysModel" "TableWaysModel" "rowStep" "[I") ∈ lw_all := lw_g (lw_at lw_m5 27 rfl) rfl
theorem q1069 : (Jvm.Cond.soleField "TableWaysModel" "rowStep") ∈ lw_all := lw_g (lw_at lw_m5 28 rfl) rfl
theorem q1070 : (Jvm.Cond.laysFinal "TableWaysModel" "TableWaysModel" "rowA" "[I") ∈ lw_all := lw_g (lw_at lw_m5 29 rfl) rfl
theorem q1071 : (Jvm.Cond.soleField "TableWaysModel" "rowA") ∈ lw_all := lw_g (lw_at lw_m5 30 rfl) rfl
theorem q1072 : (Jvm.Cond.laysFinal "TableWaysModel" "TableWaysModel" "rowB" "[I") ∈ lw_all := lw_g (lw_at lw_m5 31 rfl) rfl
theorem q1073 : (Jvm.Cond.soleField "TableWaysModel" "rowB") ∈ lw_all := lw_g (lw_at lw_m5 32 rfl) rfl
theorem q1074 : (Jvm.Cond.laysFinal "TableWaysModel" "TableWaysModel" "toldStep" "[I") ∈ lw_all := lw_g (lw_at lw_m5 33 rfl) rfl
theorem q1075 : (Jvm.Cond.soleField "TableWaysModel" "toldStep") ∈ lw_all := lw_g (lw_at lw_m5 34 rfl) rfl
theorem q1076 : (Jvm.Cond.laysFinal "TableWaysModel" "TableWaysModel" "toldA" "[I") ∈ lw_all := lw_g (lw_at lw_m5 35 rfl) rfl
theorem q1077 : (Jvm.Cond.soleField "TableWaysModel" "toldA") ∈ lw_all := lw_g (lw_at lw_m5 36 rfl) rfl
theorem q1078 : (Jvm.Cond.laysFinal "TableWaysModel" "TableWaysModel" "toldB" "[I") ∈ lw_all := lw_g (lw_at lw_m5 37 rfl) rfl
theorem q1079 : (Jvm.Cond.soleField "TableWaysModel" "toldB") ∈ lw_all := lw_g (lw_at lw_m5 38 rfl) rfl
theorem q1080 : (Jvm.Cond.lays "TableWaysModel" "TableWaysModel" "told" "I") ∈ lw_all := lw_g (lw_at lw_m5 39 rfl) rfl
theorem q1081 : (Jvm.Cond.soleField "TableWaysModel" "told") ∈ lw_all := lw_g (lw_at lw_m5 40 rfl) rfl
theorem q1082 : (Jvm.Cond.lays "TableWaysModel" "TableWaysModel" "toldLength" "I") ∈ lw_all := lw_g (lw_at lw_m5 41 rfl) rfl
theorem q1083 : (Jvm.Cond.soleField "TableWaysModel" "toldLength") ∈ lw_all := lw_g (lw_at lw_m5 42 rfl) rfl
theorem q1084 : (Jvm.Cond.superclass "TableWaysModel" "java/lang/Object") ∈ lw_all := lw_g (lw_at lw_m5 43 rfl) rfl
theorem q1086 : (Jvm.Cond.instanceMethod ({ cls := "TableWaysModel", name := "feed", desc := "(IIIII)I" } : Jvm.MethodName)) ∈ lw_all := lw_g (lw_at lw_m5 45 rfl) rfl
theorem q1087 : (Jvm.Cond.selects "TableWaysModel" ({ cls := "TableWaysModel", name := "feed", desc := "(IIIII)I" } : Jvm.MethodName) ({ cls := "TableWaysModel", name := "feed", desc := "(IIIII)I" } : Jvm.MethodName)) ∈ lw_all := lw_g (lw_at lw_m5 46 rfl) rfl
theorem q1088 : (Jvm.Cond.code ({ cls := "TableWaysModel", name := "feed", desc := "(IIIII)I" } : Jvm.MethodName) prog_21_method_56_code (6 : Nat) (Option.some Jvm.ClassFile.FieldType.int)) ∈ lw_all := lw_g (lw_at lw_m5 47 rfl) rfl
theorem q1089 : (Jvm.Cond.methodLink "TableWaysModel" (309 : Nat) ({ cls := "TableWaysModel", name := "lay", desc := "(I)V" } : Jvm.MethodName)) ∈ lw_all := lw_g (lw_at lw_m5 48 rfl) rfl
theorem q1090 : (Jvm.Cond.privateMethod ({ cls := "TableWaysModel", name := "lay", desc := "(I)V" } : Jvm.MethodName)) ∈ lw_tbl := lw_at lw_m5 49 rfl
theorem q1091 : (Jvm.Cond.instanceMethod ({ cls := "TableWaysModel", name := "lay", desc := "(I)V" } : Jvm.MethodName)) ∈ lw_all := lw_g (lw_at lw_m5 50 rfl) rfl
theorem q1092 : (Jvm.Cond.code ({ cls := "TableWaysModel", name := "lay", desc := "(I)V" } : Jvm.MethodName) prog_21_method_57_code (3 : Nat) (Option.none : Option Jvm.ClassFile.FieldType)) ∈ lw_all := lw_g (lw_at lw_m5 51 rfl) rfl
theorem q1094 : (Jvm.Cond.instanceMethod ({ cls := "TableWaysModel", name := "end", desc := "(I)I" } : Jvm.MethodName)) ∈ lw_all := lw_g (lw_at lw_m5 53 rfl) rfl
theorem q1095 : (Jvm.Cond.selects "TableWaysModel" ({ cls := "TableWaysModel", name := "end", desc := "(I)I" } : Jvm.MethodName) ({ cls := "TableWaysModel", name := "end", desc := "(I)I" } : Jvm.MethodName)) ∈ lw_all := lw_g (lw_at lw_m5 54 rfl) rfl
theorem q1096 : (Jvm.Cond.code ({ cls := "TableWaysModel", name := "end", desc := "(I)I" } : Jvm.MethodName) prog_21_method_58_code (2 : Nat) (Option.some Jvm.ClassFile.FieldType.int)) ∈ lw_all := lw_g (lw_at lw_m5 55 rfl) rfl
theorem q1097 : (Jvm.Cond.methodLink "TableWaysModel" (113 : Nat) ({ cls := "TableWaysModel", name := "in", desc := "(JJJ)Z" } : Jvm.MethodName)) ∈ lw_all := lw_g (lw_at lw_m5 56 rfl) rfl
theorem q1098 : (Jvm.Cond.static ({ cls := "TableWaysModel", name := "in", desc := "(JJJ)Z" } : Jvm.MethodName)) ∈ lw_all := lw_g (lw_at lw_m5 57 rfl) rfl
theorem q1099 : (Jvm.Cond.code ({ cls := "TableWaysModel", name := "in", desc := "(JJJ)Z" } : Jvm.MethodName) prog_21_method_1_code (6 : Nat) (Option.some Jvm.ClassFile.FieldType.boolean)) ∈ lw_all := lw_g (lw_at lw_m5 58 rfl) rfl
theorem q1101 : (Jvm.Cond.instanceMethod ({ cls := "TableWaysModel", name := "table", desc := "(I)I" } : Jvm.MethodName)) ∈ lw_all := lw_g (lw_at lw_m5 60 rfl) rfl
theorem q1102 : (Jvm.Cond.selects "TableWaysModel" ({ cls := "TableWaysModel", name := "table", desc := "(I)I" } : Jvm.MethodName) ({ cls := "TableWaysModel", name := "table", desc := "(I)I" } : Jvm.MethodName)) ∈ lw_all := lw_g (lw_at lw_m5 61 rfl) rfl
theorem q1103 : (Jvm.Cond.codeWith ({ cls := "TableWaysModel", name := "table", desc := "(I)I" } : Jvm.MethodName) prog_21_method_59_code (5 : Nat) (Option.some Jvm.ClassFile.FieldType.int) [((34 : Nat), (38 : Nat), (41 : Nat), (41 : Nat))]) ∈ lw_all := lw_g (lw_at lw_m5 62 rfl) rfl
theorem q1104 : (Jvm.Cond.methodLink "TableWaysModel" (312 : Nat) ({ cls := "TableWaysModel", name := "begin", desc := "()V" } : Jvm.MethodName)) ∈ lw_all := lw_g (lw_at lw_m5 63 rfl) rfl
theorem q1105 : (Jvm.Cond.privateMethod ({ cls := "TableWaysModel", name := "begin", desc := "()V" } : Jvm.MethodName)) ∈ lw_tbl := lw_at lw_m5 64 rfl
theorem q1106 : (Jvm.Cond.instanceMethod ({ cls := "TableWaysModel", name := "begin", desc := "()V" } : Jvm.MethodName)) ∈ lw_all := lw_g (lw_at lw_m5 65 rfl) rfl
theorem q1107 : (Jvm.Cond.code ({ cls := "TableWaysModel", name := "begin", desc := "()V" } : Jvm.MethodName) prog_21_method_45_code (1 : Nat) (Option.none : Option Jvm.ClassFile.FieldType)) ∈ lw_all := lw_g (lw_at lw_m5 66 rfl) rfl
theorem q1108 : (Jvm.Cond.methodLink "TableWaysModel" (315 : Nat) ({ cls := "TableWaysModel", name := "isTable", desc := "(I)Z" } : Jvm.MethodName)) ∈ lw_all := lw_g (lw_at lw_m5 67 rfl) rfl
theorem q1109 : (Jvm.Cond.static ({ cls := "TableWaysModel", name := "isTable", desc := "(I)Z" } : Jvm.MethodName)) ∈ lw_all := lw_g (lw_at lw_m5 68 rfl) rfl
theorem q1110 : (Jvm.Cond.code ({ cls := "TableWaysModel", name := "isTable", desc := "(I)Z" } : Jvm.MethodName) prog_21_method_14_code (1 : Nat) (Option.some Jvm.ClassFile.FieldType.boolean)) ∈ lw_all := lw_g (lw_at lw_m5 69 rfl) rfl
theorem q1111 : (Jvm.Cond.constantLong "TableWaysModel" (111 : Nat) (7 : Int64)) ∈ lw_all := lw_g (lw_at lw_m5 70 rfl) rfl
theorem q1112 : (Jvm.Cond.methodLink "TableWaysModel" (318 : Nat) ({ cls := "TableWaysModel", name := "readTable", desc := "()V" } : Jvm.MethodName)) ∈ lw_all := lw_g (lw_at lw_m5 71 rfl) rfl
theorem q1113 : (Jvm.Cond.privateMethod ({ cls := "TableWaysModel", name := "readTable", desc := "()V" } : Jvm.MethodName)) ∈ lw_tbl := lw_at lw_m5 72 rfl
theorem q1114 : (Jvm.Cond.instanceMethod ({ cls := "TableWaysModel", name := "readTable", desc := "()V" } : Jvm.MethodName)) ∈ lw_all := lw_g (lw_at lw_m5 73 rfl) rfl
theorem q1115 : (Jvm.Cond.code ({ cls := "TableWaysModel", name := "readTable", desc := "()V" } : Jvm.MethodName) prog_21_method_46_code (12 : Nat) (Option.none : Option Jvm.ClassFile.FieldType)) ∈ lw_all := lw_g (lw_at lw_m5 74 rfl) rfl
theorem q1116 : (Jvm.Cond.methodLink "TableWaysModel" (176 : Nat) ({ cls := "TableWaysModel", name := "shape", desc := "(III)V" } : Jvm.MethodName)) ∈ lw_all := lw_g (lw_at lw_m5 75 rfl) rfl
theorem q1117 : (Jvm.Cond.privateMethod ({ cls := "TableWaysModel", name := "shape", desc := "(III)V" } : Jvm.MethodName)) ∈ lw_tbl := lw_at lw_m5 76 rfl
theorem q1118 : (Jvm.Cond.instanceMethod ({ cls := "TableWaysModel", name := "shape", desc := "(III)V" } : Jvm.MethodName)) ∈ lw_all := lw_g (lw_at lw_m5 77 rfl) rfl
theorem q1119 : (Jvm.Cond.code ({ cls := "TableWaysModel", name := "shape", desc := "(III)V" } : Jvm.MethodName) prog_21_method_5_code (5 : Nat) (Option.none : Option Jvm.ClassFile.FieldType)) ∈ lw_all := lw_g (lw_at lw_m5 78 rfl) rfl
theorem q1120 : (Jvm.Cond.methodLink "TableWaysModel" (245 : Nat) ({ cls := "TableWaysModel", name := "byteAt", desc := "(I)I" } : Jvm.MethodName)) ∈ lw_all := lw_g (lw_at lw_m5 79 rfl) rfl
theorem q1121 : (Jvm.Cond.privateMethod ({ cls := "TableWaysModel", name := "byteAt", desc := "(I)I" } : Jvm.MethodName)) ∈ lw_tbl := lw_at lw_m5 80 rfl
theorem q1122 : (Jvm.Cond.instanceMethod ({ cls := "TableWaysModel", name := "byteAt", desc := "(I)I" } : Jvm.MethodName)) ∈ lw_all := lw_g (lw_at lw_m5 81 rfl) rfl
theorem q1123 : (Jvm.Cond.code ({ cls := "TableWaysModel", name := "byteAt", desc := "(I)I" } : Jvm.MethodName) prog_21_method_42_code (2 : Nat) (Option.some Jvm.ClassFile.FieldType.int)) ∈ lw_all := lw_g (lw_at lw_m5 82 rfl) rfl
theorem q1124 : (Jvm.Cond.constantLong "TableWaysModel" (124 : Nat) (-1 : Int64)) ∈ lw_all := lw_g (lw_at lw_m5 83 rfl) rfl
theorem q1125 : (Jvm.Cond.methodLink "TableWaysModel" (248 : Nat) ({ cls := "TableWaysModel", name := "isLetter", desc := "(I)Z" } : Jvm.MethodName)) ∈ lw_all := lw_g (lw_at lw_m5 84 rfl) rfl
theorem q1126 : (Jvm.Cond.static ({ cls := "TableWaysModel", name := "isLetter", desc := "(I)Z" } : Jvm.MethodName)) ∈ lw_all := lw_g (lw_at lw_m5 85 rfl) rfl
theorem q1127 : (Jvm.Cond.code ({ cls := "TableWaysModel", name := "isLetter", desc := "(I)Z" } : Jvm.MethodName) prog_21_method_43_code (1 : Nat) (Option.some Jvm.ClassFile.FieldType.boolean)) ∈ lw_all := lw_g (lw_at lw_m5 86 rfl) rfl
theorem q1128 : (Jvm.Cond.methodLink "TableWaysModel" (107 : Nat) ({ cls := "TableWaysModel", name := "isDigit", desc := "(I)Z" } : Jvm.MethodName)) ∈ lw_all := lw_g (lw_at lw_m5 87 rfl) rfl
theorem q1129 : (Jvm.Cond.static ({ cls := "TableWaysModel", name := "isDigit", desc := "(I)Z" } : Jvm.MethodName)) ∈ lw_all := lw_g (lw_at lw_m5 88 rfl) rfl
theorem q1130 : (Jvm.Cond.code ({ cls := "TableWaysModel", name := "isDigit", desc := "(I)Z" } : Jvm.MethodName) prog_21_method_8_code (1 : Nat) (Option.some Jvm.ClassFile.FieldType.boolean)) ∈ lw_all := lw_g (lw_at lw_m5 89 rfl) rfl
theorem q1131 : (Jvm.Cond.methodLink "TableWaysModel" (251 : Nat) ({ cls := "TableWaysModel", name := "isMark", desc := "(I)Z" } : Jvm.MethodName)) ∈ lw_all := lw_g (lw_at lw_m5 90 rfl) rfl
theorem q1132 : (Jvm.Cond.static ({ cls := "TableWaysModel", name := "isMark", desc := "(I)Z" } : Jvm.MethodName)) ∈ lw_all := lw_g (lw_at lw_m5 91 rfl) rfl
theorem q1133 : (Jvm.Cond.code ({ cls := "TableWaysModel", name := "isMark", desc := "(I)Z" } : Jvm.MethodName) prog_21_method_44_code (1 : Nat) (Option.some Jvm.ClassFile.FieldType.boolean)) ∈ lw_all := lw_g (lw_at lw_m5 92 rfl) rfl
theorem q1134 : (Jvm.Cond.methodLink "TableWaysModel" (254 : Nat) ({ cls := "TableWaysModel", name := "wrong", desc := "(II)LTableWaysModel$Stop;" } : Jvm.MethodName)) ∈ lw_all := lw_g (lw_at lw_m5 93 rfl) rfl
theorem q1135 : (Jvm.Cond.privateMethod ({ cls := "TableWaysModel", name := "wrong", desc := "(II)LTableWaysModel$Stop;" } : Jvm.MethodName)) ∈ lw_tbl := lw_at lw_m5 94 rfl
theorem q1136 : (Jvm.Cond.instanceMethod ({ cls := "TableWaysModel", name := "wrong", desc := "(II)LTableWaysModel$Stop;" } : Jvm.MethodName)) ∈ lw_all := lw_g (lw_at lw_m5 95 rfl) rfl
theorem q1137 : (Jvm.Cond.code ({ cls := "TableWaysModel", name := "wrong", desc := "(II)LTableWaysModel$Stop;" } : Jvm.MethodName) prog_21_method_41_code (3 : Nat) (Option.some (Jvm.ClassFile.FieldType.object "TableWaysModel$Stop"))) ∈ lw_all := lw_g (lw_at lw_m5 96 rfl) rfl
theorem q1138 : (Jvm.Cond.methodLink "TableWaysModel" (184 : Nat) ({ cls := "TableWaysModel", name := "put", desc := "(IIJ)V" } : Jvm.MethodName)) ∈ lw_all := lw_g (lw_at lw_m5 97 rfl) rfl
theorem q1139 : (Jvm.Cond.privateMethod ({ cls := "TableWaysModel", name := "put", desc := "(IIJ)V" } : Jvm.MethodName)) ∈ lw_tbl := lw_at lw_m5 98 rfl
theorem q1140 : (Jvm.Cond.instanceMethod ({ cls := "TableWaysModel", name := "put", desc := "(IIJ)V" } : Jvm.MethodName)) ∈ lw_all := lw_g (lw_at lw_m5 99 rfl) rfl
theorem q1141 : (Jvm.Cond.code ({ cls := "TableWaysModel", name := "put", desc := "(IIJ)V" } : Jvm.MethodName) prog_21_method_16_code (5 : Nat) (Option.none : Option Jvm.ClassFile.FieldType)) ∈ lw_all := lw_g (lw_at lw_m5 100 rfl) rfl
theorem q1142 : (Jvm.Cond.methodLink "TableWaysModel" (120 : Nat) ({ cls := "TableWaysModel", name := "at", desc := "(III)I" } : Jvm.MethodName)) ∈ lw_all := lw_g (lw_at lw_m5 101 rfl) rfl
theorem q1143 : (Jvm.Cond.static ({ cls := "TableWaysModel", name := "at", desc := "(III)I" } : Jvm.MethodName)) ∈ lw_all := lw_g (lw_at lw_m5 102 rfl) rfl
theorem q1144 : (Jvm.Cond.code ({ cls := "TableWaysModel", name := "at", desc := "(III)I" } : Jvm.MethodName) prog_21_method_3_code (3 : Nat) (Option.some Jvm.ClassFile.FieldType.int)) ∈ lw_all := lw_g (lw_at lw_m5 103 rfl) rfl
theorem q1145 : (Jvm.Cond.methodLink "TableWaysModel" (196 : Nat) ({ cls := "TableWaysModel", name := "become", desc := "(II)V" } : Jvm.MethodName)) ∈ lw_all := lw_g (lw_at lw_m5 104 rfl) rfl
theorem q1146 : (Jvm.Cond.privateMethod ({ cls := "TableWaysModel", name := "become", desc := "(II)V" } : Jvm.MethodName)) ∈ lw_tbl := lw_at lw_m5 105 rfl
theorem q1147 : (Jvm.Cond.instanceMethod ({ cls := "TableWaysModel", name := "become", desc := "(II)V" } : Jvm.MethodName)) ∈ lw_all := lw_g (lw_at lw_m5 106 rfl) rfl
theorem q1148 : (Jvm.Cond.code ({ cls := "TableWaysModel", name := "become", desc := "(II)V" } : Jvm.MethodName) prog_21_method_4_code (4 : Nat) (Option.none : Option Jvm.ClassFile.FieldType)) ∈ lw_all := lw_g (lw_at lw_m5 107 rfl) rfl
theorem q1150 : (Jvm.Cond.instanceMethod ({ cls := "TableWaysModel", name := "way", desc := "(I)I" } : Jvm.MethodName)) ∈ lw_all := lw_g (lw_at lw_m5 109 rfl) rfl
theorem q1151 : (Jvm.Cond.selects "TableWaysModel" ({ cls := "TableWaysModel", name := "way", desc := "(I)I" } : Jvm.MethodName) ({ cls := "TableWaysModel", name := "way", desc := "(I)I" } : Jvm.MethodName)) ∈ lw_all := lw_g (lw_at lw_m5 110 rfl) rfl
theorem q1152 : (Jvm.Cond.codeWith ({ cls := "TableWaysModel", name := "way", desc := "(I)I" } : Jvm.MethodName) prog_21_method_60_code (5 : Nat) (Option.some Jvm.ClassFile.FieldType.int) [((47 : Nat), (72 : Nat), (75 : Nat), (41 : Nat))]) ∈ lw_all := lw_g (lw_at lw_m5 111 rfl) rfl
theorem q1153 : (Jvm.Cond.methodLink "TableWaysModel" (321 : Nat) ({ cls := "TableWaysModel", name := "isWay", desc := "(I)Z" } : Jvm.MethodName)) ∈ lw_all := lw_g (lw_at lw_m5 112 rfl) rfl
theorem q1154 : (Jvm.Cond.static ({ cls := "TableWaysModel", name := "isWay", desc := "(I)Z" } : Jvm.MethodName)) ∈ lw_all := lw_g (lw_at lw_m5 113 rfl) rfl
theorem q1155 : (Jvm.Cond.code ({ cls := "TableWaysModel", name := "isWay", desc := "(I)Z" } : Jvm.MethodName) prog_21_method_38_code (1 : Nat) (Option.some Jvm.ClassFile.FieldType.boolean)) ∈ lw_all := lw_g (lw_at lw_m5 114 rfl) rfl
theorem q1156 : (Jvm.Cond.methodLink "TableWaysModel" (281 : Nat) ({ cls := "TableWaysModel", name := "scan", desc := "()V" } : Jvm.MethodName)) ∈ lw_all := lw_g (lw_at lw_m5 115 rfl) rfl
theorem q1157 : (Jvm.Cond.privateMethod ({ cls := "TableWaysModel", name := "scan", desc := "()V" } : Jvm.MethodName)) ∈ lw_tbl := lw_at lw_m5 116 rfl
theorem q1158 : (Jvm.Cond.instanceMethod ({ cls := "TableWaysModel", name := "scan", desc := "()V" } : Jvm.MethodName)) ∈ lw_all := lw_g (lw_at lw_m5 117 rfl) rfl
theorem q1159 : (Jvm.Cond.code ({ cls := "TableWaysModel", name := "scan", desc := "()V" } : Jvm.MethodName) prog_21_method_47_code (2 : Nat) (Option.none : Option Jvm.ClassFile.FieldType)) ∈ lw_all := lw_g (lw_at lw_m5 118 rfl) rfl
theorem q1160 : (Jvm.Cond.methodLink "TableWaysModel" (300 : Nat) ({ cls := "TableWaysModel", name := "readWay", desc := "()V" } : Jvm.MethodName)) ∈ lw_all := lw_g (lw_at lw_m5 119 rfl) rfl
theorem q1161 : (Jvm.Cond.privateMethod ({ cls := "TableWaysModel", name := "readWay", desc := "()V" } : Jvm.MethodName)) ∈ lw_tbl := lw_at lw_m5 120 rfl
theorem q1162 : (Jvm.Cond.instanceMethod ({ cls := "TableWaysModel", name := "readWay", desc := "()V" } : Jvm.MethodName)) ∈ lw_all := lw_g (lw_at lw_m5 121 rfl) rfl
theorem q1163 : (Jvm.Cond.code ({ cls := "TableWaysModel", name := "readWay", desc := "()V" } : Jvm.MethodName) prog_21_method_53_code (2 : Nat) (Option.none : Option Jvm.ClassFile.FieldType)) ∈ lw_all := lw_g (lw_at lw_m5 122 rfl) rfl
theorem q1164 : (Jvm.Cond.methodLink "TableWaysModel" (278 : Nat) ({ cls := "TableWaysModel", name := "isSign", desc := "(I)Z" } : Jvm.MethodName)) ∈ lw_all := lw_g (lw_at lw_m5 123 rfl) rfl
theorem q1165 : (Jvm.Cond.privateMethod ({ cls := "TableWaysModel", name := "isSign", desc := "(I)Z" } : Jvm.MethodName)) ∈ lw_tbl := lw_at lw_m5 124 rfl
theorem q1166 : (Jvm.Cond.instanceMethod ({ cls := "TableWaysModel", name := "isSign", desc := "(I)Z" } : Jvm.MethodName)) ∈ lw_all := lw_g (lw_at lw_m5 125 rfl) rfl
theorem q1167 : (Jvm.Cond.code ({ cls := "TableWaysModel", name := "isSign", desc := "(I)Z" } : Jvm.MethodName) prog_21_method_48_code (2 : Nat) (Option.some Jvm.ClassFile.FieldType.boolean)) ∈ lw_all := lw_g (lw_at lw_m5 126 rfl) rfl
theorem q1168 : (Jvm.Cond.methodLink "TableWaysModel" (284 : Nat) ({ cls := "TableWaysModel", name := "stepAtHand", desc := "()I" } : Jvm.MethodName)) ∈ lw_all := lw_g (lw_at lw_m5 127 rfl) rfl
theorem q1169 : (Jvm.Cond.privateMethod ({ cls := "TableWaysModel", name := "stepAtHand", desc := "()I" } : Jvm.MethodName)) ∈ lw_tbl := lw_at lw_m5 128 rfl
theorem q1170 : (Jvm.Cond.instanceMethod ({ cls := "TableWaysModel", name := "stepAtHand", desc := "()I" } : Jvm.MethodName)) ∈ lw_all := lw_g (lw_at lw_m5 129 rfl) rfl
theorem q1171 : (Jvm.Cond.code ({ cls := "TableWaysModel", name := "stepAtHand", desc := "()I" } : Jvm.MethodName) prog_21_method_49_code (6 : Nat) (Option.some Jvm.ClassFile.FieldType.int)) ∈ lw_all := lw_g (lw_at lw_m5 130 rfl) rfl
theorem q1172 : (Jvm.Cond.stringRef "TableWaysModel" (264 : Nat) " turn drop split fill join fold unfold sort single count sum keep head swap repeat ") ∈ lw_tbl := lw_at lw_m5 131 rfl
theorem q1173 : (Jvm.Cond.methodLink "TableWaysModel" (266 : Nat) ({ cls := "java/lang/String", name := "length", desc := "()I" } : Jvm.MethodName)) ∈ lw_all := lw_g (lw_at lw_m5 132 rfl) rfl
theorem q1174 : (Jvm.Cond.methodLink "TableWaysModel" (271 : Nat) ({ cls := "java/lang/String", name := "indexOf", desc := "(II)I" } : Jvm.MethodName)) ∈ lw_all := lw_g (lw_at lw_m5 133 rfl) rfl
theorem q1175 : (Jvm.Cond.methodLink "TableWaysModel" (274 : Nat) ({ cls := "java/lang/String", name := "charAt", desc := "(I)C" } : Jvm.MethodName)) ∈ lw_all := lw_g (lw_at lw_m5 134 rfl) rfl
theorem q1176 : (Jvm.Cond.methodLink "TableWaysModel" (287 : Nat) ({ cls := "TableWaysModel", name := "readRepeat", desc := "()V" } : Jvm.MethodName)) ∈ lw_all := lw_g (lw_at lw_m5 135 rfl) rfl
theorem q1177 : (Jvm.Cond.privateMethod ({ cls := "TableWaysModel", name := "readRepeat", desc := "()V" } : Jvm.MethodName)) ∈ lw_tbl := lw_at lw_m5 136 rfl
theorem q1178 : (Jvm.Cond.instanceMethod ({ cls := "TableWaysModel", name := "readRepeat", desc := "()V" } : Jvm.MethodName)) ∈ lw_all := lw_g (lw_at lw_m5 137 rfl) rfl
theorem q1179 : (Jvm.Cond.code ({ cls := "TableWaysModel", name := "readRepeat", desc := "()V" } : Jvm.MethodName) prog_21_method_54_code (5 : Nat) (Option.none : Option Jvm.ClassFile.FieldType)) ∈ lw_all := lw_g (lw_at lw_m5 138 rfl) rfl
theorem q1180 : (Jvm.Cond.methodLink "TableWaysModel" (294 : Nat) ({ cls := "TableWaysModel", name := "digit", desc := "(II)I" } : Jvm.MethodName)) ∈ lw_all := lw_g (lw_at lw_m5 139 rfl) rfl
theorem q1181 : (Jvm.Cond.privateMethod ({ cls := "TableWaysModel", name := "digit", desc := "(II)I" } : Jvm.MethodName)) ∈ lw_tbl := lw_at lw_m5 140 rfl
theorem q1182 : (Jvm.Cond.instanceMethod ({ cls := "TableWaysModel", name := "digit", desc := "(II)I" } : Jvm.MethodName)) ∈ lw_all := lw_g (lw_at lw_m5 141 rfl) rfl
theorem q1183 : (Jvm.Cond.code ({ cls := "TableWaysModel", name := "digit", desc := "(II)I" } : Jvm.MethodName) prog_21_method_51_code (4 : Nat) (Option.some Jvm.ClassFile.FieldType.int)) ∈ lw_all := lw_g (lw_at lw_m5 142 rfl) rfl
theorem q1184 : (Jvm.Cond.methodLink "TableWaysModel" (290 : Nat) ({ cls := "TableWaysModel", name := "readStep", desc := "(I)V" } : Jvm.MethodName)) ∈ lw_all := lw_g (lw_at lw_m5 143 rfl) rfl
theorem q1185 : (Jvm.Cond.privateMethod ({ cls := "TableWaysModel", name := "readStep", desc := "(I)V" } : Jvm.MethodName)) ∈ lw_tbl := lw_at lw_m5 144 rfl
theorem q1186 : (Jvm.Cond.instanceMethod ({ cls := "TableWaysModel", name := "readStep", desc := "(I)V" } : Jvm.MethodName)) ∈ lw_all := lw_g (lw_at lw_m5 145 rfl) rfl
theorem q1187 : (Jvm.Cond.code ({ cls := "TableWaysModel", name := "readStep", desc := "(I)V" } : Jvm.MethodName) prog_21_method_55_code (3 : Nat) (Option.none : Option Jvm.ClassFile.FieldType)) ∈ lw_all := lw_g (lw_at lw_m5 146 rfl) rfl
theorem q1188 : (Jvm.Cond.methodLink "TableWaysModel" (303 : Nat) ({ cls := "TableWaysModel", name := "mark", desc := "()I" } : Jvm.MethodName)) ∈ lw_all := lw_g (lw_at lw_m5 147 rfl) rfl
theorem q1189 : (Jvm.Cond.privateMethod ({ cls := "TableWaysModel", name := "mark", desc := "()I" } : Jvm.MethodName)) ∈ lw_tbl := lw_at lw_m5 148 rfl
theorem q1190 : (Jvm.Cond.instanceMethod ({ cls := "TableWaysModel", name := "mark", desc := "()I" } : Jvm.MethodName)) ∈ lw_all := lw_g (lw_at lw_m5 149 rfl) rfl
theorem q1191 : (Jvm.Cond.code ({ cls := "TableWaysModel", name := "mark", desc := "()I" } : Jvm.MethodName) prog_21_method_52_code (2 : Nat) (Option.some Jvm.ClassFile.FieldType.int)) ∈ lw_all := lw_g (lw_at lw_m5 150 rfl) rfl
theorem q1192 : (Jvm.Cond.methodLink "TableWaysModel" (306 : Nat) ({ cls := "TableWaysModel", name := "needSign", desc := "(I)V" } : Jvm.MethodName)) ∈ lw_all := lw_g (lw_at lw_m5 151 rfl) rfl
theorem q1193 : (Jvm.Cond.privateMethod ({ cls := "TableWaysModel", name := "needSign", desc := "(I)V" } : Jvm.MethodName)) ∈ lw_tbl := lw_at lw_m5 152 rfl
theorem q1194 : (Jvm.Cond.instanceMethod ({ cls := "TableWaysModel", name := "needSign", desc := "(I)V" } : Jvm.MethodName)) ∈ lw_all := lw_g (lw_at lw_m5 153 rfl) rfl
theorem q1195 : (Jvm.Cond.code ({ cls := "TableWaysModel", name := "needSign", desc := "(I)V" } : Jvm.MethodName) prog_21_method_50_code (2 : Nat) (Option.none : Option Jvm.ClassFile.FieldType)) ∈ lw_all := lw_g (lw_at lw_m5 154 rfl) rfl
theorem q1196 : (Jvm.Cond.methodLink "TableWaysModel" (324 : Nat) ({ cls := "TableWaysModel", name := "takeWay", desc := "(II)V" } : Jvm.MethodName)) ∈ lw_all := lw_g (lw_at lw_m5 155 rfl) rfl
theorem q1197 : (Jvm.Cond.privateMethod ({ cls := "TableWaysModel", name := "takeWay", desc := "(II)V" } : Jvm.MethodName)) ∈ lw_tbl := lw_at lw_m5 156 rfl
theorem q1198 : (Jvm.Cond.instanceMethod ({ cls := "TableWaysModel", name := "takeWay", desc := "(II)V" } : Jvm.MethodName)) ∈ lw_all := lw_g (lw_at lw_m5 157 rfl) rfl
theorem q1199 : (Jvm.Cond.code ({ cls := "TableWaysModel", name := "takeWay", desc := "(II)V" } : Jvm.MethodName) prog_21_method_39_code (4 : Nat) (Option.none : Option Jvm.ClassFile.FieldType)) ∈ lw_all := lw_g (lw_at lw_m5 158 rfl) rfl
theorem q1201 : (Jvm.Cond.instanceMethod ({ cls := "TableWaysModel", name := "fault", desc := "(I)I" } : Jvm.MethodName)) ∈ lw_all := lw_g (lw_at lw_m5 160 rfl) rfl
theorem q1202 : (Jvm.Cond.selects "TableWaysModel" ({ cls := "TableWaysModel", name := "fault", desc := "(I)I" } : Jvm.MethodName) ({ cls := "TableWaysModel", name := "fault", desc := "(I)I" } : Jvm.MethodName)) ∈ lw_all := lw_g (lw_at lw_m5 161 rfl) rfl
theorem q1203 : (Jvm.Cond.code ({ cls := "TableWaysModel", name := "fault", desc := "(I)I" } : Jvm.MethodName) prog_21_method_61_code (2 : Nat) (Option.some Jvm.ClassFile.FieldType.int)) ∈ lw_all := lw_g (lw_at lw_m5 162 rfl) rfl
theorem q1205 : (Jvm.Cond.instanceMethod ({ cls := "TableWaysModel", name := "size", desc := "(II)I" } : Jvm.MethodName)) ∈ lw_all := lw_g (lw_at lw_m5 164 rfl) rfl
theorem q1206 : (Jvm.Cond.selects "TableWaysModel" ({ cls := "TableWaysModel", name := "size", desc := "(II)I" } : Jvm.MethodName) ({ cls := "TableWaysModel", name := "size", desc := "(II)I" } : Jvm.MethodName)) ∈ lw_all := lw_g (lw_at lw_m5 165 rfl) rfl
theorem q1207 : (Jvm.Cond.code ({ cls := "TableWaysModel", name := "size", desc := "(II)I" } : Jvm.MethodName) prog_21_method_62_code (8 : Nat) (Option.some Jvm.ClassFile.FieldType.int)) ∈ lw_all := lw_g (lw_at lw_m5 166 rfl) rfl
theorem q1208 : (Jvm.Cond.constantLong "TableWaysModel" (327 : Nat) (2 : Int64)) ∈ lw_all := lw_g (lw_at lw_m5 167 rfl) rfl
theorem q1209 : (Jvm.Cond.constantLong "TableWaysModel" (329 : Nat) (4 : Int64)) ∈ lw_all := lw_g (lw_at lw_m5 168 rfl) rfl
theorem q1210 : (Jvm.Cond.methodLink "TableWaysModel" (221 : Nat) ({ cls := "TableWaysModel", name := "isNumber", desc := "(J)Z" } : Jvm.MethodName)) ∈ lw_all := lw_g (lw_at lw_m5 169 rfl) rfl
theorem q1211 : (Jvm.Cond.static ({ cls := "TableWaysModel", name := "isNumber", desc := "(J)Z" } : Jvm.MethodName)) ∈ lw_all := lw_g (lw_at lw_m5 170 rfl) rfl
theorem q1212 : (Jvm.Cond.code ({ cls := "TableWaysModel", name := "isNumber", desc := "(J)Z" } : Jvm.MethodName) prog_21_method_9_code (5 : Nat) (Option.some Jvm.ClassFile.FieldType.boolean)) ∈ lw_all := lw_g (lw_at lw_m5 171 rfl) rfl
theorem q1213 : (Jvm.Cond.methodLink "TableWaysModel" (99 : Nat) ({ cls := "TableWaysModel", name := "length", desc := "(J)I" } : Jvm.MethodName)) ∈ lw_all := lw_g (lw_at lw_m5 172 rfl) rfl
theorem q1214 : (Jvm.Cond.static ({ cls := "TableWaysModel", name := "length", desc := "(J)I" } : Jvm.MethodName)) ∈ lw_all := lw_g (lw_at lw_m5 173 rfl) rfl
theorem q1215 : (Jvm.Cond.code ({ cls := "TableWaysModel", name := "length", desc := "(J)I" } : Jvm.MethodName) prog_21_method_6_code (5 : Nat) (Option.some Jvm.ClassFile.FieldType.int)) ∈ lw_all := lw_g (lw_at lw_m5 174 rfl) rfl
theorem q1216 : (Jvm.Cond.methodLink "TableWaysModel" (103 : Nat) ({ cls := "TableWaysModel", name := "byteOf", desc := "(JII)I" } : Jvm.MethodName)) ∈ lw_all := lw_g (lw_at lw_m5 175 rfl) rfl
theorem q1217 : (Jvm.Cond.static ({ cls := "TableWaysModel", name := "byteOf", desc := "(JII)I" } : Jvm.MethodName)) ∈ lw_all := lw_g (lw_at lw_m5 176 rfl) rfl
theorem q1218 : (Jvm.Cond.code ({ cls := "TableWaysModel", name := "byteOf", desc := "(JII)I" } : Jvm.MethodName) prog_21_method_7_code (4 : Nat) (Option.some Jvm.ClassFile.FieldType.int)) ∈ lw_all := lw_g (lw_at lw_m5 177 rfl) rfl
theorem q1219 : (Jvm.Cond.constantLong "TableWaysModel" (97 : Nat) (255 : Int64)) ∈ lw_all := lw_g (lw_at lw_m5 178 rfl) rfl
theorem q1221 : (Jvm.Cond.instanceMethod ({ cls := "TableWaysModel", name := "cell", desc := "(III)J" } : Jvm.MethodName)) ∈ lw_all := lw_g (lw_at lw_m5 180 rfl) rfl
theorem q1222 : (Jvm.Cond.selects "TableWaysModel" ({ cls := "TableWaysModel", name := "cell", desc := "(III)J" } : Jvm.MethodName) ({ cls := "TableWaysModel", name := "cell", desc := "(III)J" } : Jvm.MethodName)) ∈ lw_all := lw_g (lw_at lw_m5 181 rfl) rfl
theorem q1223 : (Jvm.Cond.code ({ cls := "TableWaysModel", name := "cell", desc := "(III)J" } : Jvm.MethodName) prog_21_method_63_code (4 : Nat) (Option.some Jvm.ClassFile.FieldType.long)) ∈ lw_all := lw_g (lw_at lw_m5 182 rfl) rfl
theorem q1224 : (Jvm.Cond.constantLong "TableWaysModel" (331 : Nat) (-2 : Int64)) ∈ lw_all := lw_g (lw_at lw_m5 183 rfl) rfl
theorem q1226 : (Jvm.Cond.instanceMethod ({ cls := "TableWaysModel", name := "copy", desc := "(II)I" } : Jvm.MethodName)) ∈ lw_all := lw_g (lw_at lw_m5 185 rfl) rfl
theorem q1227 : (Jvm.Cond.selects "TableWaysModel" ({ cls := "TableWaysModel", name := "copy", desc := "(II)I" } : Jvm.MethodName) ({ cls := "TableWaysModel", name := "copy", desc := "(II)I" } : Jvm.MethodName)) ∈ lw_all := lw_g (lw_at lw_m5 186 rfl) rfl
theorem q1228 : (Jvm.Cond.code ({ cls := "TableWaysModel", name := "copy", desc := "(II)I" } : Jvm.MethodName) prog_21_method_64_code (3 : Nat) (Option.some Jvm.ClassFile.FieldType.int)) ∈ lw_all := lw_g (lw_at lw_m5 187 rfl) rfl
theorem q1230 : (Jvm.Cond.instanceMethod ({ cls := "TableWaysModel", name := "fits", desc := "(II)I" } : Jvm.MethodName)) ∈ lw_all := lw_g (lw_at lw_m5 189 rfl) rfl
theorem q1231 : (Jvm.Cond.selects "TableWaysModel" ({ cls := "TableWaysModel", name := "fits", desc := "(II)I" } : Jvm.MethodName) ({ cls := "TableWaysModel", name := "fits", desc := "(II)I" } : Jvm.MethodName)) ∈ lw_all := lw_g (lw_at lw_m5 190 rfl) rfl
theorem q1232 : (Jvm.Cond.code ({ cls := "TableWaysModel", name := "fits", desc := "(II)I" } : Jvm.MethodName) prog_21_method_66_code (3 : Nat) (Option.some Jvm.ClassFile.FieldType.int)) ∈ lw_all := lw_g (lw_at lw_m5 191 rfl) rfl
theorem q1233 : (Jvm.Cond.methodLink "TableWaysModel" (333 : Nat) ({ cls := "TableWaysModel", name := "fit", desc := "(IIZ)Z" } : Jvm.MethodName)) ∈ lw_all := lw_g (lw_at lw_m5 192 rfl) rfl
theorem q1234 : (Jvm.Cond.privateMethod ({ cls := "TableWaysModel", name := "fit", desc := "(IIZ)Z" } : Jvm.MethodName)) ∈ lw_tbl := lw_at lw_m5 193 rfl
theorem q1235 : (Jvm.Cond.instanceMethod ({ cls := "TableWaysModel", name := "fit", desc := "(IIZ)Z" } : Jvm.MethodName)) ∈ lw_all := lw_g (lw_at lw_m5 194 rfl) rfl
theorem q1236 : (Jvm.Cond.code ({ cls := "TableWaysModel", name := "fit", desc := "(IIZ)Z" } : Jvm.MethodName) prog_21_method_65_code (10 : Nat) (Option.some Jvm.ClassFile.FieldType.boolean)) ∈ lw_all := lw_g (lw_at lw_m5 195 rfl) rfl
theorem q1238 : (Jvm.Cond.instanceMethod ({ cls := "TableWaysModel", name := "step", desc := "(IIII)I" } : Jvm.MethodName)) ∈ lw_all := lw_g (lw_at lw_m5 197 rfl) rfl
theorem q1239 : (Jvm.Cond.selects "TableWaysModel" ({ cls := "TableWaysModel", name := "step", desc := "(IIII)I" } : Jvm.MethodName) ({ cls := "TableWaysModel", name := "step", desc := "(IIII)I" } : Jvm.MethodName)) ∈ lw_all := lw_g (lw_at lw_m5 198 rfl) rfl
theorem q1240 : (Jvm.Cond.code ({ cls := "TableWaysModel", name := "step", desc := "(IIII)I" } : Jvm.MethodName) prog_21_method_67_code (5 : Nat) (Option.some Jvm.ClassFile.FieldType.int)) ∈ lw_all := lw_g (lw_at lw_m5 199 rfl) rfl
theorem q1241 : (Jvm.Cond.constantLong "TableWaysModel" (337 : Nat) (14 : Int64)) ∈ lw_all := lw_g (lw_at lw_m5 200 rfl) rfl
theorem q1242 : (Jvm.Cond.methodLink "TableWaysModel" (229 : Nat) ({ cls := "TableWaysModel", name := "makes", desc := "(IIII)Z" } : Jvm.MethodName)) ∈ lw_all := lw_g (lw_at lw_m5 201 rfl) rfl
theorem q1243 : (Jvm.Cond.privateMethod ({ cls := "TableWaysModel", name := "makes", desc := "(IIII)Z" } : Jvm.MethodName)) ∈ lw_tbl := lw_at lw_m5 202 rfl
theorem q1244 : (Jvm.Cond.instanceMethod ({ cls := "TableWaysModel", name := "makes", desc := "(IIII)Z" } : Jvm.MethodName)) ∈ lw_all := lw_g (lw_at lw_m5 203 rfl) rfl
theorem q1245 : (Jvm.Cond.code ({ cls := "TableWaysModel", name := "makes", desc := "(IIII)Z" } : Jvm.MethodName) prog_21_method_18_code (8 : Nat) (Option.some Jvm.ClassFile.FieldType.boolean)) ∈ lw_all := lw_g (lw_at lw_m5 204 rfl) rfl
theorem q1246 : (Jvm.Cond.methodLink "TableWaysModel" (129 : Nat) ({ cls := "TableWaysModel", name := "hasAny", desc := "(I)Z" } : Jvm.MethodName)) ∈ lw_all := lw_g (lw_at lw_m5 205 rfl) rfl
theorem q1247 : (Jvm.Cond.privateMethod ({ cls := "TableWaysModel", name := "hasAny", desc := "(I)Z" } : Jvm.MethodName)) ∈ lw_tbl := lw_at lw_m5 206 rfl
theorem q1248 : (Jvm.Cond.instanceMethod ({ cls := "TableWaysModel", name := "hasAny", desc := "(I)Z" } : Jvm.MethodName)) ∈ lw_all := lw_g (lw_at lw_m5 207 rfl) rfl
theorem q1249 : (Jvm.Cond.code ({ cls := "TableWaysModel", name := "hasAny", desc := "(I)Z" } : Jvm.MethodName) prog_21_method_17_code (4 : Nat) (Option.some Jvm.ClassFile.FieldType.boolean)) ∈ lw_all := lw_g (lw_at lw_m5 208 rfl) rfl
theorem q1250 : (Jvm.Cond.methodLink "TableWaysModel" (132 : Nat) ({ cls := "TableWaysModel", name := "turns", desc := "(I)Z" } : Jvm.MethodName)) ∈ lw_all := lw_g (lw_at lw_m5 209 rfl) rfl
theorem q1251 : (Jvm.Cond.privateMethod ({ cls := "TableWaysModel", name := "turns", desc := "(I)Z" } : Jvm.MethodName)) ∈ lw_tbl := lw_at lw_m5 210 rfl
theorem q1252 : (Jvm.Cond.instanceMethod ({ cls := "TableWaysModel", name := "turns", desc := "(I)Z" } : Jvm.MethodName)) ∈ lw_all := lw_g (lw_at lw_m5 211 rfl) rfl
theorem q1253 : (Jvm.Cond.code ({ cls := "TableWaysModel", name := "turns", desc := "(I)Z" } : Jvm.MethodName) prog_21_method_19_code (4 : Nat) (Option.some Jvm.ClassFile.FieldType.boolean)) ∈ lw_all := lw_g (lw_at lw_m5 212 rfl) rfl
theorem q1254 : (Jvm.Cond.methodLink "TableWaysModel" (180 : Nat) ({ cls := "TableWaysModel", name := "cellAt", desc := "(II)J" } : Jvm.MethodName)) ∈ lw_all := lw_g (lw_at lw_m5 213 rfl) rfl
theorem q1255 : (Jvm.Cond.privateMethod ({ cls := "TableWaysModel", name := "cellAt", desc := "(II)J" } : Jvm.MethodName)) ∈ lw_tbl := lw_at lw_m5 214 rfl
theorem q1256 : (Jvm.Cond.instanceMethod ({ cls := "TableWaysModel", name := "cellAt", desc := "(II)J" } : Jvm.MethodName)) ∈ lw_all := lw_g (lw_at lw_m5 215 rfl) rfl
theorem q1257 : (Jvm.Cond.code ({ cls := "TableWaysModel", name := "cellAt", desc := "(II)J" } : Jvm.MethodName) prog_21_method_15_code (3 : Nat) (Option.some Jvm.ClassFile.FieldType.long)) ∈ lw_all := lw_g (lw_at lw_m5 216 rfl) rfl
theorem q1258 : (Jvm.Cond.methodLink "TableWaysModel" (135 : Nat) ({ cls := "TableWaysModel", name := "drops", desc := "(II)Z" } : Jvm.MethodName)) ∈ lw_all := lw_g (lw_at lw_m5 217 rfl) rfl
theorem q1259 : (Jvm.Cond.privateMethod ({ cls := "TableWaysModel", name := "drops", desc := "(II)Z" } : Jvm.MethodName)) ∈ lw_tbl := lw_at lw_m5 218 rfl
theorem q1260 : (Jvm.Cond.instanceMethod ({ cls := "TableWaysModel", name := "drops", desc := "(II)Z" } : Jvm.MethodName)) ∈ lw_all := lw_g (lw_at lw_m5 219 rfl) rfl
theorem q1261 : (Jvm.Cond.code ({ cls := "TableWaysModel", name := "drops", desc := "(II)Z" } : Jvm.MethodName) prog_21_method_20_code (5 : Nat) (Option.some Jvm.ClassFile.FieldType.boolean)) ∈ lw_all := lw_g (lw_at lw_m5 220 rfl) rfl
theorem q1262 : (Jvm.Cond.methodLink "TableWaysModel" (139 : Nat) ({ cls := "TableWaysModel", name := "splits", desc := "(III)Z" } : Jvm.MethodName)) ∈ lw_all := lw_g (lw_at lw_m5 221 rfl) rfl
theorem q1263 : (Jvm.Cond.privateMethod ({ cls := "TableWaysModel", name := "splits", desc := "(III)Z" } : Jvm.MethodName)) ∈ lw_tbl := lw_at lw_m5 222 rfl
theorem q1264 : (Jvm.Cond.instanceMethod ({ cls := "TableWaysModel", name := "splits", desc := "(III)Z" } : Jvm.MethodName)) ∈ lw_all := lw_g (lw_at lw_m5 223 rfl) rfl
theorem q1265 : (Jvm.Cond.code ({ cls := "TableWaysModel", name := "splits", desc := "(III)Z" } : Jvm.MethodName) prog_21_method_22_code (10 : Nat) (Option.some Jvm.ClassFile.FieldType.boolean)) ∈ lw_all := lw_g (lw_at lw_m5 224 rfl) rfl
theorem q1266 : (Jvm.Cond.methodLink "TableWaysModel" (188 : Nat) ({ cls := "TableWaysModel", name := "markOf", desc := "(I)I" } : Jvm.MethodName)) ∈ lw_all := lw_g (lw_at lw_m5 225 rfl) rfl
theorem q1267 : (Jvm.Cond.static ({ cls := "TableWaysModel", name := "markOf", desc := "(I)I" } : Jvm.MethodName)) ∈ lw_all := lw_g (lw_at lw_m5 226 rfl) rfl
theorem q1268 : (Jvm.Cond.code ({ cls := "TableWaysModel", name := "markOf", desc := "(I)I" } : Jvm.MethodName) prog_21_method_13_code (1 : Nat) (Option.some Jvm.ClassFile.FieldType.int)) ∈ lw_all := lw_g (lw_at lw_m5 227 rfl) rfl
theorem q1269 : (Jvm.Cond.methodLink "TableWaysModel" (192 : Nat) ({ cls := "TableWaysModel", name := "markAt", desc := "(JI)I" } : Jvm.MethodName)) ∈ lw_all := lw_g (lw_at lw_m5 228 rfl) rfl
theorem q1270 : (Jvm.Cond.static ({ cls := "TableWaysModel", name := "markAt", desc := "(JI)I" } : Jvm.MethodName)) ∈ lw_all := lw_g (lw_at lw_m5 229 rfl) rfl
theorem q1271 : (Jvm.Cond.code ({ cls := "TableWaysModel", name := "markAt", desc := "(JI)I" } : Jvm.MethodName) prog_21_method_21_code (5 : Nat) (Option.some Jvm.ClassFile.FieldType.int)) ∈ lw_all := lw_g (lw_at lw_m5 230 rfl) rfl
theorem q1272 : (Jvm.Cond.methodLink "TableWaysModel" (143 : Nat) ({ cls := "TableWaysModel", name := "fills", desc := "(II)Z" } : Jvm.MethodName)) ∈ lw_all := lw_g (lw_at lw_m5 231 rfl) rfl
theorem q1273 : (Jvm.Cond.privateMethod ({ cls := "TableWaysModel", name := "fills", desc := "(II)Z" } : Jvm.MethodName)) ∈ lw_tbl := lw_at lw_m5 232 rfl
theorem q1274 : (Jvm.Cond.instanceMethod ({ cls := "TableWaysModel", name := "fills", desc := "(II)Z" } : Jvm.MethodName)) ∈ lw_all := lw_g (lw_at lw_m5 233 rfl) rfl
theorem q1275 : (Jvm.Cond.code ({ cls := "TableWaysModel", name := "fills", desc := "(II)Z" } : Jvm.MethodName) prog_21_method_23_code (7 : Nat) (Option.some Jvm.ClassFile.FieldType.boolean)) ∈ lw_all := lw_g (lw_at lw_m5 234 rfl) rfl
theorem q1276 : (Jvm.Cond.methodLink "TableWaysModel" (146 : Nat) ({ cls := "TableWaysModel", name := "joins", desc := "(III)Z" } : Jvm.MethodName)) ∈ lw_all := lw_g (lw_at lw_m5 235 rfl) rfl
theorem q1277 : (Jvm.Cond.privateMethod ({ cls := "TableWaysModel", name := "joins", desc := "(III)Z" } : Jvm.MethodName)) ∈ lw_tbl := lw_at lw_m5 236 rfl
theorem q1278 : (Jvm.Cond.instanceMethod ({ cls := "TableWaysModel", name := "joins", desc := "(III)Z" } : Jvm.MethodName)) ∈ lw_all := lw_g (lw_at lw_m5 237 rfl) rfl
theorem q1279 : (Jvm.Cond.code ({ cls := "TableWaysModel", name := "joins", desc := "(III)Z" } : Jvm.MethodName) prog_21_method_24_code (11 : Nat) (Option.some Jvm.ClassFile.FieldType.boolean)) ∈ lw_all := lw_g (lw_at lw_m5 238 rfl) rfl
theorem q1280 : (Jvm.Cond.methodLink "TableWaysModel" (149 : Nat) ({ cls := "TableWaysModel", name := "folds", desc := "(II)Z" } : Jvm.MethodName)) ∈ lw_all := lw_g (lw_at lw_m5 239 rfl) rfl
theorem q1281 : (Jvm.Cond.privateMethod ({ cls := "TableWaysModel", name := "folds", desc := "(II)Z" } : Jvm.MethodName)) ∈ lw_tbl := lw_at lw_m6 0 rfl
theorem q1282 : (Jvm.Cond.instanceMethod ({ cls := "TableWaysModel", name := "folds", desc := "(II)Z" } : Jvm.MethodName)) ∈ lw_all := lw_g (lw_at lw_m6 1 rfl) rfl
theorem q1283 : (Jvm.Cond.code ({ cls := "TableWaysModel", name := "folds", desc := "(II)Z" } : Jvm.MethodName) prog_21_method_25_code (7 : Nat) (Option.some Jvm.ClassFile.FieldType.boolean)) ∈ lw_all := lw_g (lw_at lw_m6 2 rfl) rfl
theorem q1284 : (Jvm.Cond.methodLink "TableWaysModel" (152 : Nat) ({ cls := "TableWaysModel", name := "unfolds", desc := "(I)Z" } : Jvm.MethodName)) ∈ lw_all := lw_g (lw_at lw_m6 3 rfl) rfl
theorem q1285 : (Jvm.Cond.privateMethod ({ cls := "TableWaysModel", name := "unfolds", desc := "(I)Z" } : Jvm.MethodName)) ∈ lw_tbl := lw_at lw_m6 4 rfl
theorem q1286 : (Jvm.Cond.instanceMethod ({ cls := "TableWaysModel", name := "unfolds", desc := "(I)Z" } : Jvm.MethodName)) ∈ lw_all := lw_g (lw_at lw_m6 5 rfl) rfl
theorem q1287 : (Jvm.Cond.code ({ cls := "TableWaysModel", name := "unfolds", desc := "(I)Z" } : Jvm.MethodName) prog_21_method_29_code (9 : Nat) (Option.some Jvm.ClassFile.FieldType.boolean)) ∈ lw_all := lw_g (lw_at lw_m6 6 rfl) rfl
theorem q1288 : (Jvm.Cond.methodLink "TableWaysModel" (203 : Nat) ({ cls := "TableWaysModel", name := "firstLike", desc := "(II)I" } : Jvm.MethodName)) ∈ lw_all := lw_g (lw_at lw_m6 7 rfl) rfl
theorem q1289 : (Jvm.Cond.privateMethod ({ cls := "TableWaysModel", name := "firstLike", desc := "(II)I" } : Jvm.MethodName)) ∈ lw_tbl := lw_at lw_m6 8 rfl
theorem q1290 : (Jvm.Cond.instanceMethod ({ cls := "TableWaysModel", name := "firstLike", desc := "(II)I" } : Jvm.MethodName)) ∈ lw_all := lw_g (lw_at lw_m6 9 rfl) rfl
theorem q1291 : (Jvm.Cond.code ({ cls := "TableWaysModel", name := "firstLike", desc := "(II)I" } : Jvm.MethodName) prog_21_method_27_code (4 : Nat) (Option.some Jvm.ClassFile.FieldType.int)) ∈ lw_all := lw_g (lw_at lw_m6 10 rfl) rfl
theorem q1292 : (Jvm.Cond.methodLink "TableWaysModel" (200 : Nat) ({ cls := "TableWaysModel", name := "areLike", desc := "(III)Z" } : Jvm.MethodName)) ∈ lw_all := lw_g (lw_at lw_m6 11 rfl) rfl
theorem q1293 : (Jvm.Cond.privateMethod ({ cls := "TableWaysModel", name := "areLike", desc := "(III)Z" } : Jvm.MethodName)) ∈ lw_tbl := lw_at lw_m6 12 rfl
theorem q1294 : (Jvm.Cond.instanceMethod ({ cls := "TableWaysModel", name := "areLike", desc := "(III)Z" } : Jvm.MethodName)) ∈ lw_all := lw_g (lw_at lw_m6 13 rfl) rfl
theorem q1295 : (Jvm.Cond.code ({ cls := "TableWaysModel", name := "areLike", desc := "(III)Z" } : Jvm.MethodName) prog_21_method_26_code (6 : Nat) (Option.some Jvm.ClassFile.FieldType.boolean)) ∈ lw_all := lw_g (lw_at lw_m6 14 rfl) rfl
theorem q1296 : (Jvm.Cond.methodLink "TableWaysModel" (207 : Nat) ({ cls := "TableWaysModel", name := "firstName", desc := "(II)I" } : Jvm.MethodName)) ∈ lw_all := lw_g (lw_at lw_m6 15 rfl) rfl
theorem q1297 : (Jvm.Cond.privateMethod ({ cls := "TableWaysModel", name := "firstName", desc := "(II)I" } : Jvm.MethodName)) ∈ lw_tbl := lw_at lw_m6 16 rfl
theorem q1298 : (Jvm.Cond.instanceMethod ({ cls := "TableWaysModel", name := "firstName", desc := "(II)I" } : Jvm.MethodName)) ∈ lw_all := lw_g (lw_at lw_m6 17 rfl) rfl
theorem q1299 : (Jvm.Cond.code ({ cls := "TableWaysModel", name := "firstName", desc := "(II)I" } : Jvm.MethodName) prog_21_method_28_code (4 : Nat) (Option.some Jvm.ClassFile.FieldType.int)) ∈ lw_all := lw_g (lw_at lw_m6 18 rfl) rfl
theorem q1300 : (Jvm.Cond.methodLink "TableWaysModel" (155 : Nat) ({ cls := "TableWaysModel", name := "sorts", desc := "(II)Z" } : Jvm.MethodName)) ∈ lw_all := lw_g (lw_at lw_m6 19 rfl) rfl
theorem q1301 : (Jvm.Cond.privateMethod ({ cls := "TableWaysModel", name := "sorts", desc := "(II)Z" } : Jvm.MethodName)) ∈ lw_tbl := lw_at lw_m6 20 rfl
theorem q1302 : (Jvm.Cond.instanceMethod ({ cls := "TableWaysModel", name := "sorts", desc := "(II)Z" } : Jvm.MethodName)) ∈ lw_all := lw_g (lw_at lw_m6 21 rfl) rfl
theorem q1303 : (Jvm.Cond.code ({ cls := "TableWaysModel", name := "sorts", desc := "(II)Z" } : Jvm.MethodName) prog_21_method_31_code (6 : Nat) (Option.some Jvm.ClassFile.FieldType.boolean)) ∈ lw_all := lw_g (lw_at lw_m6 22 rfl) rfl
theorem q1304 : (Jvm.Cond.methodLink "TableWaysModel" (210 : Nat) ({ cls := "TableWaysModel", name := "order", desc := "(J)J" } : Jvm.MethodName)) ∈ lw_all := lw_g (lw_at lw_m6 23 rfl) rfl
theorem q1305 : (Jvm.Cond.static ({ cls := "TableWaysModel", name := "order", desc := "(J)J" } : Jvm.MethodName)) ∈ lw_all := lw_g (lw_at lw_m6 24 rfl) rfl
theorem q1306 : (Jvm.Cond.code ({ cls := "TableWaysModel", name := "order", desc := "(J)J" } : Jvm.MethodName) prog_21_method_12_code (2 : Nat) (Option.some Jvm.ClassFile.FieldType.long)) ∈ lw_all := lw_g (lw_at lw_m6 25 rfl) rfl
theorem q1307 : (Jvm.Cond.methodLink "TableWaysModel" (214 : Nat) ({ cls := "TableWaysModel", name := "rowsBy", desc := "(II)V" } : Jvm.MethodName)) ∈ lw_all := lw_g (lw_at lw_m6 26 rfl) rfl
theorem q1308 : (Jvm.Cond.privateMethod ({ cls := "TableWaysModel", name := "rowsBy", desc := "(II)V" } : Jvm.MethodName)) ∈ lw_tbl := lw_at lw_m6 27 rfl
theorem q1309 : (Jvm.Cond.instanceMethod ({ cls := "TableWaysModel", name := "rowsBy", desc := "(II)V" } : Jvm.MethodName)) ∈ lw_all := lw_g (lw_at lw_m6 28 rfl) rfl
theorem q1310 : (Jvm.Cond.code ({ cls := "TableWaysModel", name := "rowsBy", desc := "(II)V" } : Jvm.MethodName) prog_21_method_30_code (5 : Nat) (Option.none : Option Jvm.ClassFile.FieldType)) ∈ lw_all := lw_g (lw_at lw_m6 29 rfl) rfl
theorem q1311 : (Jvm.Cond.methodLink "TableWaysModel" (158 : Nat) ({ cls := "TableWaysModel", name := "singles", desc := "(I)Z" } : Jvm.MethodName)) ∈ lw_all := lw_g (lw_at lw_m6 30 rfl) rfl
theorem q1312 : (Jvm.Cond.privateMethod ({ cls := "TableWaysModel", name := "singles", desc := "(I)Z" } : Jvm.MethodName)) ∈ lw_tbl := lw_at lw_m6 31 rfl
theorem q1313 : (Jvm.Cond.instanceMethod ({ cls := "TableWaysModel", name := "singles", desc := "(I)Z" } : Jvm.MethodName)) ∈ lw_all := lw_g (lw_at lw_m6 32 rfl) rfl
theorem q1314 : (Jvm.Cond.code ({ cls := "TableWaysModel", name := "singles", desc := "(I)Z" } : Jvm.MethodName) prog_21_method_32_code (4 : Nat) (Option.some Jvm.ClassFile.FieldType.boolean)) ∈ lw_all := lw_g (lw_at lw_m6 33 rfl) rfl
theorem q1315 : (Jvm.Cond.methodLink "TableWaysModel" (161 : Nat) ({ cls := "TableWaysModel", name := "counts", desc := "(I)Z" } : Jvm.MethodName)) ∈ lw_all := lw_g (lw_at lw_m6 34 rfl) rfl
theorem q1316 : (Jvm.Cond.privateMethod ({ cls := "TableWaysModel", name := "counts", desc := "(I)Z" } : Jvm.MethodName)) ∈ lw_tbl := lw_at lw_m6 35 rfl
theorem q1317 : (Jvm.Cond.instanceMethod ({ cls := "TableWaysModel", name := "counts", desc := "(I)Z" } : Jvm.MethodName)) ∈ lw_all := lw_g (lw_at lw_m6 36 rfl) rfl
theorem q1318 : (Jvm.Cond.code ({ cls := "TableWaysModel", name := "counts", desc := "(I)Z" } : Jvm.MethodName) prog_21_method_33_code (7 : Nat) (Option.some Jvm.ClassFile.FieldType.boolean)) ∈ lw_all := lw_g (lw_at lw_m6 37 rfl) rfl
theorem q1319 : (Jvm.Cond.methodLink "TableWaysModel" (217 : Nat) ({ cls := "TableWaysModel", name := "textOf", desc := "(I)J" } : Jvm.MethodName)) ∈ lw_all := lw_g (lw_at lw_m6 38 rfl) rfl
theorem q1320 : (Jvm.Cond.static ({ cls := "TableWaysModel", name := "textOf", desc := "(I)J" } : Jvm.MethodName)) ∈ lw_all := lw_g (lw_at lw_m6 39 rfl) rfl
theorem q1321 : (Jvm.Cond.code ({ cls := "TableWaysModel", name := "textOf", desc := "(I)J" } : Jvm.MethodName) prog_21_method_11_code (5 : Nat) (Option.some Jvm.ClassFile.FieldType.long)) ∈ lw_all := lw_g (lw_at lw_m6 40 rfl) rfl
theorem q1322 : (Jvm.Cond.methodLink "TableWaysModel" (164 : Nat) ({ cls := "TableWaysModel", name := "sums", desc := "(III)Z" } : Jvm.MethodName)) ∈ lw_all := lw_g (lw_at lw_m6 41 rfl) rfl
theorem q1323 : (Jvm.Cond.privateMethod ({ cls := "TableWaysModel", name := "sums", desc := "(III)Z" } : Jvm.MethodName)) ∈ lw_tbl := lw_at lw_m6 42 rfl
theorem q1324 : (Jvm.Cond.instanceMethod ({ cls := "TableWaysModel", name := "sums", desc := "(III)Z" } : Jvm.MethodName)) ∈ lw_all := lw_g (lw_at lw_m6 43 rfl) rfl
theorem q1325 : (Jvm.Cond.code ({ cls := "TableWaysModel", name := "sums", desc := "(III)Z" } : Jvm.MethodName) prog_21_method_34_code (9 : Nat) (Option.some Jvm.ClassFile.FieldType.boolean)) ∈ lw_all := lw_g (lw_at lw_m6 44 rfl) rfl
theorem q1326 : (Jvm.Cond.methodLink "TableWaysModel" (225 : Nat) ({ cls := "TableWaysModel", name := "numberOf", desc := "(J)I" } : Jvm.MethodName)) ∈ lw_all := lw_g (lw_at lw_m6 45 rfl) rfl
theorem q1327 : (Jvm.Cond.static ({ cls := "TableWaysModel", name := "numberOf", desc := "(J)I" } : Jvm.MethodName)) ∈ lw_all := lw_g (lw_at lw_m6 46 rfl) rfl
theorem q1328 : (Jvm.Cond.code ({ cls := "TableWaysModel", name := "numberOf", desc := "(J)I" } : Jvm.MethodName) prog_21_method_10_code (5 : Nat) (Option.some Jvm.ClassFile.FieldType.int)) ∈ lw_all := lw_g (lw_at lw_m6 47 rfl) rfl
theorem q1329 : (Jvm.Cond.constant "TableWaysModel" (228 : Nat) (1000000 : Int32)) ∈ lw_all := lw_g (lw_at lw_m6 48 rfl) rfl
theorem q1330 : (Jvm.Cond.methodLink "TableWaysModel" (167 : Nat) ({ cls := "TableWaysModel", name := "keeps", desc := "(II)Z" } : Jvm.MethodName)) ∈ lw_all := lw_g (lw_at lw_m6 49 rfl) rfl
theorem q1331 : (Jvm.Cond.privateMethod ({ cls := "TableWaysModel", name := "keeps", desc := "(II)Z" } : Jvm.MethodName)) ∈ lw_tbl := lw_at lw_m6 50 rfl
theorem q1332 : (Jvm.Cond.instanceMethod ({ cls := "TableWaysModel", name := "keeps", desc := "(II)Z" } : Jvm.MethodName)) ∈ lw_all := lw_g (lw_at lw_m6 51 rfl) rfl
theorem q1333 : (Jvm.Cond.code ({ cls := "TableWaysModel", name := "keeps", desc := "(II)Z" } : Jvm.MethodName) prog_21_method_35_code (5 : Nat) (Option.some Jvm.ClassFile.FieldType.boolean)) ∈ lw_all := lw_g (lw_at lw_m6 52 rfl) rfl
theorem q1334 : (Jvm.Cond.methodLink "TableWaysModel" (170 : Nat) ({ cls := "TableWaysModel", name := "loses", desc := "(I)Z" } : Jvm.MethodName)) ∈ lw_all := lw_g (lw_at lw_m6 53 rfl) rfl
theorem q1335 : (Jvm.Cond.privateMethod ({ cls := "TableWaysModel", name := "loses", desc := "(I)Z" } : Jvm.MethodName)) ∈ lw_tbl := lw_at lw_m6 54 rfl
theorem q1336 : (Jvm.Cond.instanceMethod ({ cls := "TableWaysModel", name := "loses", desc := "(I)Z" } : Jvm.MethodName)) ∈ lw_all := lw_g (lw_at lw_m6 55 rfl) rfl
theorem q1337 : (Jvm.Cond.code ({ cls := "TableWaysModel", name := "loses", desc := "(I)Z" } : Jvm.MethodName) prog_21_method_36_code (3 : Nat) (Option.some Jvm.ClassFile.FieldType.boolean)) ∈ lw_all := lw_g (lw_at lw_m6 56 rfl) rfl
theorem q1338 : (Jvm.Cond.methodLink "TableWaysModel" (173 : Nat) ({ cls := "TableWaysModel", name := "swaps", desc := "(II)Z" } : Jvm.MethodName)) ∈ lw_all := lw_g (lw_at lw_m6 57 rfl) rfl
theorem q1339 : (Jvm.Cond.privateMethod ({ cls := "TableWaysModel", name := "swaps", desc := "(II)Z" } : Jvm.MethodName)) ∈ lw_tbl := lw_at lw_m6 58 rfl
theorem q1340 : (Jvm.Cond.instanceMethod ({ cls := "TableWaysModel", name := "swaps", desc := "(II)Z" } : Jvm.MethodName)) ∈ lw_all := lw_g (lw_at lw_m6 59 rfl) rfl
theorem q1341 : (Jvm.Cond.code ({ cls := "TableWaysModel", name := "swaps", desc := "(II)Z" } : Jvm.MethodName) prog_21_method_37_code (4 : Nat) (Option.some Jvm.ClassFile.FieldType.boolean)) ∈ lw_all := lw_g (lw_at lw_m6 60 rfl) rfl
theorem q1343 : (Jvm.Cond.instanceMethod ({ cls := "TableWaysModel", name := "walk", desc := "(III)I" } : Jvm.MethodName)) ∈ lw_all := lw_g (lw_at lw_m6 62 rfl) rfl
theorem q1344 : (Jvm.Cond.selects "TableWaysModel" ({ cls := "TableWaysModel", name := "walk", desc := "(III)I" } : Jvm.MethodName) ({ cls := "TableWaysModel", name := "walk", desc := "(III)I" } : Jvm.MethodName)) ∈ lw_all := lw_g (lw_at lw_m6 63 rfl) rfl
theorem q1345 : (Jvm.Cond.code ({ cls := "TableWaysModel", name := "walk", desc := "(III)I" } : Jvm.MethodName) prog_21_method_68_code (5 : Nat) (Option.some Jvm.ClassFile.FieldType.int)) ∈ lw_all := lw_g (lw_at lw_m6 64 rfl) rfl
theorem q1346 : (Jvm.Cond.methodLink "TableWaysModel" (339 : Nat) ({ cls := "TableWaysModel", name := "walks", desc := "(II)I" } : Jvm.MethodName)) ∈ lw_all := lw_g (lw_at lw_m6 65 rfl) rfl
theorem q1347 : (Jvm.Cond.privateMethod ({ cls := "TableWaysModel", name := "walks", desc := "(II)I" } : Jvm.MethodName)) ∈ lw_tbl := lw_at lw_m6 66 rfl
theorem q1348 : (Jvm.Cond.instanceMethod ({ cls := "TableWaysModel", name := "walks", desc := "(II)I" } : Jvm.MethodName)) ∈ lw_all := lw_g (lw_at lw_m6 67 rfl) rfl
theorem q1349 : (Jvm.Cond.code ({ cls := "TableWaysModel", name := "walks", desc := "(II)I" } : Jvm.MethodName) prog_21_method_40_code (4 : Nat) (Option.some Jvm.ClassFile.FieldType.int)) ∈ lw_all := lw_g (lw_at lw_m6 68 rfl) rfl
theorem q1351 : (Jvm.Cond.instanceMethod ({ cls := "TableWaysModel", name := "steps", desc := "(I)I" } : Jvm.MethodName)) ∈ lw_all := lw_g (lw_at lw_m6 70 rfl) rfl
theorem q1352 : (Jvm.Cond.selects "TableWaysModel" ({ cls := "TableWaysModel", name := "steps", desc := "(I)I" } : Jvm.MethodName) ({ cls := "TableWaysModel", name := "steps", desc := "(I)I" } : Jvm.MethodName)) ∈ lw_all := lw_g (lw_at lw_m6 71 rfl) rfl
theorem q1353 : (Jvm.Cond.code ({ cls := "TableWaysModel", name := "steps", desc := "(I)I" } : Jvm.MethodName) prog_21_method_69_code (2 : Nat) (Option.some Jvm.ClassFile.FieldType.int)) ∈ lw_all := lw_g (lw_at lw_m6 72 rfl) rfl
theorem q1355 : (Jvm.Cond.instanceMethod ({ cls := "TableWaysModel", name := "stepAt", desc := "(III)I" } : Jvm.MethodName)) ∈ lw_all := lw_g (lw_at lw_m6 74 rfl) rfl
theorem q1356 : (Jvm.Cond.selects "TableWaysModel" ({ cls := "TableWaysModel", name := "stepAt", desc := "(III)I" } : Jvm.MethodName) ({ cls := "TableWaysModel", name := "stepAt", desc := "(III)I" } : Jvm.MethodName)) ∈ lw_all := lw_g (lw_at lw_m6 75 rfl) rfl
theorem q1357 : (Jvm.Cond.code ({ cls := "TableWaysModel", name := "stepAt", desc := "(III)I" } : Jvm.MethodName) prog_21_method_70_code (5 : Nat) (Option.some Jvm.ClassFile.FieldType.int)) ∈ lw_all := lw_g (lw_at lw_m6 76 rfl) rfl
theorem q1359 : (Jvm.Cond.instanceMethod ({ cls := "TableWaysModel", name := "chain", desc := "(III)I" } : Jvm.MethodName)) ∈ lw_all := lw_g (lw_at lw_m6 78 rfl) rfl
theorem q1360 : (Jvm.Cond.selects "TableWaysModel" ({ cls := "TableWaysModel", name := "chain", desc := "(III)I" } : Jvm.MethodName) ({ cls := "TableWaysModel", name := "chain", desc := "(III)I" } : Jvm.MethodName)) ∈ lw_all := lw_g (lw_at lw_m6 79 rfl) rfl
theorem q1361 : (Jvm.Cond.code ({ cls := "TableWaysModel", name := "chain", desc := "(III)I" } : Jvm.MethodName) prog_21_method_71_code (6 : Nat) (Option.some Jvm.ClassFile.FieldType.int)) ∈ lw_all := lw_g (lw_at lw_m6 80 rfl) rfl
theorem q1363 : (Jvm.Cond.instanceMethod ({ cls := "TableWaysModel", name := "find", desc := "(IIIII)I" } : Jvm.MethodName)) ∈ lw_all := lw_g (lw_at lw_m6 82 rfl) rfl
theorem q1364 : (Jvm.Cond.selects "TableWaysModel" ({ cls := "TableWaysModel", name := "find", desc := "(IIIII)I" } : Jvm.MethodName) ({ cls := "TableWaysModel", name := "find", desc := "(IIIII)I" } : Jvm.MethodName)) ∈ lw_all := lw_g (lw_at lw_m6 83 rfl) rfl
theorem q1365 : (Jvm.Cond.code ({ cls := "TableWaysModel", name := "find", desc := "(IIIII)I" } : Jvm.MethodName) prog_21_method_80_code (8 : Nat) (Option.some Jvm.ClassFile.FieldType.int)) ∈ lw_all := lw_g (lw_at lw_m6 84 rfl) rfl
theorem q1366 : (Jvm.Cond.constantLong "TableWaysModel" (374 : Nat) (3 : Int64)) ∈ lw_all := lw_g (lw_at lw_m6 85 rfl) rfl
theorem q1367 : (Jvm.Cond.methodLink "TableWaysModel" (382 : Nat) ({ cls := "TableWaysModel", name := "clean", desc := "(I)V" } : Jvm.MethodName)) ∈ lw_all := lw_g (lw_at lw_m6 86 rfl) rfl
theorem q1368 : (Jvm.Cond.privateMethod ({ cls := "TableWaysModel", name := "clean", desc := "(I)V" } : Jvm.MethodName)) ∈ lw_tbl := lw_at lw_m6 87 rfl
theorem q1369 : (Jvm.Cond.instanceMethod ({ cls := "TableWaysModel", name := "clean", desc := "(I)V" } : Jvm.MethodName)) ∈ lw_all := lw_g (lw_at lw_m6 88 rfl) rfl
theorem q1370 : (Jvm.Cond.code ({ cls := "TableWaysModel", name := "clean", desc := "(I)V" } : Jvm.MethodName) prog_21_method_81_code (4 : Nat) (Option.none : Option Jvm.ClassFile.FieldType)) ∈ lw_all := lw_g (lw_at lw_m6 89 rfl) rfl
theorem q1371 : (Jvm.Cond.methodLink "TableWaysModel" (385 : Nat) ({ cls := "TableWaysModel", name := "keepState", desc := "()V" } : Jvm.MethodName)) ∈ lw_all := lw_g (lw_at lw_m6 90 rfl) rfl
theorem q1372 : (Jvm.Cond.privateMethod ({ cls := "TableWaysModel", name := "keepState", desc := "()V" } : Jvm.MethodName)) ∈ lw_tbl := lw_at lw_m6 91 rfl
theorem q1373 : (Jvm.Cond.instanceMethod ({ cls := "TableWaysModel", name := "keepState", desc := "()V" } : Jvm.MethodName)) ∈ lw_all := lw_g (lw_at lw_m6 92 rfl) rfl
theorem q1374 : (Jvm.Cond.code ({ cls := "TableWaysModel", name := "keepState", desc := "()V" } : Jvm.MethodName) prog_21_method_76_code (3 : Nat) (Option.none : Option Jvm.ClassFile.FieldType)) ∈ lw_all := lw_g (lw_at lw_m6 93 rfl) rfl
theorem q1375 : (Jvm.Cond.methodLink "TableWaysModel" (342 : Nat) ({ cls := "TableWaysModel", name := "sum", desc := "()I" } : Jvm.MethodName)) ∈ lw_all := lw_g (lw_at lw_m6 94 rfl) rfl
theorem q1376 : (Jvm.Cond.privateMethod ({ cls := "TableWaysModel", name := "sum", desc := "()I" } : Jvm.MethodName)) ∈ lw_tbl := lw_at lw_m6 95 rfl
theorem q1377 : (Jvm.Cond.instanceMethod ({ cls := "TableWaysModel", name := "sum", desc := "()I" } : Jvm.MethodName)) ∈ lw_all := lw_g (lw_at lw_m6 96 rfl) rfl
theorem q1378 : (Jvm.Cond.code ({ cls := "TableWaysModel", name := "sum", desc := "()I" } : Jvm.MethodName) prog_21_method_74_code (4 : Nat) (Option.some Jvm.ClassFile.FieldType.int)) ∈ lw_all := lw_g (lw_at lw_m6 97 rfl) rfl
theorem q1379 : (Jvm.Cond.methodLink "TableWaysModel" (352 : Nat) ({ cls := "TableWaysModel", name := "shapeNow", desc := "()I" } : Jvm.MethodName)) ∈ lw_all := lw_g (lw_at lw_m6 98 rfl) rfl
theorem q1380 : (Jvm.Cond.privateMethod ({ cls := "TableWaysModel", name := "shapeNow", desc := "()I" } : Jvm.MethodName)) ∈ lw_tbl := lw_at lw_m6 99 rfl
theorem q1381 : (Jvm.Cond.instanceMethod ({ cls := "TableWaysModel", name := "shapeNow", desc := "()I" } : Jvm.MethodName)) ∈ lw_all := lw_g (lw_at lw_m6 100 rfl) rfl
theorem q1382 : (Jvm.Cond.code ({ cls := "TableWaysModel", name := "shapeNow", desc := "()I" } : Jvm.MethodName) prog_21_method_73_code (1 : Nat) (Option.some Jvm.ClassFile.FieldType.int)) ∈ lw_all := lw_g (lw_at lw_m6 101 rfl) rfl
theorem q1383 : (Jvm.Cond.constantLong "TableWaysModel" (355 : Nat) (31 : Int64)) ∈ lw_all := lw_g (lw_at lw_m6 102 rfl) rfl
theorem q1384 : (Jvm.Cond.constantLong "TableWaysModel" (357 : Nat) (4095 : Int64)) ∈ lw_all := lw_g (lw_at lw_m6 103 rfl) rfl
theorem q1385 : (Jvm.Cond.methodLink "TableWaysModel" (388 : Nat) ({ cls := "TableWaysModel", name := "noteEnd", desc := "(I)V" } : Jvm.MethodName)) ∈ lw_all := lw_g (lw_at lw_m6 104 rfl) rfl
theorem q1386 : (Jvm.Cond.privateMethod ({ cls := "TableWaysModel", name := "noteEnd", desc := "(I)V" } : Jvm.MethodName)) ∈ lw_tbl := lw_at lw_m6 105 rfl
theorem q1387 : (Jvm.Cond.instanceMethod ({ cls := "TableWaysModel", name := "noteEnd", desc := "(I)V" } : Jvm.MethodName)) ∈ lw_all := lw_g (lw_at lw_m6 106 rfl) rfl
theorem q1388 : (Jvm.Cond.code ({ cls := "TableWaysModel", name := "noteEnd", desc := "(I)V" } : Jvm.MethodName) prog_21_method_79_code (2 : Nat) (Option.none : Option Jvm.ClassFile.FieldType)) ∈ lw_all := lw_g (lw_at lw_m6 107 rfl) rfl
theorem q1389 : (Jvm.Cond.methodLink "TableWaysModel" (391 : Nat) ({ cls := "TableWaysModel", name := "spread", desc := "(I)Z" } : Jvm.MethodName)) ∈ lw_all := lw_g (lw_at lw_m6 108 rfl) rfl
theorem q1390 : (Jvm.Cond.privateMethod ({ cls := "TableWaysModel", name := "spread", desc := "(I)Z" } : Jvm.MethodName)) ∈ lw_tbl := lw_at lw_m6 109 rfl
theorem q1391 : (Jvm.Cond.instanceMethod ({ cls := "TableWaysModel", name := "spread", desc := "(I)Z" } : Jvm.MethodName)) ∈ lw_all := lw_g (lw_at lw_m6 110 rfl) rfl
theorem q1392 : (Jvm.Cond.code ({ cls := "TableWaysModel", name := "spread", desc := "(I)Z" } : Jvm.MethodName) prog_21_method_82_code (5 : Nat) (Option.some Jvm.ClassFile.FieldType.boolean)) ∈ lw_all := lw_g (lw_at lw_m6 111 rfl) rfl
theorem q1393 : (Jvm.Cond.methodLink "TableWaysModel" (400 : Nat) ({ cls := "TableWaysModel", name := "goes", desc := "(IIII)Z" } : Jvm.MethodName)) ∈ lw_all := lw_g (lw_at lw_m6 112 rfl) rfl
theorem q1394 : (Jvm.Cond.privateMethod ({ cls := "TableWaysModel", name := "goes", desc := "(IIII)Z" } : Jvm.MethodName)) ∈ lw_tbl := lw_at lw_m6 113 rfl
theorem q1395 : (Jvm.Cond.instanceMethod ({ cls := "TableWaysModel", name := "goes", desc := "(IIII)Z" } : Jvm.MethodName)) ∈ lw_all := lw_g (lw_at lw_m6 114 rfl) rfl
theorem q1396 : (Jvm.Cond.code ({ cls := "TableWaysModel", name := "goes", desc := "(IIII)Z" } : Jvm.MethodName) prog_21_method_78_code (7 : Nat) (Option.some Jvm.ClassFile.FieldType.boolean)) ∈ lw_all := lw_g (lw_at lw_m6 115 rfl) rfl
theorem q1397 : (Jvm.Cond.methodLink "TableWaysModel" (362 : Nat) ({ cls := "TableWaysModel", name := "takeState", desc := "(I)V" } : Jvm.MethodName)) ∈ lw_all := lw_g (lw_at lw_m6 116 rfl) rfl
theorem q1398 : (Jvm.Cond.privateMethod ({ cls := "TableWaysModel", name := "takeState", desc := "(I)V" } : Jvm.MethodName)) ∈ lw_tbl := lw_at lw_m6 117 rfl
theorem q1399 : (Jvm.Cond.instanceMethod ({ cls := "TableWaysModel", name := "takeState", desc := "(I)V" } : Jvm.MethodName)) ∈ lw_all := lw_g (lw_at lw_m6 118 rfl) rfl
theorem q1400 : (Jvm.Cond.code ({ cls := "TableWaysModel", name := "takeState", desc := "(I)V" } : Jvm.MethodName) prog_21_method_77_code (4 : Nat) (Option.none : Option Jvm.ClassFile.FieldType)) ∈ lw_all := lw_g (lw_at lw_m6 119 rfl) rfl
theorem q1401 : (Jvm.Cond.methodLink "TableWaysModel" (403 : Nat) ({ cls := "TableWaysModel", name := "search", desc := "()I" } : Jvm.MethodName)) ∈ lw_all := lw_g (lw_at lw_m6 120 rfl) rfl
theorem q1402 : (Jvm.Cond.privateMethod ({ cls := "TableWaysModel", name := "search", desc := "()I" } : Jvm.MethodName)) ∈ lw_tbl := lw_at lw_m6 121 rfl
theorem q1403 : (Jvm.Cond.instanceMethod ({ cls := "TableWaysModel", name := "search", desc := "()I" } : Jvm.MethodName)) ∈ lw_all := lw_g (lw_at lw_m6 122 rfl) rfl
theorem q1404 : (Jvm.Cond.code ({ cls := "TableWaysModel", name := "search", desc := "()I" } : Jvm.MethodName) prog_21_method_72_code (2 : Nat) (Option.some Jvm.ClassFile.FieldType.int)) ∈ lw_all := lw_g (lw_at lw_m6 123 rfl) rfl
theorem q1405 : (Jvm.Cond.methodLink "TableWaysModel" (345 : Nat) ({ cls := "TableWaysModel", name := "isState", desc := "(I)Z" } : Jvm.MethodName)) ∈ lw_all := lw_g (lw_at lw_m6 124 rfl) rfl
theorem q1406 : (Jvm.Cond.privateMethod ({ cls := "TableWaysModel", name := "isState", desc := "(I)Z" } : Jvm.MethodName)) ∈ lw_tbl := lw_at lw_m6 125 rfl
theorem q1407 : (Jvm.Cond.instanceMethod ({ cls := "TableWaysModel", name := "isState", desc := "(I)Z" } : Jvm.MethodName)) ∈ lw_all := lw_g (lw_at lw_m6 126 rfl) rfl
theorem q1408 : (Jvm.Cond.code ({ cls := "TableWaysModel", name := "isState", desc := "(I)Z" } : Jvm.MethodName) prog_21_method_75_code (3 : Nat) (Option.some Jvm.ClassFile.FieldType.boolean)) ∈ lw_all := lw_g (lw_at lw_m6 127 rfl) rfl
theorem q1409 : (Jvm.Cond.methodLink "TableWaysModel" (394 : Nat) ({ cls := "TableWaysModel", name := "countWays", desc := "(I)V" } : Jvm.MethodName)) ∈ lw_all := lw_g (lw_at lw_m6 128 rfl) rfl
theorem q1410 : (Jvm.Cond.privateMethod ({ cls := "TableWaysModel", name := "countWays", desc := "(I)V" } : Jvm.MethodName)) ∈ lw_tbl := lw_at lw_m6 129 rfl
theorem q1411 : (Jvm.Cond.instanceMethod ({ cls := "TableWaysModel", name := "countWays", desc := "(I)V" } : Jvm.MethodName)) ∈ lw_all := lw_g (lw_at lw_m6 130 rfl) rfl
theorem q1412 : (Jvm.Cond.code ({ cls := "TableWaysModel", name := "countWays", desc := "(I)V" } : Jvm.MethodName) prog_21_method_83_code (7 : Nat) (Option.none : Option Jvm.ClassFile.FieldType)) ∈ lw_all := lw_g (lw_at lw_m6 131 rfl) rfl
theorem q1413 : (Jvm.Cond.methodLink "TableWaysModel" (406 : Nat) ({ cls := "TableWaysModel", name := "leadsBy", desc := "(IIIII)I" } : Jvm.MethodName)) ∈ lw_all := lw_g (lw_at lw_m6 132 rfl) rfl
theorem q1414 : (Jvm.Cond.privateMethod ({ cls := "TableWaysModel", name := "leadsBy", desc := "(IIIII)I" } : Jvm.MethodName)) ∈ lw_tbl := lw_at lw_m6 133 rfl
theorem q1415 : (Jvm.Cond.instanceMethod ({ cls := "TableWaysModel", name := "leadsBy", desc := "(IIIII)I" } : Jvm.MethodName)) ∈ lw_all := lw_g (lw_at lw_m6 134 rfl) rfl
theorem q1416 : (Jvm.Cond.code ({ cls := "TableWaysModel", name := "leadsBy", desc := "(IIIII)I" } : Jvm.MethodName) prog_21_method_84_code (7 : Nat) (Option.some Jvm.ClassFile.FieldType.int)) ∈ lw_all := lw_g (lw_at lw_m6 135 rfl) rfl
theorem q1417 : (Jvm.Cond.methodLink "TableWaysModel" (410 : Nat) ({ cls := "java/lang/Math", name := "min", desc := "(II)I" } : Jvm.MethodName)) ∈ lw_all := lw_g (lw_at lw_m6 136 rfl) rfl
theorem q1418 : (Jvm.Cond.methodLink "TableWaysModel" (397 : Nat) ({ cls := "TableWaysModel", name := "tellWays", desc := "(III)V" } : Jvm.MethodName)) ∈ lw_all := lw_g (lw_at lw_m6 137 rfl) rfl
theorem q1419 : (Jvm.Cond.privateMethod ({ cls := "TableWaysModel", name := "tellWays", desc := "(III)V" } : Jvm.MethodName)) ∈ lw_tbl := lw_at lw_m6 138 rfl
theorem q1420 : (Jvm.Cond.instanceMethod ({ cls := "TableWaysModel", name := "tellWays", desc := "(III)V" } : Jvm.MethodName)) ∈ lw_all := lw_g (lw_at lw_m6 139 rfl) rfl
theorem q1421 : (Jvm.Cond.code ({ cls := "TableWaysModel", name := "tellWays", desc := "(III)V" } : Jvm.MethodName) prog_21_method_85_code (8 : Nat) (Option.none : Option Jvm.ClassFile.FieldType)) ∈ lw_all := lw_g (lw_at lw_m6 140 rfl) rfl
theorem q1423 : (Jvm.Cond.instanceMethod ({ cls := "TableWaysModel", name := "found", desc := "(I)I" } : Jvm.MethodName)) ∈ lw_all := lw_g (lw_at lw_m6 142 rfl) rfl
theorem q1424 : (Jvm.Cond.selects "TableWaysModel" ({ cls := "TableWaysModel", name := "found", desc := "(I)I" } : Jvm.MethodName) ({ cls := "TableWaysModel", name := "found", desc := "(I)I" } : Jvm.MethodName)) ∈ lw_all := lw_g (lw_at lw_m6 143 rfl) rfl
theorem q1425 : (Jvm.Cond.code ({ cls := "TableWaysModel", name := "found", desc := "(I)I" } : Jvm.MethodName) prog_21_method_86_code (2 : Nat) (Option.some Jvm.ClassFile.FieldType.int)) ∈ lw_all := lw_g (lw_at lw_m6 144 rfl) rfl
theorem q1427 : (Jvm.Cond.instanceMethod ({ cls := "TableWaysModel", name := "take", desc := "(II)I" } : Jvm.MethodName)) ∈ lw_all := lw_g (lw_at lw_m6 146 rfl) rfl
theorem q1428 : (Jvm.Cond.selects "TableWaysModel" ({ cls := "TableWaysModel", name := "take", desc := "(II)I" } : Jvm.MethodName) ({ cls := "TableWaysModel", name := "take", desc := "(II)I" } : Jvm.MethodName)) ∈ lw_all := lw_g (lw_at lw_m6 147 rfl) rfl
theorem q1429 : (Jvm.Cond.code ({ cls := "TableWaysModel", name := "take", desc := "(II)I" } : Jvm.MethodName) prog_21_method_87_code (4 : Nat) (Option.some Jvm.ClassFile.FieldType.int)) ∈ lw_all := lw_g (lw_at lw_m6 148 rfl) rfl
theorem q1431 : (Jvm.Cond.instanceMethod ({ cls := "TableWaysModel", name := "part", desc := "(IIIII)I" } : Jvm.MethodName)) ∈ lw_all := lw_g (lw_at lw_m6 150 rfl) rfl
theorem q1432 : (Jvm.Cond.selects "TableWaysModel" ({ cls := "TableWaysModel", name := "part", desc := "(IIIII)I" } : Jvm.MethodName) ({ cls := "TableWaysModel", name := "part", desc := "(IIIII)I" } : Jvm.MethodName)) ∈ lw_all := lw_g (lw_at lw_m6 151 rfl) rfl
theorem q1433 : (Jvm.Cond.code ({ cls := "TableWaysModel", name := "part", desc := "(IIIII)I" } : Jvm.MethodName) prog_21_method_88_code (12 : Nat) (Option.some Jvm.ClassFile.FieldType.int)) ∈ lw_all := lw_g (lw_at lw_m6 152 rfl) rfl
theorem q1434 : (Jvm.Cond.methodLink "TableWaysModel" (418 : Nat) ({ cls := "TableWaysModel", name := "list", desc := "(IIII)V" } : Jvm.MethodName)) ∈ lw_all := lw_g (lw_at lw_m6 153 rfl) rfl
theorem q1435 : (Jvm.Cond.privateMethod ({ cls := "TableWaysModel", name := "list", desc := "(IIII)V" } : Jvm.MethodName)) ∈ lw_tbl := lw_at lw_m6 154 rfl
theorem q1436 : (Jvm.Cond.instanceMethod ({ cls := "TableWaysModel", name := "list", desc := "(IIII)V" } : Jvm.MethodName)) ∈ lw_all := lw_g (lw_at lw_m6 155 rfl) rfl
theorem q1437 : (Jvm.Cond.code ({ cls := "TableWaysModel", name := "list", desc := "(IIII)V" } : Jvm.MethodName) prog_21_method_89_code (8 : Nat) (Option.none : Option Jvm.ClassFile.FieldType)) ∈ lw_all := lw_g (lw_at lw_m6 156 rfl) rfl
theorem q1438 : (Jvm.Cond.fieldLink "TableWaysModel" (422 : Nat) "TableWaysModel" "LISTED" "[J") ∈ lw_all := lw_g (lw_at lw_m6 157 rfl) rfl
theorem q1439 : (Jvm.Cond.laysStatic "TableWaysModel" "LISTED" "[J") ∈ lw_tbl := lw_at lw_m6 158 rfl
theorem q1441 : (Jvm.Cond.instanceMethod ({ cls := "TableWaysModel", name := "count", desc := "(I)I" } : Jvm.MethodName)) ∈ lw_all := lw_g (lw_at lw_m6 160 rfl) rfl
theorem q1442 : (Jvm.Cond.selects "TableWaysModel" ({ cls := "TableWaysModel", name := "count", desc := "(I)I" } : Jvm.MethodName) ({ cls := "TableWaysModel", name := "count", desc := "(I)I" } : Jvm.MethodName)) ∈ lw_all := lw_g (lw_at lw_m6 161 rfl) rfl
theorem q1443 : (Jvm.Cond.code ({ cls := "TableWaysModel", name := "count", desc := "(I)I" } : Jvm.MethodName) prog_21_method_90_code (4 : Nat) (Option.some Jvm.ClassFile.FieldType.int)) ∈ lw_all := lw_g (lw_at lw_m6 162 rfl) rfl
theorem in_X4 : ∀ w ∈ wsX40, w ∈ lw_all := lw_in wsX40 [998, 1000, 1002, 1004, 1006, 1008, 1010, 1012, 1014, 1016, 1018, 1020, 1022, 1024, 1026, 1028, 1030, 1032, 1034, 1036, 1038, 1040, 1042, 1044, 1046, 1048, 1050, 1052, 1054, 1056, 1058, 1060, 1062, 1064, 1066, 1068, 1070, 1072, 1074, 1076, 1078, 1080, 1082] (by decide +kernel) (by decide +kernel)
/-! X5.TableWaysModel_Stop.lean.txt -/
/-! TableWaysModel$Stop -/
set_option maxRecDepth 100000
def RX5 : String := "TableWaysModel$Stop"
def TX5 : u_T := fun k => match k with
  | 0 => ("java/lang/Throwable", "cause", "Ljava/lang/Throwable;", false)
  | 1 => ("java/lang/Throwable", "stackTrace", "[Ljava/lang/StackTraceElement;", false)
  | 2 => ("java/lang/Throwable", "suppressedExceptions", "Ljava/util/List;", false)
  | 3 => ("java/lang/Throwable", "detailMessage", "Ljava/lang/String;", false)
  | 4 => ("java/lang/Throwable", "backtrace", "Ljava/lang/Object;", false)
  | _ => ("java/lang/Throwable", "depth", "I", false)
def tyX5 : Nat → FieldType := fun k => match k with
  | 0 => .object "java/lang/Throwable"
  | 1 => .array (.object "java/lang/StackTraceElement")
  | 2 => .object "java/util/List"
  | 3 => .object "java/lang/String"
  | 4 => .object "java/lang/Object"
  | _ => .int
abbrev wsX50 : List Cond := u_ws RX5 TX5 6
theorem nmX5 : ∀ a, a < 6 → ∀ b, b < 6 → a ≠ b → (TX5 a).2.1 ≠ (TX5 b).2.1 := by decide +kernel
theorem tyX5_ok : ∀ k, k < 6 → parseFieldDescriptor (TX5 k).2.2.1 = some (tyX5 k) := by decide +kernel
abbrev cX5_init : ByteArray := prog_22_method_1_code
def yX5_init : MethodName := ⟨RX5, "<init>", "()V"⟩
theorem q89 : (Jvm.Cond.initialized "TableWaysModel$Stop") ∈ lw_all := lw_g (lw_at lw_m1 8 rfl) rfl
theorem q140 : (Jvm.Cond.selects "TableWaysModel$Stop" ({ cls := "java/lang/Throwable", name := "fillInStackTrace", desc := "()Ljava/lang/Throwable;" } : Jvm.MethodName) ({ cls := "java/lang/Throwable", name := "fillInStackTrace", desc := "()Ljava/lang/Throwable;" } : Jvm.MethodName)) ∈ lw_all := lw_g (lw_at lw_m1 59 rfl) rfl
theorem q940 : (Jvm.Cond.instantiable "TableWaysModel$Stop" (6 : Nat)) ∈ lw_all := lw_g (lw_at lw_m4 139 rfl) rfl
theorem q941 : (Jvm.Cond.castable "TableWaysModel$Stop" "TableWaysModel$Stop") ∈ lw_tbl := lw_at lw_m4 140 rfl
theorem q942 : (Jvm.Cond.selects "TableWaysModel$Stop" ({ cls := "java/lang/Throwable", name := "fillInStackTrace", desc := "(I)Ljava/lang/Throwable;" } : Jvm.MethodName) ({ cls := "java/lang/Throwable", name := "fillInStackTrace", desc := "(I)Ljava/lang/Throwable;" } : Jvm.MethodName)) ∈ lw_all := lw_g (lw_at lw_m4 141 rfl) rfl
theorem q943 : (Jvm.Cond.lays "TableWaysModel$Stop" "java/lang/Throwable" "cause" "Ljava/lang/Throwable;") ∈ lw_all := lw_g (lw_at lw_m4 142 rfl) rfl
theorem q944 : (Jvm.Cond.lays "TableWaysModel$Stop" "java/lang/Throwable" "stackTrace" "[Ljava/lang/StackTraceElement;") ∈ lw_all := lw_g (lw_at lw_m4 143 rfl) rfl
theorem q945 : (Jvm.Cond.lays "TableWaysModel$Stop" "java/lang/Throwable" "suppressedExceptions" "Ljava/util/List;") ∈ lw_all := lw_g (lw_at lw_m4 144 rfl) rfl
theorem q946 : (Jvm.Cond.lays "TableWaysModel$Stop" "java/lang/Throwable" "detailMessage" "Ljava/lang/String;") ∈ lw_all := lw_g (lw_at lw_m4 145 rfl) rfl
theorem q947 : (Jvm.Cond.lays "TableWaysModel$Stop" "java/lang/Throwable" "backtrace" "Ljava/lang/Object;") ∈ lw_all := lw_g (lw_at lw_m4 146 rfl) rfl
theorem q949 : (Jvm.Cond.instanceMethod ({ cls := "TableWaysModel$Stop", name := "<init>", desc := "()V" } : Jvm.MethodName)) ∈ lw_all := lw_g (lw_at lw_m4 148 rfl) rfl
theorem q950 : (Jvm.Cond.code ({ cls := "TableWaysModel$Stop", name := "<init>", desc := "()V" } : Jvm.MethodName) prog_22_method_1_code (1 : Nat) (Option.none : Option Jvm.ClassFile.FieldType)) ∈ lw_all := lw_g (lw_at lw_m4 149 rfl) rfl
theorem q951 : (Jvm.Cond.methodLink "TableWaysModel$Stop" (1 : Nat) ({ cls := "java/lang/Exception", name := "<init>", desc := "(Ljava/lang/String;Ljava/lang/Throwable;ZZ)V" } : Jvm.MethodName)) ∈ lw_all := lw_g (lw_at lw_m4 150 rfl) rfl
theorem q952 : (Jvm.Cond.lays "TableWaysModel$Stop" "java/lang/Throwable" "depth" "I") ∈ lw_all := lw_g (lw_at lw_m4 151 rfl) rfl
theorem q953 : (Jvm.Cond.superclass "TableWaysModel$Stop" "java/lang/Exception") ∈ lw_all := lw_g (lw_at lw_m4 152 rfl) rfl
theorem in_X5 : ∀ w ∈ wsX50, w ∈ lw_all := lw_in wsX50 [943, 944, 945, 946, 947, 952] (by decide +kernel) (by decide +kernel)
/-! X7.TableWays_Kind_13.lean.txt -/
/-! TableWays$Kind$13 -/
set_option maxRecDepth 100000
def RX7 : String := "TableWays$Kind$13"
abbrev cX7_of : ByteArray := prog_7_method_2_code
def yX7_of : MethodName := ⟨RX7, "of", "(LTableWays$Table;IILTableWays$Table;)Z"⟩
theorem q184 : (Jvm.Cond.fieldLink "TableWays$Kind$13" (7 : Nat) "TableWays$Table" "rows" "I") ∈ lw_all := lw_g (lw_at lw_m1 103 rfl) rfl
theorem q215 : (Jvm.Cond.fieldLink "TableWays$Kind$13" (13 : Nat) "TableWays$Table" "order" "[I") ∈ lw_all := lw_g (lw_at lw_m1 134 rfl) rfl
theorem q687 : (Jvm.Cond.selects "TableWays$Kind$13" ({ cls := "TableWays$Kind", name := "may", desc := "(LTableWays$Table;II)Z" } : Jvm.MethodName) ({ cls := "TableWays$Kind", name := "may", desc := "(LTableWays$Table;II)Z" } : Jvm.MethodName)) ∈ lw_all := lw_g (lw_at lw_m3 126 rfl) rfl
theorem q744 : (Jvm.Cond.selects "TableWays$Kind$13" ({ cls := "TableWays$Kind", name := "of", desc := "(LTableWays$Table;IILTableWays$Table;)Z" } : Jvm.MethodName) ({ cls := "TableWays$Kind$13", name := "of", desc := "(LTableWays$Table;IILTableWays$Table;)Z" } : Jvm.MethodName)) ∈ lw_all := lw_g (lw_at lw_m3 183 rfl) rfl
theorem q745 : (Jvm.Cond.instanceMethod ({ cls := "TableWays$Kind$13", name := "of", desc := "(LTableWays$Table;IILTableWays$Table;)Z" } : Jvm.MethodName)) ∈ lw_all := lw_g (lw_at lw_m3 184 rfl) rfl
theorem q746 : (Jvm.Cond.code ({ cls := "TableWays$Kind$13", name := "of", desc := "(LTableWays$Table;IILTableWays$Table;)Z" } : Jvm.MethodName) prog_7_method_2_code (7 : Nat) (Option.some Jvm.ClassFile.FieldType.boolean)) ∈ lw_all := lw_g (lw_at lw_m3 185 rfl) rfl
theorem q747 : (Jvm.Cond.methodLinkNest "TableWays$Kind$13" (17 : Nat) ({ cls := "TableWays", name := "rowsOf", desc := "(LTableWays$Table;[IILTableWays$Table;)Z" } : Jvm.MethodName) "TableWays") ∈ lw_tbl := lw_at lw_m3 186 rfl
/-! X8.TableWays_Kind_1.lean.txt -/
/-! TableWays$Kind$1 -/
set_option maxRecDepth 100000
def RX8 : String := "TableWays$Kind$1"
abbrev cX8_of : ByteArray := prog_3_method_2_code
def yX8_of : MethodName := ⟨RX8, "of", "(LTableWays$Table;IILTableWays$Table;)Z"⟩
theorem q185 : (Jvm.Cond.fieldLink "TableWays$Kind$1" (13 : Nat) "TableWays$Table" "rows" "I") ∈ lw_all := lw_g (lw_at lw_m1 104 rfl) rfl
theorem q199 : (Jvm.Cond.fieldLink "TableWays$Kind$1" (7 : Nat) "TableWays$Table" "columns" "I") ∈ lw_all := lw_g (lw_at lw_m1 118 rfl) rfl
theorem q683 : (Jvm.Cond.selects "TableWays$Kind$1" ({ cls := "TableWays$Kind", name := "may", desc := "(LTableWays$Table;II)Z" } : Jvm.MethodName) ({ cls := "TableWays$Kind", name := "may", desc := "(LTableWays$Table;II)Z" } : Jvm.MethodName)) ∈ lw_all := lw_g (lw_at lw_m3 122 rfl) rfl
theorem q707 : (Jvm.Cond.selects "TableWays$Kind$1" ({ cls := "TableWays$Kind", name := "of", desc := "(LTableWays$Table;IILTableWays$Table;)Z" } : Jvm.MethodName) ({ cls := "TableWays$Kind$1", name := "of", desc := "(LTableWays$Table;IILTableWays$Table;)Z" } : Jvm.MethodName)) ∈ lw_all := lw_g (lw_at lw_m3 146 rfl) rfl
theorem q708 : (Jvm.Cond.instanceMethod ({ cls := "TableWays$Kind$1", name := "of", desc := "(LTableWays$Table;IILTableWays$Table;)Z" } : Jvm.MethodName)) ∈ lw_all := lw_g (lw_at lw_m3 147 rfl) rfl
theorem q709 : (Jvm.Cond.code ({ cls := "TableWays$Kind$1", name := "of", desc := "(LTableWays$Table;IILTableWays$Table;)Z" } : Jvm.MethodName) prog_3_method_2_code (7 : Nat) (Option.some Jvm.ClassFile.FieldType.boolean)) ∈ lw_all := lw_g (lw_at lw_m3 148 rfl) rfl
theorem q710 : (Jvm.Cond.methodLinkNest "TableWays$Kind$1" (16 : Nat) ({ cls := "TableWays", name := "isSize", desc := "(II)Z" } : Jvm.MethodName) "TableWays") ∈ lw_tbl := lw_at lw_m3 149 rfl
theorem q714 : (Jvm.Cond.methodLink "TableWays$Kind$1" (22 : Nat) ({ cls := "TableWays$Table", name := "begin", desc := "(II)V" } : Jvm.MethodName)) ∈ lw_all := lw_g (lw_at lw_m3 153 rfl) rfl
theorem q715 : (Jvm.Cond.methodLink "TableWays$Kind$1" (26 : Nat) ({ cls := "TableWays$Table", name := "at", desc := "(II)J" } : Jvm.MethodName)) ∈ lw_all := lw_g (lw_at lw_m3 154 rfl) rfl
theorem q716 : (Jvm.Cond.methodLink "TableWays$Kind$1" (30 : Nat) ({ cls := "TableWays$Table", name := "set", desc := "(IIJ)V" } : Jvm.MethodName)) ∈ lw_all := lw_g (lw_at lw_m3 155 rfl) rfl
/-! X9.TableWays_Kind_6.lean.txt -/
/-! TableWays$Kind$6 -/
set_option maxRecDepth 100000
def RX9 : String := "TableWays$Kind$6"
abbrev cX9_of : ByteArray := prog_13_method_2_code
def yX9_of : MethodName := ⟨RX9, "of", "(LTableWays$Table;IILTableWays$Table;)Z"⟩
theorem q186 : (Jvm.Cond.fieldLink "TableWays$Kind$6" (7 : Nat) "TableWays$Table" "rows" "I") ∈ lw_all := lw_g (lw_at lw_m1 105 rfl) rfl
theorem q205 : (Jvm.Cond.fieldLink "TableWays$Kind$6" (13 : Nat) "TableWays$Table" "columns" "I") ∈ lw_all := lw_g (lw_at lw_m1 124 rfl) rfl
theorem q693 : (Jvm.Cond.selects "TableWays$Kind$6" ({ cls := "TableWays$Kind", name := "may", desc := "(LTableWays$Table;II)Z" } : Jvm.MethodName) ({ cls := "TableWays$Kind", name := "may", desc := "(LTableWays$Table;II)Z" } : Jvm.MethodName)) ∈ lw_all := lw_g (lw_at lw_m3 132 rfl) rfl
theorem q791 : (Jvm.Cond.selects "TableWays$Kind$6" ({ cls := "TableWays$Kind", name := "of", desc := "(LTableWays$Table;IILTableWays$Table;)Z" } : Jvm.MethodName) ({ cls := "TableWays$Kind$6", name := "of", desc := "(LTableWays$Table;IILTableWays$Table;)Z" } : Jvm.MethodName)) ∈ lw_all := lw_g (lw_at lw_m3 230 rfl) rfl
theorem q792 : (Jvm.Cond.instanceMethod ({ cls := "TableWays$Kind$6", name := "of", desc := "(LTableWays$Table;IILTableWays$Table;)Z" } : Jvm.MethodName)) ∈ lw_all := lw_g (lw_at lw_m3 231 rfl) rfl
theorem q793 : (Jvm.Cond.code ({ cls := "TableWays$Kind$6", name := "of", desc := "(LTableWays$Table;IILTableWays$Table;)Z" } : Jvm.MethodName) prog_13_method_2_code (9 : Nat) (Option.some Jvm.ClassFile.FieldType.boolean)) ∈ lw_all := lw_g (lw_at lw_m3 232 rfl) rfl
theorem q794 : (Jvm.Cond.methodLinkNest "TableWays$Kind$6" (16 : Nat) ({ cls := "TableWays", name := "isSize", desc := "(II)Z" } : Jvm.MethodName) "TableWays") ∈ lw_tbl := lw_at lw_m3 233 rfl
theorem q795 : (Jvm.Cond.methodLink "TableWays$Kind$6" (22 : Nat) ({ cls := "TableWays$Table", name := "begin", desc := "(II)V" } : Jvm.MethodName)) ∈ lw_all := lw_g (lw_at lw_m3 234 rfl) rfl
theorem q796 : (Jvm.Cond.methodLink "TableWays$Kind$6" (26 : Nat) ({ cls := "TableWays$Table", name := "at", desc := "(II)J" } : Jvm.MethodName)) ∈ lw_all := lw_g (lw_at lw_m3 235 rfl) rfl
theorem q797 : (Jvm.Cond.methodLink "TableWays$Kind$6" (30 : Nat) ({ cls := "TableWays$Table", name := "set", desc := "(IIJ)V" } : Jvm.MethodName)) ∈ lw_all := lw_g (lw_at lw_m3 236 rfl) rfl
/-! X10.TableWays_Kind_11.lean.txt -/
/-! TableWays$Kind$11 -/
set_option maxRecDepth 100000
def RX10 : String := "TableWays$Kind$11"
abbrev cX10_of : ByteArray := prog_5_method_2_code
def yX10_of : MethodName := ⟨RX10, "of", "(LTableWays$Table;IILTableWays$Table;)Z"⟩
theorem q187 : (Jvm.Cond.fieldLink "TableWays$Kind$11" (9 : Nat) "TableWays$Table" "rows" "I") ∈ lw_all := lw_g (lw_at lw_m1 106 rfl) rfl
theorem q685 : (Jvm.Cond.selects "TableWays$Kind$11" ({ cls := "TableWays$Kind", name := "may", desc := "(LTableWays$Table;II)Z" } : Jvm.MethodName) ({ cls := "TableWays$Kind", name := "may", desc := "(LTableWays$Table;II)Z" } : Jvm.MethodName)) ∈ lw_all := lw_g (lw_at lw_m3 124 rfl) rfl
theorem q730 : (Jvm.Cond.selects "TableWays$Kind$11" ({ cls := "TableWays$Kind", name := "of", desc := "(LTableWays$Table;IILTableWays$Table;)Z" } : Jvm.MethodName) ({ cls := "TableWays$Kind$11", name := "of", desc := "(LTableWays$Table;IILTableWays$Table;)Z" } : Jvm.MethodName)) ∈ lw_all := lw_g (lw_at lw_m3 169 rfl) rfl
theorem q731 : (Jvm.Cond.instanceMethod ({ cls := "TableWays$Kind$11", name := "of", desc := "(LTableWays$Table;IILTableWays$Table;)Z" } : Jvm.MethodName)) ∈ lw_all := lw_g (lw_at lw_m3 170 rfl) rfl
theorem q732 : (Jvm.Cond.code ({ cls := "TableWays$Kind$11", name := "of", desc := "(LTableWays$Table;IILTableWays$Table;)Z" } : Jvm.MethodName) prog_5_method_2_code (6 : Nat) (Option.some Jvm.ClassFile.FieldType.boolean)) ∈ lw_all := lw_g (lw_at lw_m3 171 rfl) rfl
theorem q733 : (Jvm.Cond.methodLink "TableWays$Kind$11" (15 : Nat) ({ cls := "TableWays$Table", name := "at", desc := "(II)J" } : Jvm.MethodName)) ∈ lw_all := lw_g (lw_at lw_m3 172 rfl) rfl
theorem q734 : (Jvm.Cond.methodLinkNest "TableWays$Kind$11" (19 : Nat) ({ cls := "TableWays", name := "numberOf", desc := "(J)I" } : Jvm.MethodName) "TableWays") ∈ lw_tbl := lw_at lw_m3 173 rfl
theorem q735 : (Jvm.Cond.methodLinkNest "TableWays$Kind$11" (23 : Nat) ({ cls := "TableWays", name := "grouped", desc := "(LTableWays$Table;IILTableWays$Table;)Z" } : Jvm.MethodName) "TableWays") ∈ lw_tbl := lw_at lw_m3 174 rfl
/-! X11.TableWays_Kind_2.lean.txt -/
/-! TableWays$Kind$2 -/
set_option maxRecDepth 100000
def RX11 : String := "TableWays$Kind$2"
abbrev cX11_of : ByteArray := prog_9_method_2_code
def yX11_of : MethodName := ⟨RX11, "of", "(LTableWays$Table;IILTableWays$Table;)Z"⟩
theorem q188 : (Jvm.Cond.fieldLink "TableWays$Kind$2" (13 : Nat) "TableWays$Table" "rows" "I") ∈ lw_all := lw_g (lw_at lw_m1 107 rfl) rfl
theorem q200 : (Jvm.Cond.fieldLink "TableWays$Kind$2" (7 : Nat) "TableWays$Table" "columns" "I") ∈ lw_all := lw_g (lw_at lw_m1 119 rfl) rfl
theorem q689 : (Jvm.Cond.selects "TableWays$Kind$2" ({ cls := "TableWays$Kind", name := "may", desc := "(LTableWays$Table;II)Z" } : Jvm.MethodName) ({ cls := "TableWays$Kind", name := "may", desc := "(LTableWays$Table;II)Z" } : Jvm.MethodName)) ∈ lw_all := lw_g (lw_at lw_m3 128 rfl) rfl
theorem q754 : (Jvm.Cond.selects "TableWays$Kind$2" ({ cls := "TableWays$Kind", name := "of", desc := "(LTableWays$Table;IILTableWays$Table;)Z" } : Jvm.MethodName) ({ cls := "TableWays$Kind$2", name := "of", desc := "(LTableWays$Table;IILTableWays$Table;)Z" } : Jvm.MethodName)) ∈ lw_all := lw_g (lw_at lw_m3 193 rfl) rfl
theorem q755 : (Jvm.Cond.instanceMethod ({ cls := "TableWays$Kind$2", name := "of", desc := "(LTableWays$Table;IILTableWays$Table;)Z" } : Jvm.MethodName)) ∈ lw_all := lw_g (lw_at lw_m3 194 rfl) rfl
theorem q756 : (Jvm.Cond.code ({ cls := "TableWays$Kind$2", name := "of", desc := "(LTableWays$Table;IILTableWays$Table;)Z" } : Jvm.MethodName) prog_9_method_2_code (7 : Nat) (Option.some Jvm.ClassFile.FieldType.boolean)) ∈ lw_all := lw_g (lw_at lw_m3 195 rfl) rfl
theorem q757 : (Jvm.Cond.methodLink "TableWays$Kind$2" (16 : Nat) ({ cls := "TableWays$Table", name := "begin", desc := "(II)V" } : Jvm.MethodName)) ∈ lw_all := lw_g (lw_at lw_m3 196 rfl) rfl
theorem q758 : (Jvm.Cond.methodLink "TableWays$Kind$2" (20 : Nat) ({ cls := "TableWays$Table", name := "at", desc := "(II)J" } : Jvm.MethodName)) ∈ lw_all := lw_g (lw_at lw_m3 197 rfl) rfl
theorem q759 : (Jvm.Cond.methodLink "TableWays$Kind$2" (24 : Nat) ({ cls := "TableWays$Table", name := "set", desc := "(IIJ)V" } : Jvm.MethodName)) ∈ lw_all := lw_g (lw_at lw_m3 198 rfl) rfl
/-! X12.TableWays_Kind_3.lean.txt -/
/-! TableWays$Kind$3 -/
set_option maxRecDepth 100000
def RX12 : String := "TableWays$Kind$3"
abbrev cX12_of : ByteArray := prog_10_method_2_code
def yX12_of : MethodName := ⟨RX12, "of", "(LTableWays$Table;IILTableWays$Table;)Z"⟩
theorem q189 : (Jvm.Cond.fieldLink "TableWays$Kind$3" (15 : Nat) "TableWays$Table" "rows" "I") ∈ lw_all := lw_g (lw_at lw_m1 108 rfl) rfl
theorem q201 : (Jvm.Cond.fieldLink "TableWays$Kind$3" (9 : Nat) "TableWays$Table" "columns" "I") ∈ lw_all := lw_g (lw_at lw_m1 120 rfl) rfl
theorem q690 : (Jvm.Cond.selects "TableWays$Kind$3" ({ cls := "TableWays$Kind", name := "may", desc := "(LTableWays$Table;II)Z" } : Jvm.MethodName) ({ cls := "TableWays$Kind", name := "may", desc := "(LTableWays$Table;II)Z" } : Jvm.MethodName)) ∈ lw_all := lw_g (lw_at lw_m3 129 rfl) rfl
theorem q760 : (Jvm.Cond.selects "TableWays$Kind$3" ({ cls := "TableWays$Kind", name := "of", desc := "(LTableWays$Table;IILTableWays$Table;)Z" } : Jvm.MethodName) ({ cls := "TableWays$Kind$3", name := "of", desc := "(LTableWays$Table;IILTableWays$Table;)Z" } : Jvm.MethodName)) ∈ lw_all := lw_g (lw_at lw_m3 199 rfl) rfl
theorem q761 : (Jvm.Cond.instanceMethod ({ cls := "TableWays$Kind$3", name := "of", desc := "(LTableWays$Table;IILTableWays$Table;)Z" } : Jvm.MethodName)) ∈ lw_all := lw_g (lw_at lw_m3 200 rfl) rfl
theorem q762 : (Jvm.Cond.code ({ cls := "TableWays$Kind$3", name := "of", desc := "(LTableWays$Table;IILTableWays$Table;)Z" } : Jvm.MethodName) prog_10_method_2_code (11 : Nat) (Option.some Jvm.ClassFile.FieldType.boolean)) ∈ lw_all := lw_g (lw_at lw_m3 201 rfl) rfl
theorem q763 : (Jvm.Cond.methodLink "TableWays$Kind$3" (18 : Nat) ({ cls := "TableWays$Table", name := "begin", desc := "(II)V" } : Jvm.MethodName)) ∈ lw_all := lw_g (lw_at lw_m3 202 rfl) rfl
theorem q764 : (Jvm.Cond.stringRef "TableWays$Kind$3" (22 : Nat) "-:/.") ∈ lw_tbl := lw_at lw_m3 203 rfl
theorem q765 : (Jvm.Cond.methodLink "TableWays$Kind$3" (24 : Nat) ({ cls := "java/lang/String", name := "charAt", desc := "(I)C" } : Jvm.MethodName)) ∈ lw_all := lw_g (lw_at lw_m3 204 rfl) rfl
theorem q766 : (Jvm.Cond.methodLink "TableWays$Kind$3" (30 : Nat) ({ cls := "TableWays$Table", name := "at", desc := "(II)J" } : Jvm.MethodName)) ∈ lw_all := lw_g (lw_at lw_m3 205 rfl) rfl
theorem q767 : (Jvm.Cond.methodLink "TableWays$Kind$3" (34 : Nat) ({ cls := "TableWays$Table", name := "set", desc := "(IIJ)V" } : Jvm.MethodName)) ∈ lw_all := lw_g (lw_at lw_m3 206 rfl) rfl
theorem q768 : (Jvm.Cond.methodLinkNest "TableWays$Kind$3" (38 : Nat) ({ cls := "TableWays", name := "find", desc := "(JI)I" } : Jvm.MethodName) "TableWays") ∈ lw_tbl := lw_at lw_m3 207 rfl
theorem q771 : (Jvm.Cond.methodLinkNest "TableWays$Kind$3" (42 : Nat) ({ cls := "TableWays", name := "part", desc := "(JII)J" } : Jvm.MethodName) "TableWays") ∈ lw_tbl := lw_at lw_m3 210 rfl
theorem q774 : (Jvm.Cond.methodLinkNest "TableWays$Kind$3" (46 : Nat) ({ cls := "TableWays", name := "bytesOf", desc := "(J)I" } : Jvm.MethodName) "TableWays") ∈ lw_tbl := lw_at lw_m3 213 rfl
/-! X13.TableWays_Kind_4.lean.txt -/
/-! TableWays$Kind$4 -/
set_option maxRecDepth 100000
def RX13 : String := "TableWays$Kind$4"
abbrev cX13_of : ByteArray := prog_11_method_2_code
def yX13_of : MethodName := ⟨RX13, "of", "(LTableWays$Table;IILTableWays$Table;)Z"⟩
theorem q190 : (Jvm.Cond.fieldLink "TableWays$Kind$4" (13 : Nat) "TableWays$Table" "rows" "I") ∈ lw_all := lw_g (lw_at lw_m1 109 rfl) rfl
theorem q691 : (Jvm.Cond.selects "TableWays$Kind$4" ({ cls := "TableWays$Kind", name := "may", desc := "(LTableWays$Table;II)Z" } : Jvm.MethodName) ({ cls := "TableWays$Kind", name := "may", desc := "(LTableWays$Table;II)Z" } : Jvm.MethodName)) ∈ lw_all := lw_g (lw_at lw_m3 130 rfl) rfl
theorem q775 : (Jvm.Cond.selects "TableWays$Kind$4" ({ cls := "TableWays$Kind", name := "of", desc := "(LTableWays$Table;IILTableWays$Table;)Z" } : Jvm.MethodName) ({ cls := "TableWays$Kind$4", name := "of", desc := "(LTableWays$Table;IILTableWays$Table;)Z" } : Jvm.MethodName)) ∈ lw_all := lw_g (lw_at lw_m3 214 rfl) rfl
theorem q776 : (Jvm.Cond.instanceMethod ({ cls := "TableWays$Kind$4", name := "of", desc := "(LTableWays$Table;IILTableWays$Table;)Z" } : Jvm.MethodName)) ∈ lw_all := lw_g (lw_at lw_m3 215 rfl) rfl
theorem q777 : (Jvm.Cond.code ({ cls := "TableWays$Kind$4", name := "of", desc := "(LTableWays$Table;IILTableWays$Table;)Z" } : Jvm.MethodName) prog_11_method_2_code (7 : Nat) (Option.some Jvm.ClassFile.FieldType.boolean)) ∈ lw_all := lw_g (lw_at lw_m3 216 rfl) rfl
theorem q778 : (Jvm.Cond.methodLink "TableWays$Kind$4" (7 : Nat) ({ cls := "TableWays$Table", name := "take", desc := "(LTableWays$Table;)V" } : Jvm.MethodName)) ∈ lw_all := lw_g (lw_at lw_m3 217 rfl) rfl
theorem q779 : (Jvm.Cond.methodLink "TableWays$Kind$4" (17 : Nat) ({ cls := "TableWays$Table", name := "at", desc := "(II)J" } : Jvm.MethodName)) ∈ lw_all := lw_g (lw_at lw_m3 218 rfl) rfl
theorem q780 : (Jvm.Cond.methodLink "TableWays$Kind$4" (21 : Nat) ({ cls := "TableWays$Table", name := "set", desc := "(IIJ)V" } : Jvm.MethodName)) ∈ lw_all := lw_g (lw_at lw_m3 219 rfl) rfl
/-! X14.TableWays_Kind_5.lean.txt -/
/-! TableWays$Kind$5 -/
set_option maxRecDepth 100000
def RX14 : String := "TableWays$Kind$5"
abbrev cX14_of : ByteArray := prog_12_method_2_code
def yX14_of : MethodName := ⟨RX14, "of", "(LTableWays$Table;IILTableWays$Table;)Z"⟩
theorem q191 : (Jvm.Cond.fieldLink "TableWays$Kind$5" (15 : Nat) "TableWays$Table" "rows" "I") ∈ lw_all := lw_g (lw_at lw_m1 110 rfl) rfl
theorem q204 : (Jvm.Cond.fieldLink "TableWays$Kind$5" (9 : Nat) "TableWays$Table" "columns" "I") ∈ lw_all := lw_g (lw_at lw_m1 123 rfl) rfl
theorem q692 : (Jvm.Cond.selects "TableWays$Kind$5" ({ cls := "TableWays$Kind", name := "may", desc := "(LTableWays$Table;II)Z" } : Jvm.MethodName) ({ cls := "TableWays$Kind", name := "may", desc := "(LTableWays$Table;II)Z" } : Jvm.MethodName)) ∈ lw_all := lw_g (lw_at lw_m3 131 rfl) rfl
theorem q781 : (Jvm.Cond.selects "TableWays$Kind$5" ({ cls := "TableWays$Kind", name := "of", desc := "(LTableWays$Table;IILTableWays$Table;)Z" } : Jvm.MethodName) ({ cls := "TableWays$Kind$5", name := "of", desc := "(LTableWays$Table;IILTableWays$Table;)Z" } : Jvm.MethodName)) ∈ lw_all := lw_g (lw_at lw_m3 220 rfl) rfl
theorem q782 : (Jvm.Cond.instanceMethod ({ cls := "TableWays$Kind$5", name := "of", desc := "(LTableWays$Table;IILTableWays$Table;)Z" } : Jvm.MethodName)) ∈ lw_all := lw_g (lw_at lw_m3 221 rfl) rfl
theorem q783 : (Jvm.Cond.code ({ cls := "TableWays$Kind$5", name := "of", desc := "(LTableWays$Table;IILTableWays$Table;)Z" } : Jvm.MethodName) prog_12_method_2_code (13 : Nat) (Option.some Jvm.ClassFile.FieldType.boolean)) ∈ lw_all := lw_g (lw_at lw_m3 222 rfl) rfl
theorem q784 : (Jvm.Cond.methodLink "TableWays$Kind$5" (18 : Nat) ({ cls := "TableWays$Table", name := "begin", desc := "(II)V" } : Jvm.MethodName)) ∈ lw_all := lw_g (lw_at lw_m3 223 rfl) rfl
theorem q785 : (Jvm.Cond.methodLink "TableWays$Kind$5" (22 : Nat) ({ cls := "TableWays$Table", name := "at", desc := "(II)J" } : Jvm.MethodName)) ∈ lw_all := lw_g (lw_at lw_m3 224 rfl) rfl
theorem q786 : (Jvm.Cond.methodLink "TableWays$Kind$5" (26 : Nat) ({ cls := "TableWays$Table", name := "set", desc := "(IIJ)V" } : Jvm.MethodName)) ∈ lw_all := lw_g (lw_at lw_m3 225 rfl) rfl
theorem q787 : (Jvm.Cond.methodLinkNest "TableWays$Kind$5" (30 : Nat) ({ cls := "TableWays", name := "bytesOf", desc := "(J)I" } : Jvm.MethodName) "TableWays") ∈ lw_tbl := lw_at lw_m3 226 rfl
theorem q788 : (Jvm.Cond.stringRef "TableWays$Kind$5" (34 : Nat) "-:/.") ∈ lw_tbl := lw_at lw_m3 227 rfl
theorem q789 : (Jvm.Cond.methodLink "TableWays$Kind$5" (36 : Nat) ({ cls := "java/lang/String", name := "charAt", desc := "(I)C" } : Jvm.MethodName)) ∈ lw_all := lw_g (lw_at lw_m3 228 rfl) rfl
theorem q790 : (Jvm.Cond.methodLinkNest "TableWays$Kind$5" (42 : Nat) ({ cls := "TableWays", name := "byteAt", desc := "(JI)I" } : Jvm.MethodName) "TableWays") ∈ lw_tbl := lw_at lw_m3 229 rfl
/-! X15.TableWays_Kind_12.lean.txt -/
/-! TableWays$Kind$12 -/
set_option maxRecDepth 100000
def RX15 : String := "TableWays$Kind$12"
abbrev cX15_of : ByteArray := prog_6_method_2_code
def yX15_of : MethodName := ⟨RX15, "of", "(LTableWays$Table;IILTableWays$Table;)Z"⟩
theorem q192 : (Jvm.Cond.fieldLink "TableWays$Kind$12" (13 : Nat) "TableWays$Table" "rows" "I") ∈ lw_all := lw_g (lw_at lw_m1 111 rfl) rfl
theorem q212 : (Jvm.Cond.fieldLink "TableWays$Kind$12" (7 : Nat) "TableWays$Table" "order" "[I") ∈ lw_all := lw_g (lw_at lw_m1 131 rfl) rfl
theorem q686 : (Jvm.Cond.selects "TableWays$Kind$12" ({ cls := "TableWays$Kind", name := "may", desc := "(LTableWays$Table;II)Z" } : Jvm.MethodName) ({ cls := "TableWays$Kind", name := "may", desc := "(LTableWays$Table;II)Z" } : Jvm.MethodName)) ∈ lw_all := lw_g (lw_at lw_m3 125 rfl) rfl
theorem q736 : (Jvm.Cond.selects "TableWays$Kind$12" ({ cls := "TableWays$Kind", name := "of", desc := "(LTableWays$Table;IILTableWays$Table;)Z" } : Jvm.MethodName) ({ cls := "TableWays$Kind$12", name := "of", desc := "(LTableWays$Table;IILTableWays$Table;)Z" } : Jvm.MethodName)) ∈ lw_all := lw_g (lw_at lw_m3 175 rfl) rfl
theorem q737 : (Jvm.Cond.instanceMethod ({ cls := "TableWays$Kind$12", name := "of", desc := "(LTableWays$Table;IILTableWays$Table;)Z" } : Jvm.MethodName)) ∈ lw_all := lw_g (lw_at lw_m3 176 rfl) rfl
theorem q738 : (Jvm.Cond.code ({ cls := "TableWays$Kind$12", name := "of", desc := "(LTableWays$Table;IILTableWays$Table;)Z" } : Jvm.MethodName) prog_6_method_2_code (8 : Nat) (Option.some Jvm.ClassFile.FieldType.boolean)) ∈ lw_all := lw_g (lw_at lw_m3 177 rfl) rfl
theorem q739 : (Jvm.Cond.methodLink "TableWays$Kind$12" (17 : Nat) ({ cls := "TableWays$Table", name := "at", desc := "(II)J" } : Jvm.MethodName)) ∈ lw_all := lw_g (lw_at lw_m3 178 rfl) rfl
theorem q740 : (Jvm.Cond.methodLinkNest "TableWays$Kind$12" (21 : Nat) ({ cls := "TableWays", name := "rowsOf", desc := "(LTableWays$Table;[IILTableWays$Table;)Z" } : Jvm.MethodName) "TableWays") ∈ lw_tbl := lw_at lw_m3 179 rfl
/-! X16.TableWays_Kind_8.lean.txt -/
/-! TableWays$Kind$8 -/
set_option maxRecDepth 100000
def RX16 : String := "TableWays$Kind$8"
abbrev cX16_of : ByteArray := prog_15_method_2_code
def yX16_of : MethodName := ⟨RX16, "of", "(LTableWays$Table;IILTableWays$Table;)Z"⟩
theorem q193 : (Jvm.Cond.fieldLink "TableWays$Kind$8" (13 : Nat) "TableWays$Table" "rows" "I") ∈ lw_all := lw_g (lw_at lw_m1 112 rfl) rfl
theorem q213 : (Jvm.Cond.fieldLink "TableWays$Kind$8" (7 : Nat) "TableWays$Table" "order" "[I") ∈ lw_all := lw_g (lw_at lw_m1 132 rfl) rfl
theorem q695 : (Jvm.Cond.selects "TableWays$Kind$8" ({ cls := "TableWays$Kind", name := "may", desc := "(LTableWays$Table;II)Z" } : Jvm.MethodName) ({ cls := "TableWays$Kind", name := "may", desc := "(LTableWays$Table;II)Z" } : Jvm.MethodName)) ∈ lw_all := lw_g (lw_at lw_m3 134 rfl) rfl
theorem q819 : (Jvm.Cond.selects "TableWays$Kind$8" ({ cls := "TableWays$Kind", name := "of", desc := "(LTableWays$Table;IILTableWays$Table;)Z" } : Jvm.MethodName) ({ cls := "TableWays$Kind$8", name := "of", desc := "(LTableWays$Table;IILTableWays$Table;)Z" } : Jvm.MethodName)) ∈ lw_all := lw_g (lw_at lw_m4 18 rfl) rfl
theorem q820 : (Jvm.Cond.instanceMethod ({ cls := "TableWays$Kind$8", name := "of", desc := "(LTableWays$Table;IILTableWays$Table;)Z" } : Jvm.MethodName)) ∈ lw_all := lw_g (lw_at lw_m4 19 rfl) rfl
theorem q821 : (Jvm.Cond.code ({ cls := "TableWays$Kind$8", name := "of", desc := "(LTableWays$Table;IILTableWays$Table;)Z" } : Jvm.MethodName) prog_15_method_2_code (9 : Nat) (Option.some Jvm.ClassFile.FieldType.boolean)) ∈ lw_all := lw_g (lw_at lw_m4 20 rfl) rfl
theorem q822 : (Jvm.Cond.methodLink "TableWays$Kind$8" (17 : Nat) ({ cls := "TableWays$Table", name := "at", desc := "(II)J" } : Jvm.MethodName)) ∈ lw_all := lw_g (lw_at lw_m4 21 rfl) rfl
theorem q823 : (Jvm.Cond.methodLinkNest "TableWays$Kind$8" (21 : Nat) ({ cls := "TableWays", name := "against", desc := "(JJ)I" } : Jvm.MethodName) "TableWays") ∈ lw_tbl := lw_at lw_m4 22 rfl
theorem q826 : (Jvm.Cond.methodLinkNest "TableWays$Kind$8" (27 : Nat) ({ cls := "TableWays", name := "rowsOf", desc := "(LTableWays$Table;[IILTableWays$Table;)Z" } : Jvm.MethodName) "TableWays") ∈ lw_tbl := lw_at lw_m4 25 rfl
/-! X17.TableWays_Kind_9.lean.txt -/
/-! TableWays$Kind$9 -/
set_option maxRecDepth 100000
def RX17 : String := "TableWays$Kind$9"
abbrev cX17_of : ByteArray := prog_16_method_2_code
def yX17_of : MethodName := ⟨RX17, "of", "(LTableWays$Table;IILTableWays$Table;)Z"⟩
theorem q194 : (Jvm.Cond.fieldLink "TableWays$Kind$9" (13 : Nat) "TableWays$Table" "rows" "I") ∈ lw_all := lw_g (lw_at lw_m1 113 rfl) rfl
theorem q206 : (Jvm.Cond.fieldLink "TableWays$Kind$9" (17 : Nat) "TableWays$Table" "columns" "I") ∈ lw_all := lw_g (lw_at lw_m1 125 rfl) rfl
theorem q214 : (Jvm.Cond.fieldLink "TableWays$Kind$9" (7 : Nat) "TableWays$Table" "order" "[I") ∈ lw_all := lw_g (lw_at lw_m1 133 rfl) rfl
theorem q696 : (Jvm.Cond.selects "TableWays$Kind$9" ({ cls := "TableWays$Kind", name := "may", desc := "(LTableWays$Table;II)Z" } : Jvm.MethodName) ({ cls := "TableWays$Kind", name := "may", desc := "(LTableWays$Table;II)Z" } : Jvm.MethodName)) ∈ lw_all := lw_g (lw_at lw_m3 135 rfl) rfl
theorem q827 : (Jvm.Cond.selects "TableWays$Kind$9" ({ cls := "TableWays$Kind", name := "of", desc := "(LTableWays$Table;IILTableWays$Table;)Z" } : Jvm.MethodName) ({ cls := "TableWays$Kind$9", name := "of", desc := "(LTableWays$Table;IILTableWays$Table;)Z" } : Jvm.MethodName)) ∈ lw_all := lw_g (lw_at lw_m4 26 rfl) rfl
theorem q828 : (Jvm.Cond.instanceMethod ({ cls := "TableWays$Kind$9", name := "of", desc := "(LTableWays$Table;IILTableWays$Table;)Z" } : Jvm.MethodName)) ∈ lw_all := lw_g (lw_at lw_m4 27 rfl) rfl
theorem q829 : (Jvm.Cond.code ({ cls := "TableWays$Kind$9", name := "of", desc := "(LTableWays$Table;IILTableWays$Table;)Z" } : Jvm.MethodName) prog_16_method_2_code (10 : Nat) (Option.some Jvm.ClassFile.FieldType.boolean)) ∈ lw_all := lw_g (lw_at lw_m4 28 rfl) rfl
theorem q830 : (Jvm.Cond.methodLink "TableWays$Kind$9" (20 : Nat) ({ cls := "TableWays$Table", name := "sameRow", desc := "(III)Z" } : Jvm.MethodName)) ∈ lw_all := lw_g (lw_at lw_m4 29 rfl) rfl
theorem q831 : (Jvm.Cond.methodLinkNest "TableWays$Kind$9" (24 : Nat) ({ cls := "TableWays", name := "rowsOf", desc := "(LTableWays$Table;[IILTableWays$Table;)Z" } : Jvm.MethodName) "TableWays") ∈ lw_tbl := lw_at lw_m4 30 rfl
/-! X18.TableWays_Kind_14.lean.txt -/
/-! TableWays$Kind$14 -/
set_option maxRecDepth 100000
def RX18 : String := "TableWays$Kind$14"
abbrev cX18_of : ByteArray := prog_8_method_2_code
def yX18_of : MethodName := ⟨RX18, "of", "(LTableWays$Table;IILTableWays$Table;)Z"⟩
theorem q195 : (Jvm.Cond.fieldLink "TableWays$Kind$14" (17 : Nat) "TableWays$Table" "rows" "I") ∈ lw_all := lw_g (lw_at lw_m1 114 rfl) rfl
theorem q203 : (Jvm.Cond.fieldLink "TableWays$Kind$14" (7 : Nat) "TableWays$Table" "columns" "I") ∈ lw_all := lw_g (lw_at lw_m1 122 rfl) rfl
theorem q688 : (Jvm.Cond.selects "TableWays$Kind$14" ({ cls := "TableWays$Kind", name := "may", desc := "(LTableWays$Table;II)Z" } : Jvm.MethodName) ({ cls := "TableWays$Kind", name := "may", desc := "(LTableWays$Table;II)Z" } : Jvm.MethodName)) ∈ lw_all := lw_g (lw_at lw_m3 127 rfl) rfl
theorem q748 : (Jvm.Cond.selects "TableWays$Kind$14" ({ cls := "TableWays$Kind", name := "of", desc := "(LTableWays$Table;IILTableWays$Table;)Z" } : Jvm.MethodName) ({ cls := "TableWays$Kind$14", name := "of", desc := "(LTableWays$Table;IILTableWays$Table;)Z" } : Jvm.MethodName)) ∈ lw_all := lw_g (lw_at lw_m3 187 rfl) rfl
theorem q749 : (Jvm.Cond.instanceMethod ({ cls := "TableWays$Kind$14", name := "of", desc := "(LTableWays$Table;IILTableWays$Table;)Z" } : Jvm.MethodName)) ∈ lw_all := lw_g (lw_at lw_m3 188 rfl) rfl
theorem q750 : (Jvm.Cond.code ({ cls := "TableWays$Kind$14", name := "of", desc := "(LTableWays$Table;IILTableWays$Table;)Z" } : Jvm.MethodName) prog_8_method_2_code (6 : Nat) (Option.some Jvm.ClassFile.FieldType.boolean)) ∈ lw_all := lw_g (lw_at lw_m3 189 rfl) rfl
theorem q751 : (Jvm.Cond.methodLink "TableWays$Kind$14" (13 : Nat) ({ cls := "TableWays$Table", name := "take", desc := "(LTableWays$Table;)V" } : Jvm.MethodName)) ∈ lw_all := lw_g (lw_at lw_m3 190 rfl) rfl
theorem q752 : (Jvm.Cond.methodLink "TableWays$Kind$14" (20 : Nat) ({ cls := "TableWays$Table", name := "at", desc := "(II)J" } : Jvm.MethodName)) ∈ lw_all := lw_g (lw_at lw_m3 191 rfl) rfl
theorem q753 : (Jvm.Cond.methodLink "TableWays$Kind$14" (24 : Nat) ({ cls := "TableWays$Table", name := "set", desc := "(IIJ)V" } : Jvm.MethodName)) ∈ lw_all := lw_g (lw_at lw_m3 192 rfl) rfl
/-! X19.TableWays_Kind_7.lean.txt -/
/-! TableWays$Kind$7 -/
set_option maxRecDepth 100000
def RX19 : String := "TableWays$Kind$7"
abbrev cX19_of : ByteArray := prog_14_method_2_code
def yX19_of : MethodName := ⟨RX19, "of", "(LTableWays$Table;IILTableWays$Table;)Z"⟩
abbrev cX19_firstName : ByteArray := prog_14_method_3_code
def yX19_firstName : MethodName := ⟨RX19, "firstName", "(LTableWays$Table;I)I"⟩
abbrev cX19_firstLike : ByteArray := prog_14_method_4_code
def yX19_firstLike : MethodName := ⟨RX19, "firstLike", "(LTableWays$Table;II)I"⟩
theorem q196 : (Jvm.Cond.fieldLink "TableWays$Kind$7" (13 : Nat) "TableWays$Table" "rows" "I") ∈ lw_all := lw_g (lw_at lw_m1 115 rfl) rfl
theorem q202 : (Jvm.Cond.fieldLink "TableWays$Kind$7" (7 : Nat) "TableWays$Table" "columns" "I") ∈ lw_all := lw_g (lw_at lw_m1 121 rfl) rfl
theorem q694 : (Jvm.Cond.selects "TableWays$Kind$7" ({ cls := "TableWays$Kind", name := "may", desc := "(LTableWays$Table;II)Z" } : Jvm.MethodName) ({ cls := "TableWays$Kind", name := "may", desc := "(LTableWays$Table;II)Z" } : Jvm.MethodName)) ∈ lw_all := lw_g (lw_at lw_m3 133 rfl) rfl
theorem q798 : (Jvm.Cond.selects "TableWays$Kind$7" ({ cls := "TableWays$Kind", name := "of", desc := "(LTableWays$Table;IILTableWays$Table;)Z" } : Jvm.MethodName) ({ cls := "TableWays$Kind$7", name := "of", desc := "(LTableWays$Table;IILTableWays$Table;)Z" } : Jvm.MethodName)) ∈ lw_all := lw_g (lw_at lw_m3 237 rfl) rfl
theorem q799 : (Jvm.Cond.instanceMethod ({ cls := "TableWays$Kind$7", name := "of", desc := "(LTableWays$Table;IILTableWays$Table;)Z" } : Jvm.MethodName)) ∈ lw_all := lw_g (lw_at lw_m3 238 rfl) rfl
theorem q800 : (Jvm.Cond.code ({ cls := "TableWays$Kind$7", name := "of", desc := "(LTableWays$Table;IILTableWays$Table;)Z" } : Jvm.MethodName) prog_14_method_2_code (13 : Nat) (Option.some Jvm.ClassFile.FieldType.boolean)) ∈ lw_all := lw_g (lw_at lw_m3 239 rfl) rfl
theorem q801 : (Jvm.Cond.methodLink "TableWays$Kind$7" (16 : Nat) ({ cls := "TableWays$Kind$7", name := "firstName", desc := "(LTableWays$Table;I)I" } : Jvm.MethodName)) ∈ lw_all := lw_g (lw_at lw_m4 0 rfl) rfl
theorem q802 : (Jvm.Cond.privateMethod ({ cls := "TableWays$Kind$7", name := "firstName", desc := "(LTableWays$Table;I)I" } : Jvm.MethodName)) ∈ lw_tbl := lw_at lw_m4 1 rfl
theorem q803 : (Jvm.Cond.instanceMethod ({ cls := "TableWays$Kind$7", name := "firstName", desc := "(LTableWays$Table;I)I" } : Jvm.MethodName)) ∈ lw_all := lw_g (lw_at lw_m4 2 rfl) rfl
theorem q804 : (Jvm.Cond.instantiable "TableWays$Kind$7" (5 : Nat)) ∈ lw_all := lw_g (lw_at lw_m4 3 rfl) rfl
theorem q805 : (Jvm.Cond.code ({ cls := "TableWays$Kind$7", name := "firstName", desc := "(LTableWays$Table;I)I" } : Jvm.MethodName) prog_14_method_3_code (4 : Nat) (Option.some Jvm.ClassFile.FieldType.int)) ∈ lw_all := lw_g (lw_at lw_m4 4 rfl) rfl
theorem q806 : (Jvm.Cond.methodLink "TableWays$Kind$7" (26 : Nat) ({ cls := "TableWays$Table", name := "at", desc := "(II)J" } : Jvm.MethodName)) ∈ lw_all := lw_g (lw_at lw_m4 5 rfl) rfl
theorem q807 : (Jvm.Cond.methodLink "TableWays$Kind$7" (22 : Nat) ({ cls := "TableWays$Kind$7", name := "firstLike", desc := "(LTableWays$Table;II)I" } : Jvm.MethodName)) ∈ lw_all := lw_g (lw_at lw_m4 6 rfl) rfl
theorem q808 : (Jvm.Cond.privateMethod ({ cls := "TableWays$Kind$7", name := "firstLike", desc := "(LTableWays$Table;II)I" } : Jvm.MethodName)) ∈ lw_tbl := lw_at lw_m4 7 rfl
theorem q809 : (Jvm.Cond.instanceMethod ({ cls := "TableWays$Kind$7", name := "firstLike", desc := "(LTableWays$Table;II)I" } : Jvm.MethodName)) ∈ lw_all := lw_g (lw_at lw_m4 8 rfl) rfl
theorem q810 : (Jvm.Cond.code ({ cls := "TableWays$Kind$7", name := "firstLike", desc := "(LTableWays$Table;II)I" } : Jvm.MethodName) prog_14_method_4_code (5 : Nat) (Option.some Jvm.ClassFile.FieldType.int)) ∈ lw_all := lw_g (lw_at lw_m4 9 rfl) rfl
theorem q811 : (Jvm.Cond.methodLink "TableWays$Kind$7" (30 : Nat) ({ cls := "TableWays$Table", name := "sameRow", desc := "(III)Z" } : Jvm.MethodName)) ∈ lw_all := lw_g (lw_at lw_m4 10 rfl) rfl
theorem q816 : (Jvm.Cond.methodLinkNest "TableWays$Kind$7" (34 : Nat) ({ cls := "TableWays", name := "isSize", desc := "(II)Z" } : Jvm.MethodName) "TableWays") ∈ lw_tbl := lw_at lw_m4 15 rfl
theorem q817 : (Jvm.Cond.methodLink "TableWays$Kind$7" (40 : Nat) ({ cls := "TableWays$Table", name := "begin", desc := "(II)V" } : Jvm.MethodName)) ∈ lw_all := lw_g (lw_at lw_m4 16 rfl) rfl
theorem q818 : (Jvm.Cond.methodLink "TableWays$Kind$7" (44 : Nat) ({ cls := "TableWays$Table", name := "set", desc := "(IIJ)V" } : Jvm.MethodName)) ∈ lw_all := lw_g (lw_at lw_m4 17 rfl) rfl
/-! X20.TableWays_Kind_10.lean.txt -/
/-! TableWays$Kind$10 -/
set_option maxRecDepth 100000
def RX20 : String := "TableWays$Kind$10"
abbrev cX20_of : ByteArray := prog_4_method_2_code
def yX20_of : MethodName := ⟨RX20, "of", "(LTableWays$Table;IILTableWays$Table;)Z"⟩
theorem q684 : (Jvm.Cond.selects "TableWays$Kind$10" ({ cls := "TableWays$Kind", name := "may", desc := "(LTableWays$Table;II)Z" } : Jvm.MethodName) ({ cls := "TableWays$Kind", name := "may", desc := "(LTableWays$Table;II)Z" } : Jvm.MethodName)) ∈ lw_all := lw_g (lw_at lw_m3 123 rfl) rfl
theorem q717 : (Jvm.Cond.selects "TableWays$Kind$10" ({ cls := "TableWays$Kind", name := "of", desc := "(LTableWays$Table;IILTableWays$Table;)Z" } : Jvm.MethodName) ({ cls := "TableWays$Kind$10", name := "of", desc := "(LTableWays$Table;IILTableWays$Table;)Z" } : Jvm.MethodName)) ∈ lw_all := lw_g (lw_at lw_m3 156 rfl) rfl
theorem q718 : (Jvm.Cond.instanceMethod ({ cls := "TableWays$Kind$10", name := "of", desc := "(LTableWays$Table;IILTableWays$Table;)Z" } : Jvm.MethodName)) ∈ lw_all := lw_g (lw_at lw_m3 157 rfl) rfl
theorem q719 : (Jvm.Cond.code ({ cls := "TableWays$Kind$10", name := "of", desc := "(LTableWays$Table;IILTableWays$Table;)Z" } : Jvm.MethodName) prog_4_method_2_code (5 : Nat) (Option.some Jvm.ClassFile.FieldType.boolean)) ∈ lw_all := lw_g (lw_at lw_m3 158 rfl) rfl
theorem q720 : (Jvm.Cond.methodLinkNest "TableWays$Kind$10" (9 : Nat) ({ cls := "TableWays", name := "grouped", desc := "(LTableWays$Table;IILTableWays$Table;)Z" } : Jvm.MethodName) "TableWays") ∈ lw_tbl := lw_at lw_m3 159 rfl
/-! J0.java_lang_Throwable.lean.txt -/
/-! java/lang/Throwable -/
set_option maxRecDepth 100000
def RJ0 : String := "java/lang/Throwable"
def TJ0 : u_T := fun k => match k with
  | 0 => ("java/lang/Throwable", "cause", "Ljava/lang/Throwable;", false)
  | 1 => ("java/lang/Throwable", "stackTrace", "[Ljava/lang/StackTraceElement;", false)
  | 2 => ("java/lang/Throwable", "suppressedExceptions", "Ljava/util/List;", false)
  | 3 => ("java/lang/Throwable", "detailMessage", "Ljava/lang/String;", false)
  | _ => ("java/lang/Throwable", "backtrace", "Ljava/lang/Object;", false)
def tyJ0 : Nat → FieldType := fun k => match k with
  | 0 => .object "java/lang/Throwable"
  | 1 => .array (.object "java/lang/StackTraceElement")
  | 2 => .object "java/util/List"
  | 3 => .object "java/lang/String"
  | _ => .object "java/lang/Object"
abbrev wsJ00 : List Cond := u_ws RJ0 TJ0 5
theorem nmJ0 : ∀ a, a < 5 → ∀ b, b < 5 → a ≠ b → (TJ0 a).2.1 ≠ (TJ0 b).2.1 := by decide +kernel
theorem tyJ0_ok : ∀ k, k < 5 → parseFieldDescriptor (TJ0 k).2.2.1 = some (tyJ0 k) := by decide +kernel
abbrev cJ0_init : ByteArray := prog_31_method_1_code
def yJ0_init : MethodName := ⟨RJ0, "<init>", "()V"⟩
abbrev cJ0_init_2 : ByteArray := prog_31_method_5_code
def yJ0_init_2 : MethodName := ⟨RJ0, "<init>", "(Ljava/lang/String;Ljava/lang/Throwable;ZZ)V"⟩
theorem q83 : (Jvm.Cond.initialized "java/lang/Throwable") ∈ lw_all := lw_g (lw_at lw_m1 2 rfl) rfl
theorem q114 : (Jvm.Cond.declares ({ cls := "java/lang/Throwable", name := "<init>", desc := "()V" } : Jvm.MethodName)) ∈ lw_tbl := lw_at lw_m1 33 rfl
theorem q115 : (Jvm.Cond.declares ({ cls := "java/lang/Throwable", name := "<init>", desc := "(Ljava/lang/String;)V" } : Jvm.MethodName)) ∈ lw_tbl := lw_at lw_m1 34 rfl
theorem q119 : (Jvm.Cond.lays "java/lang/Throwable" "java/lang/Throwable" "cause" "Ljava/lang/Throwable;") ∈ lw_all := lw_g (lw_at lw_m1 38 rfl) rfl
theorem q121 : (Jvm.Cond.lays "java/lang/Throwable" "java/lang/Throwable" "stackTrace" "[Ljava/lang/StackTraceElement;") ∈ lw_all := lw_g (lw_at lw_m1 40 rfl) rfl
theorem q123 : (Jvm.Cond.lays "java/lang/Throwable" "java/lang/Throwable" "suppressedExceptions" "Ljava/util/List;") ∈ lw_all := lw_g (lw_at lw_m1 42 rfl) rfl
theorem q125 : (Jvm.Cond.lays "java/lang/Throwable" "java/lang/Throwable" "detailMessage" "Ljava/lang/String;") ∈ lw_all := lw_g (lw_at lw_m1 44 rfl) rfl
theorem q127 : (Jvm.Cond.lays "java/lang/Throwable" "java/lang/Throwable" "backtrace" "Ljava/lang/Object;") ∈ lw_all := lw_g (lw_at lw_m1 46 rfl) rfl
theorem q128 : (Jvm.Cond.fieldLink "java/lang/Throwable" (198 : Nat) "java/lang/Throwable" "backtrace" "Ljava/lang/Object;") ∈ lw_all := lw_g (lw_at lw_m1 47 rfl) rfl
theorem q129 : (Jvm.Cond.superclass "java/lang/Throwable" "java/lang/Object") ∈ lw_all := lw_g (lw_at lw_m1 48 rfl) rfl
theorem q130 : (Jvm.Cond.instanceMethod ({ cls := "java/lang/Throwable", name := "<init>", desc := "()V" } : Jvm.MethodName)) ∈ lw_all := lw_g (lw_at lw_m1 49 rfl) rfl
theorem q131 : (Jvm.Cond.code ({ cls := "java/lang/Throwable", name := "<init>", desc := "()V" } : Jvm.MethodName) prog_31_method_1_code (1 : Nat) (Option.none : Option Jvm.ClassFile.FieldType)) ∈ lw_all := lw_g (lw_at lw_m1 50 rfl) rfl
theorem q132 : (Jvm.Cond.methodLink "java/lang/Throwable" (1 : Nat) ({ cls := "java/lang/Object", name := "<init>", desc := "()V" } : Jvm.MethodName)) ∈ lw_all := lw_g (lw_at lw_m1 51 rfl) rfl
theorem q133 : (Jvm.Cond.fieldLink "java/lang/Throwable" (13 : Nat) "java/lang/Throwable" "UNASSIGNED_STACK" "[Ljava/lang/StackTraceElement;") ∈ lw_all := lw_g (lw_at lw_m1 52 rfl) rfl
theorem q134 : (Jvm.Cond.laysStatic "java/lang/Throwable" "UNASSIGNED_STACK" "[Ljava/lang/StackTraceElement;") ∈ lw_tbl := lw_at lw_m1 53 rfl
theorem q135 : (Jvm.Cond.fieldLink "java/lang/Throwable" (20 : Nat) "java/lang/Throwable" "SUPPRESSED_SENTINEL" "Ljava/util/List;") ∈ lw_all := lw_g (lw_at lw_m1 54 rfl) rfl
theorem q136 : (Jvm.Cond.laysStatic "java/lang/Throwable" "SUPPRESSED_SENTINEL" "Ljava/util/List;") ∈ lw_tbl := lw_at lw_m1 55 rfl
theorem q137 : (Jvm.Cond.methodLink "java/lang/Throwable" (27 : Nat) ({ cls := "java/lang/Throwable", name := "fillInStackTrace", desc := "()Ljava/lang/Throwable;" } : Jvm.MethodName)) ∈ lw_all := lw_g (lw_at lw_m1 56 rfl) rfl
theorem q138 : (Jvm.Cond.instanceMethod ({ cls := "java/lang/Throwable", name := "fillInStackTrace", desc := "()Ljava/lang/Throwable;" } : Jvm.MethodName)) ∈ lw_all := lw_g (lw_at lw_m1 57 rfl) rfl
theorem q139 : (Jvm.Cond.sameMethod "java/lang/Throwable" "java/lang/Throwable" "fillInStackTrace" "()Ljava/lang/Throwable;") ∈ lw_all := lw_g (lw_at lw_m1 58 rfl) rfl
theorem q141 : (Jvm.Cond.codeSync ({ cls := "java/lang/Throwable", name := "fillInStackTrace", desc := "()Ljava/lang/Throwable;" } : Jvm.MethodName) prog_31_method_18_code (1 : Nat) (Option.some (Jvm.ClassFile.FieldType.object "java/lang/Throwable"))) ∈ lw_all := lw_g (lw_at lw_m1 60 rfl) rfl
theorem q142 : (Jvm.Cond.methodLink "java/lang/Throwable" (202 : Nat) ({ cls := "java/lang/Throwable", name := "fillInStackTrace", desc := "(I)Ljava/lang/Throwable;" } : Jvm.MethodName)) ∈ lw_all := lw_g (lw_at lw_m1 61 rfl) rfl
theorem q143 : (Jvm.Cond.privateMethod ({ cls := "java/lang/Throwable", name := "fillInStackTrace", desc := "(I)Ljava/lang/Throwable;" } : Jvm.MethodName)) ∈ lw_tbl := lw_at lw_m1 62 rfl
theorem q144 : (Jvm.Cond.instanceMethod ({ cls := "java/lang/Throwable", name := "fillInStackTrace", desc := "(I)Ljava/lang/Throwable;" } : Jvm.MethodName)) ∈ lw_all := lw_g (lw_at lw_m1 63 rfl) rfl
theorem q145 : (Jvm.Cond.instantiable "java/lang/Throwable" (6 : Nat)) ∈ lw_all := lw_g (lw_at lw_m1 64 rfl) rfl
theorem q146 : (Jvm.Cond.native ({ cls := "java/lang/Throwable", name := "fillInStackTrace", desc := "(I)Ljava/lang/Throwable;" } : Jvm.MethodName)) ∈ lw_all := lw_g (lw_at lw_m1 65 rfl) rfl
theorem q154 : (Jvm.Cond.instanceMethod ({ cls := "java/lang/Throwable", name := "<init>", desc := "(Ljava/lang/String;Ljava/lang/Throwable;ZZ)V" } : Jvm.MethodName)) ∈ lw_all := lw_g (lw_at lw_m1 73 rfl) rfl
theorem q155 : (Jvm.Cond.code ({ cls := "java/lang/Throwable", name := "<init>", desc := "(Ljava/lang/String;Ljava/lang/Throwable;ZZ)V" } : Jvm.MethodName) prog_31_method_5_code (5 : Nat) (Option.none : Option Jvm.ClassFile.FieldType)) ∈ lw_all := lw_g (lw_at lw_m1 74 rfl) rfl
theorem q160 : (Jvm.Cond.fieldLink "java/lang/Throwable" (198 : Nat) "java/lang/Throwable" "backtrace" "Ljava/lang/Object;") ∈ lw_all := lw_g (lw_at lw_m1 79 rfl) rfl
theorem q161 : (Jvm.Cond.fieldLink "java/lang/Throwable" (31 : Nat) "java/lang/Throwable" "detailMessage" "Ljava/lang/String;") ∈ lw_all := lw_g (lw_at lw_m1 80 rfl) rfl
theorem q162 : (Jvm.Cond.fieldLink "java/lang/Throwable" (7 : Nat) "java/lang/Throwable" "cause" "Ljava/lang/Throwable;") ∈ lw_all := lw_g (lw_at lw_m1 81 rfl) rfl
theorem q163 : (Jvm.Cond.fieldLink "java/lang/Throwable" (17 : Nat) "java/lang/Throwable" "stackTrace" "[Ljava/lang/StackTraceElement;") ∈ lw_all := lw_g (lw_at lw_m1 82 rfl) rfl
theorem q164 : (Jvm.Cond.fieldLink "java/lang/Throwable" (24 : Nat) "java/lang/Throwable" "suppressedExceptions" "Ljava/util/List;") ∈ lw_all := lw_g (lw_at lw_m1 83 rfl) rfl
theorem q169 : (Jvm.Cond.soleField "java/lang/Throwable" "backtrace") ∈ lw_all := lw_g (lw_at lw_m1 88 rfl) rfl
theorem q170 : (Jvm.Cond.soleField "java/lang/Throwable" "detailMessage") ∈ lw_all := lw_g (lw_at lw_m1 89 rfl) rfl
theorem q171 : (Jvm.Cond.soleField "java/lang/Throwable" "cause") ∈ lw_all := lw_g (lw_at lw_m1 90 rfl) rfl
theorem q172 : (Jvm.Cond.soleField "java/lang/Throwable" "stackTrace") ∈ lw_all := lw_g (lw_at lw_m1 91 rfl) rfl
theorem q174 : (Jvm.Cond.soleField "java/lang/Throwable" "depth") ∈ lw_all := lw_g (lw_at lw_m1 93 rfl) rfl
theorem q175 : (Jvm.Cond.soleField "java/lang/Throwable" "suppressedExceptions") ∈ lw_all := lw_g (lw_at lw_m1 94 rfl) rfl
theorem q1444 : (Jvm.Cond.sameMethod "java/lang/Throwable" "java/lang/Throwable" "fillInStackTrace" "(I)Ljava/lang/Throwable;") ∈ lw_all := lw_g (lw_at lw_m6 163 rfl) rfl
theorem in_J0 : ∀ w ∈ wsJ00, w ∈ lw_all := lw_in wsJ00 [119, 121, 123, 125, 127] (by decide +kernel) (by decide +kernel)
/-! J1.java_lang_Exception.lean.txt -/
/-! java/lang/Exception -/
set_option maxRecDepth 100000
def RJ1 : String := "java/lang/Exception"
abbrev cJ1_init : ByteArray := prog_25_method_5_code
def yJ1_init : MethodName := ⟨RJ1, "<init>", "(Ljava/lang/String;Ljava/lang/Throwable;ZZ)V"⟩
theorem q84 : (Jvm.Cond.initialized "java/lang/Exception") ∈ lw_all := lw_g (lw_at lw_m1 3 rfl) rfl
theorem q112 : (Jvm.Cond.declares ({ cls := "java/lang/Exception", name := "<init>", desc := "()V" } : Jvm.MethodName)) ∈ lw_tbl := lw_at lw_m1 31 rfl
theorem q113 : (Jvm.Cond.declares ({ cls := "java/lang/Exception", name := "<init>", desc := "(Ljava/lang/String;)V" } : Jvm.MethodName)) ∈ lw_tbl := lw_at lw_m1 32 rfl
theorem q151 : (Jvm.Cond.instanceMethod ({ cls := "java/lang/Exception", name := "<init>", desc := "(Ljava/lang/String;Ljava/lang/Throwable;ZZ)V" } : Jvm.MethodName)) ∈ lw_all := lw_g (lw_at lw_m1 70 rfl) rfl
theorem q152 : (Jvm.Cond.code ({ cls := "java/lang/Exception", name := "<init>", desc := "(Ljava/lang/String;Ljava/lang/Throwable;ZZ)V" } : Jvm.MethodName) prog_25_method_5_code (5 : Nat) (Option.none : Option Jvm.ClassFile.FieldType)) ∈ lw_all := lw_g (lw_at lw_m1 71 rfl) rfl
theorem q153 : (Jvm.Cond.methodLink "java/lang/Exception" (16 : Nat) ({ cls := "java/lang/Throwable", name := "<init>", desc := "(Ljava/lang/String;Ljava/lang/Throwable;ZZ)V" } : Jvm.MethodName)) ∈ lw_all := lw_g (lw_at lw_m1 72 rfl) rfl
/-! J2.java_lang_String.lean.txt -/
/-! java/lang/String -/
set_option maxRecDepth 100000
def RJ2 : String := "java/lang/String"
abbrev cJ2_indexOf : ByteArray := prog_27_method_79_code
def yJ2_indexOf : MethodName := ⟨RJ2, "indexOf", "(I)I"⟩
abbrev cJ2_indexOf_2 : ByteArray := prog_27_method_80_code
def yJ2_indexOf_2 : MethodName := ⟨RJ2, "indexOf", "(II)I"⟩
abbrev cJ2_isLatin1 : ByteArray := prog_27_method_154_code
def yJ2_isLatin1 : MethodName := ⟨RJ2, "isLatin1", "()Z"⟩
abbrev cJ2_length : ByteArray := prog_27_method_54_code
def yJ2_length : MethodName := ⟨RJ2, "length", "()I"⟩
abbrev cJ2_coder : ByteArray := prog_27_method_152_code
def yJ2_coder : MethodName := ⟨RJ2, "coder", "()B"⟩
abbrev cJ2_checkBoundsBeginEnd : ByteArray := prog_27_method_158_code
def yJ2_checkBoundsBeginEnd : MethodName := ⟨RJ2, "checkBoundsBeginEnd", "(III)V"⟩
abbrev cJ2_charAt : ByteArray := prog_27_method_56_code
def yJ2_charAt : MethodName := ⟨RJ2, "charAt", "(I)C"⟩
abbrev cJ2_checkIndex : ByteArray := prog_27_method_155_code
def yJ2_checkIndex : MethodName := ⟨RJ2, "checkIndex", "(II)V"⟩
theorem q90 : (Jvm.Cond.initialized "java/lang/String") ∈ lw_all := lw_g (lw_at lw_m1 9 rfl) rfl
theorem q411 : (Jvm.Cond.instanceMethod ({ cls := "java/lang/String", name := "indexOf", desc := "(I)I" } : Jvm.MethodName)) ∈ lw_all := lw_g (lw_at lw_m2 90 rfl) rfl
theorem q412 : (Jvm.Cond.selects "java/lang/String" ({ cls := "java/lang/String", name := "indexOf", desc := "(I)I" } : Jvm.MethodName) ({ cls := "java/lang/String", name := "indexOf", desc := "(I)I" } : Jvm.MethodName)) ∈ lw_all := lw_g (lw_at lw_m2 91 rfl) rfl
theorem q413 : (Jvm.Cond.code ({ cls := "java/lang/String", name := "indexOf", desc := "(I)I" } : Jvm.MethodName) prog_27_method_79_code (2 : Nat) (Option.some Jvm.ClassFile.FieldType.int)) ∈ lw_all := lw_g (lw_at lw_m2 92 rfl) rfl
theorem q414 : (Jvm.Cond.methodLink "java/lang/String" (633 : Nat) ({ cls := "java/lang/String", name := "indexOf", desc := "(II)I" } : Jvm.MethodName)) ∈ lw_all := lw_g (lw_at lw_m2 93 rfl) rfl
theorem q415 : (Jvm.Cond.instanceMethod ({ cls := "java/lang/String", name := "indexOf", desc := "(II)I" } : Jvm.MethodName)) ∈ lw_all := lw_g (lw_at lw_m2 94 rfl) rfl
theorem q416 : (Jvm.Cond.selects "java/lang/String" ({ cls := "java/lang/String", name := "indexOf", desc := "(II)I" } : Jvm.MethodName) ({ cls := "java/lang/String", name := "indexOf", desc := "(II)I" } : Jvm.MethodName)) ∈ lw_all := lw_g (lw_at lw_m2 95 rfl) rfl
theorem q417 : (Jvm.Cond.code ({ cls := "java/lang/String", name := "indexOf", desc := "(II)I" } : Jvm.MethodName) prog_27_method_80_code (3 : Nat) (Option.some Jvm.ClassFile.FieldType.int)) ∈ lw_all := lw_g (lw_at lw_m2 96 rfl) rfl
theorem q418 : (Jvm.Cond.methodLink "java/lang/String" (492 : Nat) ({ cls := "java/lang/String", name := "isLatin1", desc := "()Z" } : Jvm.MethodName)) ∈ lw_all := lw_g (lw_at lw_m2 97 rfl) rfl
theorem q419 : (Jvm.Cond.instanceMethod ({ cls := "java/lang/String", name := "isLatin1", desc := "()Z" } : Jvm.MethodName)) ∈ lw_all := lw_g (lw_at lw_m2 98 rfl) rfl
theorem q420 : (Jvm.Cond.selects "java/lang/String" ({ cls := "java/lang/String", name := "isLatin1", desc := "()Z" } : Jvm.MethodName) ({ cls := "java/lang/String", name := "isLatin1", desc := "()Z" } : Jvm.MethodName)) ∈ lw_all := lw_g (lw_at lw_m2 99 rfl) rfl
theorem q421 : (Jvm.Cond.code ({ cls := "java/lang/String", name := "isLatin1", desc := "()Z" } : Jvm.MethodName) prog_27_method_154_code (1 : Nat) (Option.some Jvm.ClassFile.FieldType.boolean)) ∈ lw_all := lw_g (lw_at lw_m2 100 rfl) rfl
theorem q422 : (Jvm.Cond.fieldLink "java/lang/String" (38 : Nat) "java/lang/String" "COMPACT_STRINGS" "Z") ∈ lw_all := lw_g (lw_at lw_m2 101 rfl) rfl
theorem q423 : (Jvm.Cond.laysStatic "java/lang/String" "COMPACT_STRINGS" "Z") ∈ lw_tbl := lw_at lw_m2 102 rfl
theorem q424 : (Jvm.Cond.methodLink "java/lang/String" (505 : Nat) ({ cls := "java/lang/String", name := "length", desc := "()I" } : Jvm.MethodName)) ∈ lw_all := lw_g (lw_at lw_m2 103 rfl) rfl
theorem q425 : (Jvm.Cond.instanceMethod ({ cls := "java/lang/String", name := "length", desc := "()I" } : Jvm.MethodName)) ∈ lw_all := lw_g (lw_at lw_m2 104 rfl) rfl
theorem q426 : (Jvm.Cond.selects "java/lang/String" ({ cls := "java/lang/String", name := "length", desc := "()I" } : Jvm.MethodName) ({ cls := "java/lang/String", name := "length", desc := "()I" } : Jvm.MethodName)) ∈ lw_all := lw_g (lw_at lw_m2 105 rfl) rfl
theorem q427 : (Jvm.Cond.code ({ cls := "java/lang/String", name := "length", desc := "()I" } : Jvm.MethodName) prog_27_method_54_code (1 : Nat) (Option.some Jvm.ClassFile.FieldType.int)) ∈ lw_all := lw_g (lw_at lw_m2 106 rfl) rfl
theorem q428 : (Jvm.Cond.methodLink "java/lang/String" (335 : Nat) ({ cls := "java/lang/String", name := "coder", desc := "()B" } : Jvm.MethodName)) ∈ lw_all := lw_g (lw_at lw_m2 107 rfl) rfl
theorem q429 : (Jvm.Cond.instanceMethod ({ cls := "java/lang/String", name := "coder", desc := "()B" } : Jvm.MethodName)) ∈ lw_all := lw_g (lw_at lw_m2 108 rfl) rfl
theorem q430 : (Jvm.Cond.selects "java/lang/String" ({ cls := "java/lang/String", name := "coder", desc := "()B" } : Jvm.MethodName) ({ cls := "java/lang/String", name := "coder", desc := "()B" } : Jvm.MethodName)) ∈ lw_all := lw_g (lw_at lw_m2 109 rfl) rfl
theorem q431 : (Jvm.Cond.code ({ cls := "java/lang/String", name := "coder", desc := "()B" } : Jvm.MethodName) prog_27_method_152_code (1 : Nat) (Option.some Jvm.ClassFile.FieldType.byte)) ∈ lw_all := lw_g (lw_at lw_m2 110 rfl) rfl
theorem q432 : (Jvm.Cond.methodLink "java/lang/String" (637 : Nat) ({ cls := "java/lang/StringLatin1", name := "indexOf", desc := "([BIII)I" } : Jvm.MethodName)) ∈ lw_all := lw_g (lw_at lw_m2 111 rfl) rfl
theorem q447 : (Jvm.Cond.methodLink "java/lang/String" (640 : Nat) ({ cls := "java/lang/StringUTF16", name := "indexOf", desc := "([BIII)I" } : Jvm.MethodName)) ∈ lw_all := lw_g (lw_at lw_m2 126 rfl) rfl
theorem q463 : (Jvm.Cond.static ({ cls := "java/lang/String", name := "checkBoundsBeginEnd", desc := "(III)V" } : Jvm.MethodName)) ∈ lw_all := lw_g (lw_at lw_m2 142 rfl) rfl
theorem q464 : (Jvm.Cond.code ({ cls := "java/lang/String", name := "checkBoundsBeginEnd", desc := "(III)V" } : Jvm.MethodName) prog_27_method_158_code (3 : Nat) (Option.none : Option Jvm.ClassFile.FieldType)) ∈ lw_all := lw_g (lw_at lw_m2 143 rfl) rfl
theorem q465 : (Jvm.Cond.fieldLink "java/lang/String" (1053 : Nat) "jdk/internal/util/Preconditions" "SIOOBE_FORMATTER" "Ljava/util/function/BiFunction;") ∈ lw_all := lw_g (lw_at lw_m2 144 rfl) rfl
theorem q467 : (Jvm.Cond.methodLink "java/lang/String" (1062 : Nat) ({ cls := "jdk/internal/util/Preconditions", name := "checkFromToIndex", desc := "(IIILjava/util/function/BiFunction;)I" } : Jvm.MethodName)) ∈ lw_all := lw_g (lw_at lw_m2 146 rfl) rfl
theorem q529 : (Jvm.Cond.instanceMethod ({ cls := "java/lang/String", name := "charAt", desc := "(I)C" } : Jvm.MethodName)) ∈ lw_all := lw_g (lw_at lw_m2 208 rfl) rfl
theorem q530 : (Jvm.Cond.selects "java/lang/String" ({ cls := "java/lang/String", name := "charAt", desc := "(I)C" } : Jvm.MethodName) ({ cls := "java/lang/String", name := "charAt", desc := "(I)C" } : Jvm.MethodName)) ∈ lw_all := lw_g (lw_at lw_m2 209 rfl) rfl
theorem q531 : (Jvm.Cond.code ({ cls := "java/lang/String", name := "charAt", desc := "(I)C" } : Jvm.MethodName) prog_27_method_56_code (2 : Nat) (Option.some Jvm.ClassFile.FieldType.char)) ∈ lw_all := lw_g (lw_at lw_m2 210 rfl) rfl
theorem q532 : (Jvm.Cond.methodLink "java/lang/String" (495 : Nat) ({ cls := "java/lang/StringLatin1", name := "charAt", desc := "([BI)C" } : Jvm.MethodName)) ∈ lw_all := lw_g (lw_at lw_m2 211 rfl) rfl
theorem q536 : (Jvm.Cond.static ({ cls := "java/lang/String", name := "checkIndex", desc := "(II)V" } : Jvm.MethodName)) ∈ lw_all := lw_g (lw_at lw_m2 215 rfl) rfl
theorem q537 : (Jvm.Cond.code ({ cls := "java/lang/String", name := "checkIndex", desc := "(II)V" } : Jvm.MethodName) prog_27_method_155_code (2 : Nat) (Option.none : Option Jvm.ClassFile.FieldType)) ∈ lw_all := lw_g (lw_at lw_m2 216 rfl) rfl
theorem q538 : (Jvm.Cond.methodLink "java/lang/String" (1059 : Nat) ({ cls := "jdk/internal/util/Preconditions", name := "checkIndex", desc := "(IILjava/util/function/BiFunction;)I" } : Jvm.MethodName)) ∈ lw_all := lw_g (lw_at lw_m2 217 rfl) rfl
theorem q541 : (Jvm.Cond.methodLink "java/lang/String" (498 : Nat) ({ cls := "java/lang/StringUTF16", name := "charAt", desc := "([BI)C" } : Jvm.MethodName)) ∈ lw_all := lw_g (lw_at lw_m2 220 rfl) rfl
theorem q1445 : (Jvm.Cond.fieldLink "java/lang/String" (15 : Nat) "java/lang/String" "coder" "B") ∈ lw_all := lw_g (lw_at lw_m6 164 rfl) rfl
theorem q1446 : (Jvm.Cond.fieldLink "java/lang/String" (9 : Nat) "java/lang/String" "value" "[B") ∈ lw_all := lw_g (lw_at lw_m6 165 rfl) rfl
/-! J3.java_lang_StringLatin1.lean.txt -/
/-! java/lang/StringLatin1 -/
set_option maxRecDepth 100000
def RJ3 : String := "java/lang/StringLatin1"
abbrev cJ3_indexOf : ByteArray := prog_28_method_22_code
def yJ3_indexOf : MethodName := ⟨RJ3, "indexOf", "([BIII)I"⟩
abbrev cJ3_canEncode : ByteArray := prog_28_method_4_code
def yJ3_canEncode : MethodName := ⟨RJ3, "canEncode", "(I)Z"⟩
abbrev cJ3_indexOfChar : ByteArray := prog_28_method_23_code
def yJ3_indexOfChar : MethodName := ⟨RJ3, "indexOfChar", "([BIII)I"⟩
abbrev cJ3_charAt : ByteArray := prog_28_method_2_code
def yJ3_charAt : MethodName := ⟨RJ3, "charAt", "([BI)C"⟩
theorem q91 : (Jvm.Cond.initialized "java/lang/StringLatin1") ∈ lw_all := lw_g (lw_at lw_m1 10 rfl) rfl
theorem q433 : (Jvm.Cond.static ({ cls := "java/lang/StringLatin1", name := "indexOf", desc := "([BIII)I" } : Jvm.MethodName)) ∈ lw_all := lw_g (lw_at lw_m2 112 rfl) rfl
theorem q434 : (Jvm.Cond.code ({ cls := "java/lang/StringLatin1", name := "indexOf", desc := "([BIII)I" } : Jvm.MethodName) prog_28_method_22_code (4 : Nat) (Option.some Jvm.ClassFile.FieldType.int)) ∈ lw_all := lw_g (lw_at lw_m2 113 rfl) rfl
theorem q435 : (Jvm.Cond.methodLink "java/lang/StringLatin1" (88 : Nat) ({ cls := "java/lang/StringLatin1", name := "canEncode", desc := "(I)Z" } : Jvm.MethodName)) ∈ lw_all := lw_g (lw_at lw_m2 114 rfl) rfl
theorem q436 : (Jvm.Cond.static ({ cls := "java/lang/StringLatin1", name := "canEncode", desc := "(I)Z" } : Jvm.MethodName)) ∈ lw_all := lw_g (lw_at lw_m2 115 rfl) rfl
theorem q437 : (Jvm.Cond.code ({ cls := "java/lang/StringLatin1", name := "canEncode", desc := "(I)Z" } : Jvm.MethodName) prog_28_method_4_code (1 : Nat) (Option.some Jvm.ClassFile.FieldType.boolean)) ∈ lw_all := lw_g (lw_at lw_m2 116 rfl) rfl
theorem q438 : (Jvm.Cond.methodLink "java/lang/StringLatin1" (92 : Nat) ({ cls := "java/lang/Math", name := "max", desc := "(II)I" } : Jvm.MethodName)) ∈ lw_all := lw_g (lw_at lw_m2 117 rfl) rfl
theorem q441 : (Jvm.Cond.methodLink "java/lang/StringLatin1" (38 : Nat) ({ cls := "java/lang/Math", name := "min", desc := "(II)I" } : Jvm.MethodName)) ∈ lw_all := lw_g (lw_at lw_m2 120 rfl) rfl
theorem q444 : (Jvm.Cond.methodLink "java/lang/StringLatin1" (95 : Nat) ({ cls := "java/lang/StringLatin1", name := "indexOfChar", desc := "([BIII)I" } : Jvm.MethodName)) ∈ lw_all := lw_g (lw_at lw_m2 123 rfl) rfl
theorem q445 : (Jvm.Cond.static ({ cls := "java/lang/StringLatin1", name := "indexOfChar", desc := "([BIII)I" } : Jvm.MethodName)) ∈ lw_all := lw_g (lw_at lw_m2 124 rfl) rfl
theorem q446 : (Jvm.Cond.code ({ cls := "java/lang/StringLatin1", name := "indexOfChar", desc := "([BIII)I" } : Jvm.MethodName) prog_28_method_23_code (6 : Nat) (Option.some Jvm.ClassFile.FieldType.int)) ∈ lw_all := lw_g (lw_at lw_m2 125 rfl) rfl
theorem q533 : (Jvm.Cond.static ({ cls := "java/lang/StringLatin1", name := "charAt", desc := "([BI)C" } : Jvm.MethodName)) ∈ lw_all := lw_g (lw_at lw_m2 212 rfl) rfl
theorem q534 : (Jvm.Cond.code ({ cls := "java/lang/StringLatin1", name := "charAt", desc := "([BI)C" } : Jvm.MethodName) prog_28_method_2_code (2 : Nat) (Option.some Jvm.ClassFile.FieldType.char)) ∈ lw_all := lw_g (lw_at lw_m2 213 rfl) rfl
theorem q535 : (Jvm.Cond.methodLink "java/lang/StringLatin1" (9 : Nat) ({ cls := "java/lang/String", name := "checkIndex", desc := "(II)V" } : Jvm.MethodName)) ∈ lw_all := lw_g (lw_at lw_m2 214 rfl) rfl
/-! J4.java_lang_Math.lean.txt -/
/-! java/lang/Math -/
set_option maxRecDepth 100000
def RJ4 : String := "java/lang/Math"
abbrev cJ4_max : ByteArray := prog_26_method_65_code
def yJ4_max : MethodName := ⟨RJ4, "max", "(II)I"⟩
abbrev cJ4_min : ByteArray := prog_26_method_69_code
def yJ4_min : MethodName := ⟨RJ4, "min", "(II)I"⟩
abbrev cJ4_min_2 : ByteArray := prog_26_method_70_code
def yJ4_min_2 : MethodName := ⟨RJ4, "min", "(JJ)J"⟩
theorem q92 : (Jvm.Cond.initialized "java/lang/Math") ∈ lw_all := lw_g (lw_at lw_m1 11 rfl) rfl
theorem q439 : (Jvm.Cond.static ({ cls := "java/lang/Math", name := "max", desc := "(II)I" } : Jvm.MethodName)) ∈ lw_all := lw_g (lw_at lw_m2 118 rfl) rfl
theorem q440 : (Jvm.Cond.code ({ cls := "java/lang/Math", name := "max", desc := "(II)I" } : Jvm.MethodName) prog_26_method_65_code (2 : Nat) (Option.some Jvm.ClassFile.FieldType.int)) ∈ lw_all := lw_g (lw_at lw_m2 119 rfl) rfl
theorem q442 : (Jvm.Cond.static ({ cls := "java/lang/Math", name := "min", desc := "(II)I" } : Jvm.MethodName)) ∈ lw_all := lw_g (lw_at lw_m2 121 rfl) rfl
theorem q443 : (Jvm.Cond.code ({ cls := "java/lang/Math", name := "min", desc := "(II)I" } : Jvm.MethodName) prog_26_method_69_code (2 : Nat) (Option.some Jvm.ClassFile.FieldType.int)) ∈ lw_all := lw_g (lw_at lw_m2 122 rfl) rfl
theorem q886 : (Jvm.Cond.static ({ cls := "java/lang/Math", name := "min", desc := "(JJ)J" } : Jvm.MethodName)) ∈ lw_all := lw_g (lw_at lw_m4 85 rfl) rfl
theorem q887 : (Jvm.Cond.code ({ cls := "java/lang/Math", name := "min", desc := "(JJ)J" } : Jvm.MethodName) prog_26_method_70_code (4 : Nat) (Option.some Jvm.ClassFile.FieldType.long)) ∈ lw_all := lw_g (lw_at lw_m4 86 rfl) rfl
/-! J5.java_lang_StringUTF16.lean.txt -/
/-! java/lang/StringUTF16 -/
set_option maxRecDepth 100000
def RJ5 : String := "java/lang/StringUTF16"
abbrev cJ5_indexOf : ByteArray := prog_29_method_40_code
def yJ5_indexOf : MethodName := ⟨RJ5, "indexOf", "([BIII)I"⟩
abbrev cJ5_indexOfChar : ByteArray := prog_29_method_47_code
def yJ5_indexOfChar : MethodName := ⟨RJ5, "indexOfChar", "([BIII)I"⟩
abbrev cJ5_checkBoundsBeginEnd : ByteArray := prog_29_method_93_code
def yJ5_checkBoundsBeginEnd : MethodName := ⟨RJ5, "checkBoundsBeginEnd", "(II[B)V"⟩
abbrev cJ5_length : ByteArray := prog_29_method_6_code
def yJ5_length : MethodName := ⟨RJ5, "length", "([B)I"⟩
abbrev cJ5_indexOfCharUnsafe : ByteArray := prog_29_method_48_code
def yJ5_indexOfCharUnsafe : MethodName := ⟨RJ5, "indexOfCharUnsafe", "([BIII)I"⟩
abbrev cJ5_getChar : ByteArray := prog_29_method_5_code
def yJ5_getChar : MethodName := ⟨RJ5, "getChar", "([BI)C"⟩
abbrev cJ5_indexOfSupplementary : ByteArray := prog_29_method_49_code
def yJ5_indexOfSupplementary : MethodName := ⟨RJ5, "indexOfSupplementary", "([BIII)I"⟩
abbrev cJ5_charAt : ByteArray := prog_29_method_83_code
def yJ5_charAt : MethodName := ⟨RJ5, "charAt", "([BI)C"⟩
abbrev cJ5_checkIndex : ByteArray := prog_29_method_91_code
def yJ5_checkIndex : MethodName := ⟨RJ5, "checkIndex", "(I[B)V"⟩
theorem q93 : (Jvm.Cond.initialized "java/lang/StringUTF16") ∈ lw_all := lw_g (lw_at lw_m1 12 rfl) rfl
theorem q448 : (Jvm.Cond.static ({ cls := "java/lang/StringUTF16", name := "indexOf", desc := "([BIII)I" } : Jvm.MethodName)) ∈ lw_all := lw_g (lw_at lw_m2 127 rfl) rfl
theorem q449 : (Jvm.Cond.code ({ cls := "java/lang/StringUTF16", name := "indexOf", desc := "([BIII)I" } : Jvm.MethodName) prog_29_method_40_code (4 : Nat) (Option.some Jvm.ClassFile.FieldType.int)) ∈ lw_all := lw_g (lw_at lw_m2 128 rfl) rfl
theorem q450 : (Jvm.Cond.methodLink "java/lang/StringUTF16" (224 : Nat) ({ cls := "java/lang/Math", name := "max", desc := "(II)I" } : Jvm.MethodName)) ∈ lw_all := lw_g (lw_at lw_m2 129 rfl) rfl
theorem q451 : (Jvm.Cond.methodLink "java/lang/StringUTF16" (183 : Nat) ({ cls := "java/lang/Math", name := "min", desc := "(II)I" } : Jvm.MethodName)) ∈ lw_all := lw_g (lw_at lw_m2 130 rfl) rfl
theorem q452 : (Jvm.Cond.constant "java/lang/StringUTF16" (227 : Nat) (65536 : Int32)) ∈ lw_all := lw_g (lw_at lw_m2 131 rfl) rfl
theorem q453 : (Jvm.Cond.methodLink "java/lang/StringUTF16" (228 : Nat) ({ cls := "java/lang/StringUTF16", name := "indexOfChar", desc := "([BIII)I" } : Jvm.MethodName)) ∈ lw_all := lw_g (lw_at lw_m2 132 rfl) rfl
theorem q454 : (Jvm.Cond.static ({ cls := "java/lang/StringUTF16", name := "indexOfChar", desc := "([BIII)I" } : Jvm.MethodName)) ∈ lw_all := lw_g (lw_at lw_m2 133 rfl) rfl
theorem q455 : (Jvm.Cond.code ({ cls := "java/lang/StringUTF16", name := "indexOfChar", desc := "([BIII)I" } : Jvm.MethodName) prog_29_method_47_code (4 : Nat) (Option.some Jvm.ClassFile.FieldType.int)) ∈ lw_all := lw_g (lw_at lw_m2 134 rfl) rfl
theorem q456 : (Jvm.Cond.methodLink "java/lang/StringUTF16" (96 : Nat) ({ cls := "java/lang/StringUTF16", name := "checkBoundsBeginEnd", desc := "(II[B)V" } : Jvm.MethodName)) ∈ lw_all := lw_g (lw_at lw_m2 135 rfl) rfl
theorem q457 : (Jvm.Cond.static ({ cls := "java/lang/StringUTF16", name := "checkBoundsBeginEnd", desc := "(II[B)V" } : Jvm.MethodName)) ∈ lw_all := lw_g (lw_at lw_m2 136 rfl) rfl
theorem q458 : (Jvm.Cond.code ({ cls := "java/lang/StringUTF16", name := "checkBoundsBeginEnd", desc := "(II[B)V" } : Jvm.MethodName) prog_29_method_93_code (3 : Nat) (Option.none : Option Jvm.ClassFile.FieldType)) ∈ lw_all := lw_g (lw_at lw_m2 137 rfl) rfl
theorem q459 : (Jvm.Cond.methodLink "java/lang/StringUTF16" (48 : Nat) ({ cls := "java/lang/StringUTF16", name := "length", desc := "([B)I" } : Jvm.MethodName)) ∈ lw_all := lw_g (lw_at lw_m2 138 rfl) rfl
theorem q460 : (Jvm.Cond.static ({ cls := "java/lang/StringUTF16", name := "length", desc := "([B)I" } : Jvm.MethodName)) ∈ lw_all := lw_g (lw_at lw_m2 139 rfl) rfl
theorem q461 : (Jvm.Cond.code ({ cls := "java/lang/StringUTF16", name := "length", desc := "([B)I" } : Jvm.MethodName) prog_29_method_6_code (1 : Nat) (Option.some Jvm.ClassFile.FieldType.int)) ∈ lw_all := lw_g (lw_at lw_m2 140 rfl) rfl
theorem q462 : (Jvm.Cond.methodLink "java/lang/StringUTF16" (241 : Nat) ({ cls := "java/lang/String", name := "checkBoundsBeginEnd", desc := "(III)V" } : Jvm.MethodName)) ∈ lw_all := lw_g (lw_at lw_m2 141 rfl) rfl
theorem q470 : (Jvm.Cond.methodLink "java/lang/StringUTF16" (244 : Nat) ({ cls := "java/lang/StringUTF16", name := "indexOfCharUnsafe", desc := "([BIII)I" } : Jvm.MethodName)) ∈ lw_all := lw_g (lw_at lw_m2 149 rfl) rfl
theorem q471 : (Jvm.Cond.static ({ cls := "java/lang/StringUTF16", name := "indexOfCharUnsafe", desc := "([BIII)I" } : Jvm.MethodName)) ∈ lw_all := lw_g (lw_at lw_m2 150 rfl) rfl
theorem q472 : (Jvm.Cond.code ({ cls := "java/lang/StringUTF16", name := "indexOfCharUnsafe", desc := "([BIII)I" } : Jvm.MethodName) prog_29_method_48_code (5 : Nat) (Option.some Jvm.ClassFile.FieldType.int)) ∈ lw_all := lw_g (lw_at lw_m2 151 rfl) rfl
theorem q473 : (Jvm.Cond.methodLink "java/lang/StringUTF16" (71 : Nat) ({ cls := "java/lang/StringUTF16", name := "getChar", desc := "([BI)C" } : Jvm.MethodName)) ∈ lw_all := lw_g (lw_at lw_m2 152 rfl) rfl
theorem q474 : (Jvm.Cond.static ({ cls := "java/lang/StringUTF16", name := "getChar", desc := "([BI)C" } : Jvm.MethodName)) ∈ lw_all := lw_g (lw_at lw_m2 153 rfl) rfl
theorem q475 : (Jvm.Cond.code ({ cls := "java/lang/StringUTF16", name := "getChar", desc := "([BI)C" } : Jvm.MethodName) prog_29_method_5_code (2 : Nat) (Option.some Jvm.ClassFile.FieldType.char)) ∈ lw_all := lw_g (lw_at lw_m2 154 rfl) rfl
theorem q476 : (Jvm.Cond.fieldLink "java/lang/StringUTF16" (44 : Nat) "java/lang/StringUTF16" "$assertionsDisabled" "Z") ∈ lw_all := lw_g (lw_at lw_m2 155 rfl) rfl
theorem q477 : (Jvm.Cond.laysStatic "java/lang/StringUTF16" "$assertionsDisabled" "Z") ∈ lw_tbl := lw_at lw_m2 156 rfl
theorem q478 : (Jvm.Cond.fieldLink "java/lang/StringUTF16" (59 : Nat) "java/lang/StringUTF16" "HI_BYTE_SHIFT" "I") ∈ lw_all := lw_g (lw_at lw_m2 157 rfl) rfl
theorem q479 : (Jvm.Cond.laysStatic "java/lang/StringUTF16" "HI_BYTE_SHIFT" "I") ∈ lw_tbl := lw_at lw_m2 158 rfl
theorem q480 : (Jvm.Cond.fieldLink "java/lang/StringUTF16" (63 : Nat) "java/lang/StringUTF16" "LO_BYTE_SHIFT" "I") ∈ lw_all := lw_g (lw_at lw_m2 159 rfl) rfl
theorem q481 : (Jvm.Cond.laysStatic "java/lang/StringUTF16" "LO_BYTE_SHIFT" "I") ∈ lw_tbl := lw_at lw_m2 160 rfl
theorem q482 : (Jvm.Cond.methodLink "java/lang/StringUTF16" (232 : Nat) ({ cls := "java/lang/StringUTF16", name := "indexOfSupplementary", desc := "([BIII)I" } : Jvm.MethodName)) ∈ lw_all := lw_g (lw_at lw_m2 161 rfl) rfl
theorem q483 : (Jvm.Cond.static ({ cls := "java/lang/StringUTF16", name := "indexOfSupplementary", desc := "([BIII)I" } : Jvm.MethodName)) ∈ lw_all := lw_g (lw_at lw_m2 162 rfl) rfl
theorem q484 : (Jvm.Cond.code ({ cls := "java/lang/StringUTF16", name := "indexOfSupplementary", desc := "([BIII)I" } : Jvm.MethodName) prog_29_method_49_code (7 : Nat) (Option.some Jvm.ClassFile.FieldType.int)) ∈ lw_all := lw_g (lw_at lw_m2 163 rfl) rfl
theorem q485 : (Jvm.Cond.methodLink "java/lang/StringUTF16" (164 : Nat) ({ cls := "java/lang/Character", name := "isValidCodePoint", desc := "(I)Z" } : Jvm.MethodName)) ∈ lw_all := lw_g (lw_at lw_m2 164 rfl) rfl
theorem q488 : (Jvm.Cond.methodLink "java/lang/StringUTF16" (157 : Nat) ({ cls := "java/lang/Character", name := "highSurrogate", desc := "(I)C" } : Jvm.MethodName)) ∈ lw_all := lw_g (lw_at lw_m2 167 rfl) rfl
theorem q492 : (Jvm.Cond.methodLink "java/lang/StringUTF16" (161 : Nat) ({ cls := "java/lang/Character", name := "lowSurrogate", desc := "(I)C" } : Jvm.MethodName)) ∈ lw_all := lw_g (lw_at lw_m2 171 rfl) rfl
theorem q542 : (Jvm.Cond.static ({ cls := "java/lang/StringUTF16", name := "charAt", desc := "([BI)C" } : Jvm.MethodName)) ∈ lw_all := lw_g (lw_at lw_m2 221 rfl) rfl
theorem q543 : (Jvm.Cond.code ({ cls := "java/lang/StringUTF16", name := "charAt", desc := "([BI)C" } : Jvm.MethodName) prog_29_method_83_code (2 : Nat) (Option.some Jvm.ClassFile.FieldType.char)) ∈ lw_all := lw_g (lw_at lw_m2 222 rfl) rfl
theorem q544 : (Jvm.Cond.methodLink "java/lang/StringUTF16" (67 : Nat) ({ cls := "java/lang/StringUTF16", name := "checkIndex", desc := "(I[B)V" } : Jvm.MethodName)) ∈ lw_all := lw_g (lw_at lw_m2 223 rfl) rfl
theorem q545 : (Jvm.Cond.static ({ cls := "java/lang/StringUTF16", name := "checkIndex", desc := "(I[B)V" } : Jvm.MethodName)) ∈ lw_all := lw_g (lw_at lw_m2 224 rfl) rfl
theorem q546 : (Jvm.Cond.code ({ cls := "java/lang/StringUTF16", name := "checkIndex", desc := "(I[B)V" } : Jvm.MethodName) prog_29_method_91_code (2 : Nat) (Option.none : Option Jvm.ClassFile.FieldType)) ∈ lw_all := lw_g (lw_at lw_m2 225 rfl) rfl
theorem q547 : (Jvm.Cond.methodLink "java/lang/StringUTF16" (414 : Nat) ({ cls := "java/lang/String", name := "checkIndex", desc := "(II)V" } : Jvm.MethodName)) ∈ lw_all := lw_g (lw_at lw_m2 226 rfl) rfl
/-! J6.jdk_internal_util_Preconditions.lean.txt -/
/-! jdk/internal/util/Preconditions -/
set_option maxRecDepth 100000
def RJ6 : String := "jdk/internal/util/Preconditions"
abbrev cJ6_checkFromToIndex : ByteArray := prog_32_method_12_code
def yJ6_checkFromToIndex : MethodName := ⟨RJ6, "checkFromToIndex", "(IIILjava/util/function/BiFunction;)I"⟩
abbrev cJ6_checkIndex : ByteArray := prog_32_method_11_code
def yJ6_checkIndex : MethodName := ⟨RJ6, "checkIndex", "(IILjava/util/function/BiFunction;)I"⟩
theorem q94 : (Jvm.Cond.initialized "jdk/internal/util/Preconditions") ∈ lw_all := lw_g (lw_at lw_m1 13 rfl) rfl
theorem q466 : (Jvm.Cond.laysStatic "jdk/internal/util/Preconditions" "SIOOBE_FORMATTER" "Ljava/util/function/BiFunction;") ∈ lw_tbl := lw_at lw_m2 145 rfl
theorem q468 : (Jvm.Cond.static ({ cls := "jdk/internal/util/Preconditions", name := "checkFromToIndex", desc := "(IIILjava/util/function/BiFunction;)I" } : Jvm.MethodName)) ∈ lw_all := lw_g (lw_at lw_m2 147 rfl) rfl
theorem q469 : (Jvm.Cond.code ({ cls := "jdk/internal/util/Preconditions", name := "checkFromToIndex", desc := "(IIILjava/util/function/BiFunction;)I" } : Jvm.MethodName) prog_32_method_12_code (4 : Nat) (Option.some Jvm.ClassFile.FieldType.int)) ∈ lw_all := lw_g (lw_at lw_m2 148 rfl) rfl
theorem q539 : (Jvm.Cond.static ({ cls := "jdk/internal/util/Preconditions", name := "checkIndex", desc := "(IILjava/util/function/BiFunction;)I" } : Jvm.MethodName)) ∈ lw_all := lw_g (lw_at lw_m2 218 rfl) rfl
theorem q540 : (Jvm.Cond.code ({ cls := "jdk/internal/util/Preconditions", name := "checkIndex", desc := "(IILjava/util/function/BiFunction;)I" } : Jvm.MethodName) prog_32_method_11_code (3 : Nat) (Option.some Jvm.ClassFile.FieldType.int)) ∈ lw_all := lw_g (lw_at lw_m2 219 rfl) rfl
/-! J7.java_lang_Character.lean.txt -/
/-! java/lang/Character -/
set_option maxRecDepth 100000
def RJ7 : String := "java/lang/Character"
abbrev cJ7_isValidCodePoint : ByteArray := prog_23_method_11_code
def yJ7_isValidCodePoint : MethodName := ⟨RJ7, "isValidCodePoint", "(I)Z"⟩
abbrev cJ7_highSurrogate : ByteArray := prog_23_method_28_code
def yJ7_highSurrogate : MethodName := ⟨RJ7, "highSurrogate", "(I)C"⟩
abbrev cJ7_lowSurrogate : ByteArray := prog_23_method_29_code
def yJ7_lowSurrogate : MethodName := ⟨RJ7, "lowSurrogate", "(I)C"⟩
theorem q95 : (Jvm.Cond.initialized "java/lang/Character") ∈ lw_all := lw_g (lw_at lw_m1 14 rfl) rfl
theorem q486 : (Jvm.Cond.static ({ cls := "java/lang/Character", name := "isValidCodePoint", desc := "(I)Z" } : Jvm.MethodName)) ∈ lw_all := lw_g (lw_at lw_m2 165 rfl) rfl
theorem q487 : (Jvm.Cond.code ({ cls := "java/lang/Character", name := "isValidCodePoint", desc := "(I)Z" } : Jvm.MethodName) prog_23_method_11_code (2 : Nat) (Option.some Jvm.ClassFile.FieldType.boolean)) ∈ lw_all := lw_g (lw_at lw_m2 166 rfl) rfl
theorem q489 : (Jvm.Cond.static ({ cls := "java/lang/Character", name := "highSurrogate", desc := "(I)C" } : Jvm.MethodName)) ∈ lw_all := lw_g (lw_at lw_m2 168 rfl) rfl
theorem q490 : (Jvm.Cond.code ({ cls := "java/lang/Character", name := "highSurrogate", desc := "(I)C" } : Jvm.MethodName) prog_23_method_28_code (1 : Nat) (Option.some Jvm.ClassFile.FieldType.char)) ∈ lw_all := lw_g (lw_at lw_m2 169 rfl) rfl
theorem q491 : (Jvm.Cond.constant "java/lang/Character" (110 : Nat) (55232 : Int32)) ∈ lw_all := lw_g (lw_at lw_m2 170 rfl) rfl
theorem q493 : (Jvm.Cond.static ({ cls := "java/lang/Character", name := "lowSurrogate", desc := "(I)C" } : Jvm.MethodName)) ∈ lw_all := lw_g (lw_at lw_m2 172 rfl) rfl
theorem q494 : (Jvm.Cond.code ({ cls := "java/lang/Character", name := "lowSurrogate", desc := "(I)C" } : Jvm.MethodName) prog_23_method_29_code (1 : Nat) (Option.some Jvm.ClassFile.FieldType.char)) ∈ lw_all := lw_g (lw_at lw_m2 173 rfl) rfl
theorem q495 : (Jvm.Cond.constant "java/lang/Character" (76 : Nat) (56320 : Int32)) ∈ lw_all := lw_g (lw_at lw_m2 174 rfl) rfl
/-! J8.java_lang_Object.lean.txt -/
/-! java/lang/Object -/
set_option maxRecDepth 100000
def RJ8 : String := "java/lang/Object"
abbrev cJ8_init : ByteArray := object_method_1_code
def yJ8_init : MethodName := ⟨RJ8, "<init>", "()V"⟩
theorem q105 : (Jvm.Cond.instanceMethod ({ cls := "java/lang/Object", name := "<init>", desc := "()V" } : Jvm.MethodName)) ∈ lw_all := lw_g (lw_at lw_m1 24 rfl) rfl
theorem q106 : (Jvm.Cond.code ({ cls := "java/lang/Object", name := "<init>", desc := "()V" } : Jvm.MethodName) object_method_1_code (1 : Nat) (Option.none : Option Jvm.ClassFile.FieldType)) ∈ lw_all := lw_g (lw_at lw_m1 25 rfl) rfl
/-! words.TableWaysLaw.lean.txt -/
theorem q81 : (Jvm.Cond.initialized "TableWaysLaw") ∈ lw_all := lw_g (lw_at lw_m1 0 rfl) rfl
set_option maxRecDepth 100000
theorem q99 : (Jvm.Cond.classLink "TableWaysLaw" (7 : Nat) "TableWays") ∈ lw_all := lw_g (lw_at lw_m1 18 rfl) rfl
theorem q101 : (Jvm.Cond.methodLink "TableWaysLaw" (9 : Nat) ({ cls := "TableWays", name := "<init>", desc := "()V" } : Jvm.MethodName)) ∈ lw_all := lw_g (lw_at lw_m1 20 rfl) rfl
theorem q363 : (Jvm.Cond.methodLink "TableWaysLaw" (13 : Nat) ({ cls := "TableWays", name := "feed", desc := "(IIIII)I" } : Jvm.MethodName)) ∈ lw_all := lw_g (lw_at lw_m2 42 rfl) rfl
theorem q371 : (Jvm.Cond.methodLink "TableWaysLaw" (18 : Nat) ({ cls := "TableWays", name := "end", desc := "(I)I" } : Jvm.MethodName)) ∈ lw_all := lw_g (lw_at lw_m2 50 rfl) rfl
theorem q375 : (Jvm.Cond.methodLink "TableWaysLaw" (23 : Nat) ({ cls := "TableWays", name := "table", desc := "(I)I" } : Jvm.MethodName)) ∈ lw_all := lw_g (lw_at lw_m2 54 rfl) rfl
theorem q510 : (Jvm.Cond.methodLink "TableWaysLaw" (27 : Nat) ({ cls := "TableWays", name := "way", desc := "(I)I" } : Jvm.MethodName)) ∈ lw_all := lw_g (lw_at lw_m2 189 rfl) rfl
theorem q630 : (Jvm.Cond.methodLink "TableWaysLaw" (31 : Nat) ({ cls := "TableWays", name := "fault", desc := "(I)I" } : Jvm.MethodName)) ∈ lw_all := lw_g (lw_at lw_m3 69 rfl) rfl
theorem q634 : (Jvm.Cond.methodLink "TableWaysLaw" (35 : Nat) ({ cls := "TableWays", name := "size", desc := "(II)I" } : Jvm.MethodName)) ∈ lw_all := lw_g (lw_at lw_m3 73 rfl) rfl
theorem q650 : (Jvm.Cond.methodLink "TableWaysLaw" (40 : Nat) ({ cls := "TableWays", name := "cell", desc := "(III)J" } : Jvm.MethodName)) ∈ lw_all := lw_g (lw_at lw_m3 89 rfl) rfl
theorem q659 : (Jvm.Cond.methodLink "TableWaysLaw" (45 : Nat) ({ cls := "TableWays", name := "copy", desc := "(II)I" } : Jvm.MethodName)) ∈ lw_all := lw_g (lw_at lw_m3 98 rfl) rfl
theorem q663 : (Jvm.Cond.methodLink "TableWaysLaw" (49 : Nat) ({ cls := "TableWays", name := "fits", desc := "(II)I" } : Jvm.MethodName)) ∈ lw_all := lw_g (lw_at lw_m3 102 rfl) rfl
theorem q672 : (Jvm.Cond.methodLink "TableWaysLaw" (53 : Nat) ({ cls := "TableWays", name := "step", desc := "(IIII)I" } : Jvm.MethodName)) ∈ lw_all := lw_g (lw_at lw_m3 111 rfl) rfl
theorem q832 : (Jvm.Cond.methodLink "TableWaysLaw" (58 : Nat) ({ cls := "TableWays", name := "walk", desc := "(III)I" } : Jvm.MethodName)) ∈ lw_all := lw_g (lw_at lw_m4 31 rfl) rfl
theorem q843 : (Jvm.Cond.methodLink "TableWaysLaw" (63 : Nat) ({ cls := "TableWays", name := "steps", desc := "(I)I" } : Jvm.MethodName)) ∈ lw_all := lw_g (lw_at lw_m4 42 rfl) rfl
theorem q847 : (Jvm.Cond.methodLink "TableWaysLaw" (67 : Nat) ({ cls := "TableWays", name := "stepAt", desc := "(III)I" } : Jvm.MethodName)) ∈ lw_all := lw_g (lw_at lw_m4 46 rfl) rfl
theorem q851 : (Jvm.Cond.methodLink "TableWaysLaw" (71 : Nat) ({ cls := "TableWays", name := "chain", desc := "(III)I" } : Jvm.MethodName)) ∈ lw_all := lw_g (lw_at lw_m4 50 rfl) rfl
theorem q855 : (Jvm.Cond.methodLink "TableWaysLaw" (75 : Nat) ({ cls := "TableWays", name := "find", desc := "(IIIII)I" } : Jvm.MethodName)) ∈ lw_all := lw_g (lw_at lw_m4 54 rfl) rfl
theorem q904 : (Jvm.Cond.methodLink "TableWaysLaw" (79 : Nat) ({ cls := "TableWays", name := "found", desc := "(I)I" } : Jvm.MethodName)) ∈ lw_all := lw_g (lw_at lw_m4 103 rfl) rfl
theorem q908 : (Jvm.Cond.methodLink "TableWaysLaw" (83 : Nat) ({ cls := "TableWays", name := "take", desc := "(II)I" } : Jvm.MethodName)) ∈ lw_all := lw_g (lw_at lw_m4 107 rfl) rfl
theorem q913 : (Jvm.Cond.methodLink "TableWaysLaw" (87 : Nat) ({ cls := "TableWays", name := "part", desc := "(IIIII)I" } : Jvm.MethodName)) ∈ lw_all := lw_g (lw_at lw_m4 112 rfl) rfl
theorem q929 : (Jvm.Cond.methodLink "TableWaysLaw" (91 : Nat) ({ cls := "TableWays", name := "count", desc := "(I)I" } : Jvm.MethodName)) ∈ lw_all := lw_g (lw_at lw_m4 128 rfl) rfl
theorem q933 : (Jvm.Cond.classLink "TableWaysLaw" (10 : Nat) "TableWaysModel") ∈ lw_all := lw_g (lw_at lw_m4 132 rfl) rfl
theorem q935 : (Jvm.Cond.methodLink "TableWaysLaw" (12 : Nat) ({ cls := "TableWaysModel", name := "<init>", desc := "()V" } : Jvm.MethodName)) ∈ lw_all := lw_g (lw_at lw_m4 134 rfl) rfl
theorem q1085 : (Jvm.Cond.methodLink "TableWaysLaw" (17 : Nat) ({ cls := "TableWaysModel", name := "feed", desc := "(IIIII)I" } : Jvm.MethodName)) ∈ lw_all := lw_g (lw_at lw_m5 44 rfl) rfl
theorem q1093 : (Jvm.Cond.methodLink "TableWaysLaw" (22 : Nat) ({ cls := "TableWaysModel", name := "end", desc := "(I)I" } : Jvm.MethodName)) ∈ lw_all := lw_g (lw_at lw_m5 52 rfl) rfl
theorem q1100 : (Jvm.Cond.methodLink "TableWaysLaw" (26 : Nat) ({ cls := "TableWaysModel", name := "table", desc := "(I)I" } : Jvm.MethodName)) ∈ lw_all := lw_g (lw_at lw_m5 59 rfl) rfl
theorem q1149 : (Jvm.Cond.methodLink "TableWaysLaw" (30 : Nat) ({ cls := "TableWaysModel", name := "way", desc := "(I)I" } : Jvm.MethodName)) ∈ lw_all := lw_g (lw_at lw_m5 108 rfl) rfl
theorem q1200 : (Jvm.Cond.methodLink "TableWaysLaw" (34 : Nat) ({ cls := "TableWaysModel", name := "fault", desc := "(I)I" } : Jvm.MethodName)) ∈ lw_all := lw_g (lw_at lw_m5 159 rfl) rfl
theorem q1204 : (Jvm.Cond.methodLink "TableWaysLaw" (39 : Nat) ({ cls := "TableWaysModel", name := "size", desc := "(II)I" } : Jvm.MethodName)) ∈ lw_all := lw_g (lw_at lw_m5 163 rfl) rfl
theorem q1220 : (Jvm.Cond.methodLink "TableWaysLaw" (44 : Nat) ({ cls := "TableWaysModel", name := "cell", desc := "(III)J" } : Jvm.MethodName)) ∈ lw_all := lw_g (lw_at lw_m5 179 rfl) rfl
theorem q1225 : (Jvm.Cond.methodLink "TableWaysLaw" (48 : Nat) ({ cls := "TableWaysModel", name := "copy", desc := "(II)I" } : Jvm.MethodName)) ∈ lw_all := lw_g (lw_at lw_m5 184 rfl) rfl
theorem q1229 : (Jvm.Cond.methodLink "TableWaysLaw" (52 : Nat) ({ cls := "TableWaysModel", name := "fits", desc := "(II)I" } : Jvm.MethodName)) ∈ lw_all := lw_g (lw_at lw_m5 188 rfl) rfl
theorem q1237 : (Jvm.Cond.methodLink "TableWaysLaw" (57 : Nat) ({ cls := "TableWaysModel", name := "step", desc := "(IIII)I" } : Jvm.MethodName)) ∈ lw_all := lw_g (lw_at lw_m5 196 rfl) rfl
theorem q1342 : (Jvm.Cond.methodLink "TableWaysLaw" (62 : Nat) ({ cls := "TableWaysModel", name := "walk", desc := "(III)I" } : Jvm.MethodName)) ∈ lw_all := lw_g (lw_at lw_m6 61 rfl) rfl
theorem q1350 : (Jvm.Cond.methodLink "TableWaysLaw" (66 : Nat) ({ cls := "TableWaysModel", name := "steps", desc := "(I)I" } : Jvm.MethodName)) ∈ lw_all := lw_g (lw_at lw_m6 69 rfl) rfl
theorem q1354 : (Jvm.Cond.methodLink "TableWaysLaw" (70 : Nat) ({ cls := "TableWaysModel", name := "stepAt", desc := "(III)I" } : Jvm.MethodName)) ∈ lw_all := lw_g (lw_at lw_m6 73 rfl) rfl
theorem q1358 : (Jvm.Cond.methodLink "TableWaysLaw" (74 : Nat) ({ cls := "TableWaysModel", name := "chain", desc := "(III)I" } : Jvm.MethodName)) ∈ lw_all := lw_g (lw_at lw_m6 77 rfl) rfl
theorem q1362 : (Jvm.Cond.methodLink "TableWaysLaw" (78 : Nat) ({ cls := "TableWaysModel", name := "find", desc := "(IIIII)I" } : Jvm.MethodName)) ∈ lw_all := lw_g (lw_at lw_m6 81 rfl) rfl
theorem q1422 : (Jvm.Cond.methodLink "TableWaysLaw" (82 : Nat) ({ cls := "TableWaysModel", name := "found", desc := "(I)I" } : Jvm.MethodName)) ∈ lw_all := lw_g (lw_at lw_m6 141 rfl) rfl
theorem q1426 : (Jvm.Cond.methodLink "TableWaysLaw" (86 : Nat) ({ cls := "TableWaysModel", name := "take", desc := "(II)I" } : Jvm.MethodName)) ∈ lw_all := lw_g (lw_at lw_m6 145 rfl) rfl
theorem q1430 : (Jvm.Cond.methodLink "TableWaysLaw" (90 : Nat) ({ cls := "TableWaysModel", name := "part", desc := "(IIIII)I" } : Jvm.MethodName)) ∈ lw_all := lw_g (lw_at lw_m6 149 rfl) rfl
theorem q1440 : (Jvm.Cond.methodLink "TableWaysLaw" (94 : Nat) ({ cls := "TableWaysModel", name := "count", desc := "(I)I" } : Jvm.MethodName)) ∈ lw_all := lw_g (lw_at lw_m6 159 rfl) rfl
/-! words.java_lang_Enum.lean.txt -/
theorem q97 : (Jvm.Cond.initialized "java/lang/Enum") ∈ lw_all := lw_g (lw_at lw_m1 16 rfl) rfl
set_option maxRecDepth 100000
/-! words.java_lang_System.lean.txt -/
theorem q96 : (Jvm.Cond.initialized "java/lang/System") ∈ lw_all := lw_g (lw_at lw_m1 15 rfl) rfl
set_option maxRecDepth 100000
theorem q508 : (Jvm.Cond.static ({ cls := "java/lang/System", name := "arraycopy", desc := "(Ljava/lang/Object;ILjava/lang/Object;II)V" } : Jvm.MethodName)) ∈ lw_all := lw_g (lw_at lw_m2 187 rfl) rfl
theorem q509 : (Jvm.Cond.native ({ cls := "java/lang/System", name := "arraycopy", desc := "(Ljava/lang/Object;ILjava/lang/Object;II)V" } : Jvm.MethodName)) ∈ lw_all := lw_g (lw_at lw_m2 188 rfl) rfl
/-! words.rest.lean.txt -/
theorem q108 : (Jvm.Cond.arrayOver (Jvm.ClassFile.FieldType.object "TableWays$Table")) ∈ lw_tbl := lw_at lw_m1 27 rfl
set_option maxRecDepth 100000
theorem q177 : (Jvm.Cond.arrayClass Jvm.ClassFile.FieldType.byte) ∈ lw_all := lw_g (lw_at lw_m1 96 rfl) rfl
theorem q225 : (Jvm.Cond.arrayClass Jvm.ClassFile.FieldType.long) ∈ lw_all := lw_g (lw_at lw_m1 144 rfl) rfl
theorem q226 : (Jvm.Cond.arrayClass Jvm.ClassFile.FieldType.int) ∈ lw_all := lw_g (lw_at lw_m1 145 rfl) rfl
theorem q228 : (Jvm.Cond.arrayOver (Jvm.ClassFile.FieldType.object "TableWays$Way")) ∈ lw_tbl := lw_at lw_m1 147 rfl
theorem q362 : (Jvm.Cond.arrayClass Jvm.ClassFile.FieldType.boolean) ∈ lw_all := lw_g (lw_at lw_m2 41 rfl) rfl
