/-! PRINTED: fields, new objects, stores, casts of the component -/
set_option maxRecDepth 100000
theorem cf_X1_text : fldOK [101] 0 "LazyForge" "text" "[C" (.array .char) false = true := by decide +kernel
theorem cf_X1_size : fldOK [101] 1 "LazyForge" "size" "I" .int false = true := by decide +kernel
theorem cf_X1_faultKind : fldOK [101] 2 "LazyForge" "faultKind" "I" .int false = true := by decide +kernel
theorem cf_X1_faultPlace : fldOK [101] 3 "LazyForge" "faultPlace" "I" .int false = true := by decide +kernel
theorem cf_X1_program : fldOK [101] 4 "LazyForge" "program" "LLazyForge$Program;" (.object "LazyForge$Program") false = true := by decide +kernel
theorem cf_X1_allParts : fldOK [101] 5 "LazyForge" "allParts" "I" .int false = true := by decide +kernel
theorem cf_X1_allCalls : fldOK [101] 6 "LazyForge" "allCalls" "I" .int false = true := by decide +kernel
theorem cf_X1_allCells : fldOK [101] 7 "LazyForge" "allCells" "I" .int false = true := by decide +kernel
theorem cf_X1_out : fldOK [101] 8 "LazyForge" "out" "LLazyForge$Writer;" (.object "LazyForge$Writer") false = true := by decide +kernel
theorem cf_X1_draft : fldOK [101] 9 "LazyForge" "draft" "LLazyForge$Writer;" (.object "LazyForge$Writer") false = true := by decide +kernel
theorem cf_X1_machine : fldOK [101] 10 "LazyForge" "machine" "LLazyForge$Machine;" (.object "LazyForge$Machine") true = true := by decide +kernel
theorem cf_X4_parts : fldOK [106, 107, 108, 109, 110, 118, 119, 120, 121, 122, 123, 124, 125, 126] 0 "LazyForge$Part" "parts" "I" .int false = true := by decide +kernel
theorem cf_X4_high : fldOK [106, 107, 108, 109, 110, 118, 119, 120, 121, 122, 123, 124, 125, 126] 1 "LazyForge$Part" "high" "I" .int false = true := by decide +kernel
theorem cf_X4_number : fldOK [106, 107, 108, 109, 110, 118, 119, 120, 121, 122, 123, 124, 125, 126] 2 "LazyForge$Part" "number" "I" .int false = true := by decide +kernel
theorem cf_X4_captured : fldOK [106, 107, 108, 109, 110, 118, 119, 120, 121, 122, 123, 124, 125, 126] 3 "LazyForge$Part" "captured" "[I" (.array .int) false = true := by decide +kernel
theorem cf_X4_in : fldOK [106, 107, 108, 109, 110, 118, 119, 120, 121, 122, 123, 124, 125, 126] 4 "LazyForge$Part" "in" "LLazyForge$Function;" (.object "LazyForge$Function") false = true := by decide +kernel
theorem cf_X12_house : fldOK [112] 0 "LazyForge$Reader" "house" "LLazyForge;" (.object "LazyForge") true = true := by decide +kernel
theorem cf_X12_text : fldOK [112] 1 "LazyForge$Reader" "text" "[C" (.array .char) true = true := by decide +kernel
theorem cf_X12_size : fldOK [112] 2 "LazyForge$Reader" "size" "I" .int true = true := by decide +kernel
theorem cf_X12_at : fldOK [112] 3 "LazyForge$Reader" "at" "I" .int false = true := by decide +kernel
theorem cf_X12_sort : fldOK [112] 4 "LazyForge$Reader" "sort" "I" .int false = true := by decide +kernel
theorem cf_X12_place : fldOK [112] 5 "LazyForge$Reader" "place" "I" .int false = true := by decide +kernel
theorem cf_X12_number : fldOK [112] 6 "LazyForge$Reader" "number" "I" .int false = true := by decide +kernel
theorem cf_X12_mark : fldOK [112] 7 "LazyForge$Reader" "mark" "I" .int false = true := by decide +kernel
theorem cf_X12_word : fldOK [112] 8 "LazyForge$Reader" "word" "J" .long false = true := by decide +kernel
theorem cf_X12_kind : fldOK [112] 9 "LazyForge$Reader" "kind" "I" .int false = true := by decide +kernel
theorem cf_X12_faultPlace : fldOK [112] 10 "LazyForge$Reader" "faultPlace" "I" .int false = true := by decide +kernel
theorem cf_X12_open : fldOK [112] 11 "LazyForge$Reader" "open" "I" .int false = true := by decide +kernel
theorem cf_X12_parts : fldOK [112] 12 "LazyForge$Reader" "parts" "I" .int false = true := by decide +kernel
theorem cf_X12_constructors : fldOK [112] 13 "LazyForge$Reader" "constructors" "[J" (.array .long) true = true := by decide +kernel
theorem cf_X12_fields : fldOK [112] 14 "LazyForge$Reader" "fields" "[I" (.array .int) true = true := by decide +kernel
theorem cf_X12_constructorCount : fldOK [112] 15 "LazyForge$Reader" "constructorCount" "I" .int false = true := by decide +kernel
theorem cf_X12_names : fldOK [112] 16 "LazyForge$Reader" "names" "[J" (.array .long) true = true := by decide +kernel
theorem cf_X12_places : fldOK [112] 17 "LazyForge$Reader" "places" "[I" (.array .int) true = true := by decide +kernel
theorem cf_X12_parameters : fldOK [112] 18 "LazyForge$Reader" "parameters" "[[J" (.array (.array .long)) true = true := by decide +kernel
theorem cf_X12_bodies : fldOK [112] 19 "LazyForge$Reader" "bodies" "[LLazyForge$Raw;" (.array (.object "LazyForge$Raw")) true = true := by decide +kernel
theorem cf_X12_functions : fldOK [112] 20 "LazyForge$Reader" "functions" "I" .int false = true := by decide +kernel
theorem cf_X12_previous : fldOK [112] 21 "LazyForge$Reader" "previous" "I" .int false = true := by decide +kernel
theorem cf_X12_gathered : fldOK [112] 22 "LazyForge$Reader" "gathered" "[J" (.array .long) true = true := by decide +kernel
theorem cf_X13_kind : fldOK [113] 0 "LazyForge$Raw" "kind" "I" .int true = true := by decide +kernel
theorem cf_X13_place : fldOK [113] 1 "LazyForge$Raw" "place" "I" .int true = true := by decide +kernel
theorem cf_X13_op : fldOK [113] 2 "LazyForge$Raw" "op" "I" .int false = true := by decide +kernel
theorem cf_X13_number : fldOK [113] 3 "LazyForge$Raw" "number" "I" .int false = true := by decide +kernel
theorem cf_X13_name : fldOK [113] 4 "LazyForge$Raw" "name" "J" .long false = true := by decide +kernel
theorem cf_X13_names : fldOK [113] 5 "LazyForge$Raw" "names" "[J" (.array .long) false = true := by decide +kernel
theorem cf_X13_kids : fldOK [113] 6 "LazyForge$Raw" "kids" "[LLazyForge$Raw;" (.array (.object "LazyForge$Raw")) false = true := by decide +kernel
theorem cf_X13_patterns : fldOK [113] 7 "LazyForge$Raw" "patterns" "[I" (.array .int) false = true := by decide +kernel
theorem cf_X13_numbers : fldOK [113] 8 "LazyForge$Raw" "numbers" "[I" (.array .int) false = true := by decide +kernel
theorem cf_X13_bound : fldOK [113] 9 "LazyForge$Raw" "bound" "[[J" (.array (.array .long)) false = true := by decide +kernel
theorem cf_X14_text : fldOK [114] 0 "LazyForge$Resolver" "text" "LLazyForge$Reader;" (.object "LazyForge$Reader") true = true := by decide +kernel
theorem cf_X14_program : fldOK [114] 1 "LazyForge$Resolver" "program" "LLazyForge$Program;" (.object "LazyForge$Program") true = true := by decide +kernel
theorem cf_X14_names : fldOK [114] 2 "LazyForge$Resolver" "names" "[J" (.array .long) false = true := by decide +kernel
theorem cf_X14_variables : fldOK [114] 3 "LazyForge$Resolver" "variables" "[LLazyForge$Variable;" (.array (.object "LazyForge$Variable")) false = true := by decide +kernel
theorem cf_X14_seen : fldOK [114] 4 "LazyForge$Resolver" "seen" "I" .int false = true := by decide +kernel
theorem cf_X14_uses : fldOK [114] 5 "LazyForge$Resolver" "uses" "Ljava/util/ArrayList;" (.object "java/util/ArrayList") true = true := by decide +kernel
theorem cf_X14_kind : fldOK [114] 6 "LazyForge$Resolver" "kind" "I" .int false = true := by decide +kernel
theorem cf_X14_place : fldOK [114] 7 "LazyForge$Resolver" "place" "I" .int false = true := by decide +kernel
theorem cf_X15_functions : fldOK [115] 0 "LazyForge$Program" "functions" "Ljava/util/ArrayList;" (.object "java/util/ArrayList") true = true := by decide +kernel
theorem cf_X15_suspended : fldOK [115] 1 "LazyForge$Program" "suspended" "Ljava/util/ArrayList;" (.object "java/util/ArrayList") true = true := by decide +kernel
theorem cf_X15_some : fldOK [115] 2 "LazyForge$Program" "some" "[Z" (.array .boolean) true = true := by decide +kernel
theorem cf_X15_main : fldOK [115] 3 "LazyForge$Program" "main" "I" .int false = true := by decide +kernel
theorem cf_X15_parts : fldOK [115] 4 "LazyForge$Program" "parts" "I" .int false = true := by decide +kernel
theorem cf_X15_constructors : fldOK [115] 5 "LazyForge$Program" "constructors" "[J" (.array .long) false = true := by decide +kernel
theorem cf_X15_fields : fldOK [115] 6 "LazyForge$Program" "fields" "[I" (.array .int) false = true := by decide +kernel
theorem cf_X15_constructorCount : fldOK [115] 7 "LazyForge$Program" "constructorCount" "I" .int false = true := by decide +kernel
theorem cf_X16_number : fldOK [116] 0 "LazyForge$Function" "number" "I" .int true = true := by decide +kernel
theorem cf_X16_place : fldOK [116] 1 "LazyForge$Function" "place" "I" .int true = true := by decide +kernel
theorem cf_X16_around : fldOK [116] 2 "LazyForge$Function" "around" "LLazyForge$Function;" (.object "LazyForge$Function") true = true := by decide +kernel
theorem cf_X16_own : fldOK [116] 3 "LazyForge$Function" "own" "[LLazyForge$Variable;" (.array (.object "LazyForge$Variable")) false = true := by decide +kernel
theorem cf_X16_free : fldOK [116] 4 "LazyForge$Function" "free" "Ljava/util/ArrayList;" (.object "java/util/ArrayList") true = true := by decide +kernel
theorem cf_X16_locals : fldOK [116] 5 "LazyForge$Function" "locals" "Ljava/util/ArrayList;" (.object "java/util/ArrayList") true = true := by decide +kernel
theorem cf_X16_body : fldOK [116] 6 "LazyForge$Function" "body" "LLazyForge$Part;" (.object "LazyForge$Part") false = true := by decide +kernel
theorem cf_X16_needed : fldOK [116] 7 "LazyForge$Function" "needed" "I" .int false = true := by decide +kernel
theorem cf_X16_table : fldOK [116] 8 "LazyForge$Function" "table" "[J" (.array .long) false = true := by decide +kernel
theorem cf_X16_needs : fldOK [116] 9 "LazyForge$Function" "needs" "I" .int false = true := by decide +kernel
theorem cf_X16_calls : fldOK [116] 10 "LazyForge$Function" "calls" "I" .int false = true := by decide +kernel
theorem cf_X17_owner : fldOK [117] 0 "LazyForge$Variable" "owner" "LLazyForge$Function;" (.object "LazyForge$Function") true = true := by decide +kernel
theorem cf_X17_number : fldOK [117] 1 "LazyForge$Variable" "number" "I" .int false = true := by decide +kernel
theorem cf_X18_names : fldOK [118] 5 "LazyForge$Let" "names" "[LLazyForge$Variable;" (.array (.object "LazyForge$Variable")) true = true := by decide +kernel
theorem cf_X18_bound : fldOK [118] 6 "LazyForge$Let" "bound" "[LLazyForge$Part;" (.array (.object "LazyForge$Part")) true = true := by decide +kernel
theorem cf_X18_body : fldOK [118] 7 "LazyForge$Let" "body" "LLazyForge$Part;" (.object "LazyForge$Part") true = true := by decide +kernel
theorem cf_X18_needed : fldOK [118] 8 "LazyForge$Let" "needed" "Z" .boolean false = true := by decide +kernel
theorem cf_X19_function : fldOK [119] 5 "LazyForge$Named" "function" "LLazyForge$Function;" (.object "LazyForge$Function") true = true := by decide +kernel
theorem cf_X2_signs : fldOK [102] 0 "LazyForge$Writer" "signs" "[C" (.array .char) true = true := by decide +kernel
theorem cf_X2_size : fldOK [102] 1 "LazyForge$Writer" "size" "I" .int false = true := by decide +kernel
theorem cf_X2_program : fldOK [102] 2 "LazyForge$Writer" "program" "LLazyForge$Program;" (.object "LazyForge$Program") false = true := by decide +kernel
theorem cf_X20_variable : fldOK [120] 5 "LazyForge$Use" "variable" "LLazyForge$Variable;" (.object "LazyForge$Variable") true = true := by decide +kernel
theorem cf_X20_in : fldOK [120] 6 "LazyForge$Use" "in" "LLazyForge$Function;" (.object "LazyForge$Function") true = true := by decide +kernel
theorem cf_X20_number0 : fldOK [120] 7 "LazyForge$Use" "number0" "I" .int false = true := by decide +kernel
theorem cf_X21_head : fldOK [121] 5 "LazyForge$Apply" "head" "LLazyForge$Part;" (.object "LazyForge$Part") true = true := by decide +kernel
theorem cf_X21_arguments : fldOK [121] 6 "LazyForge$Apply" "arguments" "[LLazyForge$Part;" (.array (.object "LazyForge$Part")) true = true := by decide +kernel
theorem cf_X22_of : fldOK [122] 5 "LazyForge$Case" "of" "LLazyForge$Part;" (.object "LazyForge$Part") true = true := by decide +kernel
theorem cf_X22_patterns : fldOK [122] 6 "LazyForge$Case" "patterns" "[I" (.array .int) true = true := by decide +kernel
theorem cf_X22_numbers : fldOK [122] 7 "LazyForge$Case" "numbers" "[I" (.array .int) true = true := by decide +kernel
theorem cf_X22_bound : fldOK [122] 8 "LazyForge$Case" "bound" "[[LLazyForge$Variable;" (.array (.array (.object "LazyForge$Variable"))) true = true := by decide +kernel
theorem cf_X22_parts0 : fldOK [122] 9 "LazyForge$Case" "parts0" "[LLazyForge$Part;" (.array (.object "LazyForge$Part")) true = true := by decide +kernel
theorem cf_X23_op : fldOK [123] 5 "LazyForge$Sign" "op" "I" .int true = true := by decide +kernel
theorem cf_X23_one : fldOK [123] 6 "LazyForge$Sign" "one" "LLazyForge$Part;" (.object "LazyForge$Part") true = true := by decide +kernel
theorem cf_X23_two : fldOK [123] 7 "LazyForge$Sign" "two" "LLazyForge$Part;" (.object "LazyForge$Part") true = true := by decide +kernel
theorem cf_X24_value : fldOK [124] 5 "LazyForge$Literal" "value" "J" .long true = true := by decide +kernel
theorem cf_X25_constructor : fldOK [125] 5 "LazyForge$Made" "constructor" "I" .int true = true := by decide +kernel
theorem cf_X25_fields : fldOK [125] 6 "LazyForge$Made" "fields" "[LLazyForge$Part;" (.array (.object "LazyForge$Part")) true = true := by decide +kernel
theorem cf_X3_update : fldOK [103] 0 "LazyForge$Machine" "update" "LLazyForge$Part;" (.object "LazyForge$Part") true = true := by decide +kernel
theorem cf_X3_leaving : fldOK [103] 1 "LazyForge$Machine" "leaving" "LLazyForge$Part;" (.object "LazyForge$Part") true = true := by decide +kernel
theorem cf_X3_applied : fldOK [103] 2 "LazyForge$Machine" "applied" "LLazyForge$Part;" (.object "LazyForge$Part") true = true := by decide +kernel
theorem cf_X3_entering : fldOK [103] 3 "LazyForge$Machine" "entering" "LLazyForge$Part;" (.object "LazyForge$Part") true = true := by decide +kernel
theorem cf_X3_forcing : fldOK [103] 4 "LazyForge$Machine" "forcing" "LLazyForge$Part;" (.object "LazyForge$Part") true = true := by decide +kernel
theorem cf_X3_cells : fldOK [103] 5 "LazyForge$Machine" "cells" "[J" (.array .long) true = true := by decide +kernel
theorem cf_X3_waiting : fldOK [103] 6 "LazyForge$Machine" "waiting" "[LLazyForge$Part;" (.array (.object "LazyForge$Part")) false = true := by decide +kernel
theorem cf_X3_states : fldOK [103] 7 "LazyForge$Machine" "states" "[I" (.array .int) false = true := by decide +kernel
theorem cf_X3_waits : fldOK [103] 8 "LazyForge$Machine" "waits" "I" .int false = true := by decide +kernel
theorem cf_X3_values : fldOK [103] 9 "LazyForge$Machine" "values" "[J" (.array .long) false = true := by decide +kernel
theorem cf_X3_has : fldOK [103] 10 "LazyForge$Machine" "has" "I" .int false = true := by decide +kernel
theorem cf_X3_slots : fldOK [103] 11 "LazyForge$Machine" "slots" "[J" (.array .long) false = true := by decide +kernel
theorem cf_X3_base : fldOK [103] 12 "LazyForge$Machine" "base" "I" .int false = true := by decide +kernel
theorem cf_X3_top : fldOK [103] 13 "LazyForge$Machine" "top" "I" .int false = true := by decide +kernel
theorem cf_X3_bases : fldOK [103] 14 "LazyForge$Machine" "bases" "[I" (.array .int) false = true := by decide +kernel
theorem cf_X3_frames : fldOK [103] 15 "LazyForge$Machine" "frames" "I" .int false = true := by decide +kernel
theorem cf_X3_program : fldOK [103] 16 "LazyForge$Machine" "program" "LLazyForge$Program;" (.object "LazyForge$Program") false = true := by decide +kernel
theorem cf_X3_isEager : fldOK [103] 17 "LazyForge$Machine" "isEager" "Z" .boolean false = true := by decide +kernel
theorem cf_X3_most : fldOK [103] 18 "LazyForge$Machine" "most" "I" .int false = true := by decide +kernel
theorem cf_X3_wholes : fldOK [103] 19 "LazyForge$Machine" "wholes" "[J" (.array .long) true = true := by decide +kernel
theorem cf_X3_row : fldOK [103] 20 "LazyForge$Machine" "row" "[I" (.array .int) true = true := by decide +kernel
theorem cf_X3_rowSize : fldOK [103] 21 "LazyForge$Machine" "rowSize" "I" .int false = true := by decide +kernel
theorem cf_X3_ends : fldOK [103] 22 "LazyForge$Machine" "ends" "I" .int false = true := by decide +kernel
theorem cf_X3_why : fldOK [103] 23 "LazyForge$Machine" "why" "I" .int false = true := by decide +kernel
theorem cf_X3_calls : fldOK [103] 24 "LazyForge$Machine" "calls" "I" .int false = true := by decide +kernel
theorem cf_X3_used : fldOK [103] 25 "LazyForge$Machine" "used" "I" .int false = true := by decide +kernel
theorem cf_X3_suspensions : fldOK [103] 26 "LazyForge$Machine" "suspensions" "I" .int false = true := by decide +kernel
theorem cf_X3_partsOfCalls : fldOK [103] 27 "LazyForge$Machine" "partsOfCalls" "I" .int false = true := by decide +kernel
theorem cf_X3_objects : fldOK [103] 28 "LazyForge$Machine" "objects" "I" .int false = true := by decide +kernel
theorem cf_X3_updates : fldOK [103] 29 "LazyForge$Machine" "updates" "I" .int false = true := by decide +kernel
theorem cf_X3_atOnce : fldOK [103] 30 "LazyForge$Machine" "atOnce" "I" .int false = true := by decide +kernel
theorem cf_J12_modCount : fldOK [127] 0 "java/util/AbstractList" "modCount" "I" .int false = true := by decide +kernel
theorem cf_J13_elementData : fldOK [127] 1 "java/util/ArrayList" "elementData" "[Ljava/lang/Object;" (.array (.object "java/lang/Object")) false = true := by decide +kernel
theorem cf_J13_size : fldOK [127] 2 "java/util/ArrayList" "size" "I" .int false = true := by decide +kernel
theorem cf_J0_cause : fldOK [128, 129, 130, 131] 0 "java/lang/Throwable" "cause" "Ljava/lang/Throwable;" (.object "java/lang/Throwable") false = true := by decide +kernel
theorem cf_J0_stackTrace : fldOK [128, 129, 130, 131] 1 "java/lang/Throwable" "stackTrace" "[Ljava/lang/StackTraceElement;" (.array (.object "java/lang/StackTraceElement")) false = true := by decide +kernel
theorem cf_J0_suppressedExceptions : fldOK [128, 129, 130, 131] 2 "java/lang/Throwable" "suppressedExceptions" "Ljava/util/List;" (.object "java/util/List") false = true := by decide +kernel
theorem cf_J0_detailMessage : fldOK [128, 129, 130, 131] 3 "java/lang/Throwable" "detailMessage" "Ljava/lang/String;" (.object "java/lang/String") false = true := by decide +kernel
theorem cf_J0_backtrace : fldOK [128, 129, 130, 131] 4 "java/lang/Throwable" "backtrace" "Ljava/lang/Object;" (.object "java/lang/Object") false = true := by decide +kernel
theorem cf_J0_depth : fldOK [128, 129, 130, 131] 5 "java/lang/Throwable" "depth" "I" .int false = true := by decide +kernel
theorem mk_1 : mk_ok 1 "LazyForge" := ⟨_, rfl, rfl, (lw_all_tbl q211), (lw_all_tbl q163), by decide +kernel⟩
theorem mk_2 : mk_ok 2 "LazyForge$Writer" := ⟨_, rfl, rfl, (lw_all_tbl q219), (lw_all_tbl q164), by decide +kernel⟩
theorem mk_3 : mk_ok 3 "LazyForge$Machine" := ⟨_, rfl, rfl, (lw_all_tbl q238), (lw_all_tbl q165), by decide +kernel⟩
theorem mk_6 : mk_ok 6 "LazyForge$Update" := ⟨_, rfl, rfl, (lw_all_tbl q244), (lw_all_tbl q168), by decide +kernel⟩
theorem mk_7 : mk_ok 7 "LazyForge$Leave" := ⟨_, rfl, rfl, (lw_all_tbl q279), (lw_all_tbl q169), by decide +kernel⟩
theorem mk_8 : mk_ok 8 "LazyForge$Applied" := ⟨_, rfl, rfl, (lw_all_tbl q291), (lw_all_tbl q170), by decide +kernel⟩
theorem mk_9 : mk_ok 9 "LazyForge$Enter" := ⟨_, rfl, rfl, (lw_all_tbl q303), (lw_all_tbl q171), by decide +kernel⟩
theorem mk_10 : mk_ok 10 "LazyForge$Force" := ⟨_, rfl, rfl, (lw_all_tbl q315), (lw_all_tbl q172), by decide +kernel⟩
theorem mk_12 : mk_ok 12 "LazyForge$Reader" := ⟨_, rfl, rfl, (lw_all_tbl q587), (lw_all_tbl q180), by decide +kernel⟩
theorem mk_13 : mk_ok 13 "LazyForge$Raw" := ⟨_, rfl, rfl, (lw_all_tbl q891), (lw_all_tbl q187), by decide +kernel⟩
theorem mk_14 : mk_ok 14 "LazyForge$Resolver" := ⟨_, rfl, rfl, (lw_all_tbl q1019), (lw_all_tbl q188), by decide +kernel⟩
theorem mk_15 : mk_ok 15 "LazyForge$Program" := ⟨_, rfl, rfl, (lw_all_tbl q1025), (lw_all_tbl q189), by decide +kernel⟩
theorem mk_16 : mk_ok 16 "LazyForge$Function" := ⟨_, rfl, rfl, (lw_all_tbl q1136), (lw_all_tbl q193), by decide +kernel⟩
theorem mk_17 : mk_ok 17 "LazyForge$Variable" := ⟨_, rfl, rfl, (lw_all_tbl q1282), (lw_all_tbl q197), by decide +kernel⟩
theorem mk_18 : mk_ok 18 "LazyForge$Let" := ⟨_, rfl, rfl, (lw_all_tbl q1323), (lw_all_tbl q198), by decide +kernel⟩
theorem mk_19 : mk_ok 19 "LazyForge$Named" := ⟨_, rfl, rfl, (lw_all_tbl q1362), (lw_all_tbl q199), by decide +kernel⟩
theorem mk_20 : mk_ok 20 "LazyForge$Use" := ⟨_, rfl, rfl, (lw_all_tbl q1439), (lw_all_tbl q200), by decide +kernel⟩
theorem mk_21 : mk_ok 21 "LazyForge$Apply" := ⟨_, rfl, rfl, (lw_all_tbl q1460), (lw_all_tbl q201), by decide +kernel⟩
theorem mk_22 : mk_ok 22 "LazyForge$Case" := ⟨_, rfl, rfl, (lw_all_tbl q1487), (lw_all_tbl q202), by decide +kernel⟩
theorem mk_23 : mk_ok 23 "LazyForge$Sign" := ⟨_, rfl, rfl, (lw_all_tbl q1517), (lw_all_tbl q203), by decide +kernel⟩
theorem mk_24 : mk_ok 24 "LazyForge$Literal" := ⟨_, rfl, rfl, (lw_all_tbl q1541), (lw_all_tbl q204), by decide +kernel⟩
theorem mk_25 : mk_ok 25 "LazyForge$Made" := ⟨_, rfl, rfl, (lw_all_tbl q1560), (lw_all_tbl q205), by decide +kernel⟩
theorem mk_26 : mk_ok 26 "LazyForge$Fail" := ⟨_, rfl, rfl, (lw_all_tbl q1593), (lw_all_tbl q206), by decide +kernel⟩
theorem mk_27 : mk_ok 27 "java/util/ArrayList" := ⟨_, rfl, rfl, (lw_all_tbl q1031), (lw_all_tbl q192), by decide +kernel⟩
theorem mk_28 : mk_ok 28 "java/lang/IllegalArgumentException" := ⟨_, rfl, rfl, (lw_all_tbl q492), (lw_all_tbl q177), by decide +kernel⟩
theorem mk_29 : mk_ok 29 "java/lang/UnsupportedOperationException" := ⟨_, rfl, rfl, (lw_all_tbl q558), (lw_all_tbl q178), by decide +kernel⟩
theorem mk_30 : mk_ok 30 "java/lang/IllegalStateException" := ⟨_, rfl, rfl, (lw_all_tbl q1914), (lw_all_tbl q207), by decide +kernel⟩
theorem mk_31 : mk_ok 31 "java/lang/IndexOutOfBoundsException" := ⟨_, rfl, rfl, (lw_all_tbl q2098), (lw_all_tbl q208), by decide +kernel⟩
theorem ao_5 : Cond.arrayOver (aty 5) ∈ lw_tbl := q327
theorem as_5 {Γ : Gm} {own : String} {cc : ByteArray} {nL : Nat} {ret : Option FieldType} {d : Nat} (o : Ok Γ own cc nL ret d) : ∀ q ∈ alw 5, asg Γ 5 q ∧ q ≠ 99 := asgL_at (show asgL Γ 5 [106, 107, 108, 109, 110, 118, 119, 120, 121, 122, 123, 124, 125, 126] from ⟨⟨asg_o o (c := 6) (by decide) rfl rfl (Or.inr q3483), by decide⟩, ⟨⟨asg_o o (c := 7) (by decide) rfl rfl (Or.inr q3477), by decide⟩, ⟨⟨asg_o o (c := 8) (by decide) rfl rfl (Or.inr q3471), by decide⟩, ⟨⟨asg_o o (c := 9) (by decide) rfl rfl (Or.inr q3474), by decide⟩, ⟨⟨asg_o o (c := 10) (by decide) rfl rfl (Or.inr q3476), by decide⟩, ⟨⟨asg_o o (c := 18) (by decide) rfl rfl (Or.inr q3478), by decide⟩, ⟨⟨asg_o o (c := 19) (by decide) rfl rfl (Or.inr q3481), by decide⟩, ⟨⟨asg_o o (c := 20) (by decide) rfl rfl (Or.inr q3484), by decide⟩, ⟨⟨asg_o o (c := 21) (by decide) rfl rfl (Or.inr q3472), by decide⟩, ⟨⟨asg_o o (c := 22) (by decide) rfl rfl (Or.inr q3473), by decide⟩, ⟨⟨asg_o o (c := 23) (by decide) rfl rfl (Or.inr q3482), by decide⟩, ⟨⟨asg_o o (c := 24) (by decide) rfl rfl (Or.inr q3479), by decide⟩, ⟨⟨asg_o o (c := 25) (by decide) rfl rfl (Or.inr q3480), by decide⟩, ⟨⟨asg_o o (c := 26) (by decide) rfl rfl (Or.inr q3475), by decide⟩, trivial⟩⟩⟩⟩⟩⟩⟩⟩⟩⟩⟩⟩⟩⟩)
theorem ao_6 : Cond.arrayOver (aty 6) ∈ lw_tbl := q595
theorem as_6 {Γ : Gm} {own : String} {cc : ByteArray} {nL : Nat} {ret : Option FieldType} {d : Nat} (o : Ok Γ own cc nL ret d) : ∀ q ∈ alw 6, asg Γ 6 q ∧ q ≠ 99 := asgL_at (show asgL Γ 6 [113] from ⟨⟨asg_o o (c := 13) (by decide) rfl rfl (Or.inl rfl), by decide⟩, trivial⟩)
theorem ao_7 : Cond.arrayOver (aty 7) ∈ lw_tbl := q1101
theorem as_7 {Γ : Gm} {own : String} {cc : ByteArray} {nL : Nat} {ret : Option FieldType} {d : Nat} (o : Ok Γ own cc nL ret d) : ∀ q ∈ alw 7, asg Γ 7 q ∧ q ≠ 99 := asgL_at (show asgL Γ 7 [117] from ⟨⟨asg_o o (c := 17) (by decide) rfl rfl (Or.inl rfl), by decide⟩, trivial⟩)
theorem ao_8 : Cond.arrayOver (aty 8) ∈ lw_tbl := q593
theorem as_8 {Γ : Gm} {own : String} {cc : ByteArray} {nL : Nat} {ret : Option FieldType} {d : Nat} (o : Ok Γ own cc nL ret d) : ∀ q ∈ alw 8, asg Γ 8 q ∧ q ≠ 99 := asgL_at (show asgL Γ 8 [1] from ⟨⟨asg_a o (by decide) rfl (by decide) (by decide +kernel) ao_8, by decide⟩, trivial⟩)
theorem ao_9 : Cond.arrayOver (aty 9) ∈ lw_tbl := q1485
theorem as_9 {Γ : Gm} {own : String} {cc : ByteArray} {nL : Nat} {ret : Option FieldType} {d : Nat} (o : Ok Γ own cc nL ret d) : ∀ q ∈ alw 9, asg Γ 9 q ∧ q ≠ 99 := asgL_at (show asgL Γ 9 [7] from ⟨⟨asg_a o (by decide) rfl (by decide) (by decide +kernel) ao_9, by decide⟩, trivial⟩)
theorem ao_10 : Cond.arrayOver (aty 10) ∈ lw_tbl := q1258
theorem as_10 {Γ : Gm} {own : String} {cc : ByteArray} {nL : Nat} {ret : Option FieldType} {d : Nat} (o : Ok Γ own cc nL ret d) : ∀ q ∈ alw 10, asg Γ 10 q ∧ q ≠ 99 := asgL_at (show asgL Γ 10 [116, 117, 106, 107, 108, 109, 110, 118, 119, 120, 121, 122, 123, 124, 125, 126] from ⟨⟨asg_o o (c := 16) (by decide) rfl rfl (Or.inr q3507), by decide⟩, ⟨⟨asg_o o (c := 17) (by decide) rfl rfl (Or.inr q3508), by decide⟩, ⟨⟨asg_o o (c := 6) (by decide) rfl rfl (Or.inr q3494), by decide⟩, ⟨⟨asg_o o (c := 7) (by decide) rfl rfl (Or.inr q3495), by decide⟩, ⟨⟨asg_o o (c := 8) (by decide) rfl rfl (Or.inr q3496), by decide⟩, ⟨⟨asg_o o (c := 9) (by decide) rfl rfl (Or.inr q3497), by decide⟩, ⟨⟨asg_o o (c := 10) (by decide) rfl rfl (Or.inr q3498), by decide⟩, ⟨⟨asg_o o (c := 18) (by decide) rfl rfl (Or.inr q3509), by decide⟩, ⟨⟨asg_o o (c := 19) (by decide) rfl rfl (Or.inr q3510), by decide⟩, ⟨⟨asg_o o (c := 20) (by decide) rfl rfl (Or.inr q3511), by decide⟩, ⟨⟨asg_o o (c := 21) (by decide) rfl rfl (Or.inr q3512), by decide⟩, ⟨⟨asg_o o (c := 22) (by decide) rfl rfl (Or.inr q3513), by decide⟩, ⟨⟨asg_o o (c := 23) (by decide) rfl rfl (Or.inr q3514), by decide⟩, ⟨⟨asg_o o (c := 24) (by decide) rfl rfl (Or.inr q3515), by decide⟩, ⟨⟨asg_o o (c := 25) (by decide) rfl rfl (Or.inr q3516), by decide⟩, ⟨⟨asg_o o (c := 26) (by decide) rfl rfl (Or.inr q3517), by decide⟩, trivial⟩⟩⟩⟩⟩⟩⟩⟩⟩⟩⟩⟩⟩⟩⟩⟩)
theorem cs_X16 {Γ : Gm} {own : String} {cc : ByteArray} {nL : Nat} {ret : Option FieldType} {d : Nat} (o : Ok Γ own cc nL ret d) : ∀ q ∈ [116], cst Γ q "LazyForge$Function" := cstL_at (show cstL Γ "LazyForge$Function" [116] from ⟨(cst_o o (c := 16) rfl (Or.inl rfl)), trivial⟩)
theorem cs_X20 {Γ : Gm} {own : String} {cc : ByteArray} {nL : Nat} {ret : Option FieldType} {d : Nat} (o : Ok Γ own cc nL ret d) : ∀ q ∈ [120], cst Γ q "LazyForge$Use" := cstL_at (show cstL Γ "LazyForge$Use" [120] from ⟨(cst_o o (c := 20) rfl (Or.inl rfl)), trivial⟩)
theorem cs_X17 {Γ : Gm} {own : String} {cc : ByteArray} {nL : Nat} {ret : Option FieldType} {d : Nat} (o : Ok Γ own cc nL ret d) : ∀ q ∈ [117], cst Γ q "LazyForge$Variable" := cstL_at (show cstL Γ "LazyForge$Variable" [117] from ⟨(cst_o o (c := 17) rfl (Or.inl rfl)), trivial⟩)
theorem cs_X25 {Γ : Gm} {own : String} {cc : ByteArray} {nL : Nat} {ret : Option FieldType} {d : Nat} (o : Ok Γ own cc nL ret d) : ∀ q ∈ [125], cst Γ q "LazyForge$Made" := cstL_at (show cstL Γ "LazyForge$Made" [125] from ⟨(cst_o o (c := 25) rfl (Or.inl rfl)), trivial⟩)
theorem cs_X21 {Γ : Gm} {own : String} {cc : ByteArray} {nL : Nat} {ret : Option FieldType} {d : Nat} (o : Ok Γ own cc nL ret d) : ∀ q ∈ [121], cst Γ q "LazyForge$Apply" := cstL_at (show cstL Γ "LazyForge$Apply" [121] from ⟨(cst_o o (c := 21) rfl (Or.inl rfl)), trivial⟩)
theorem cs_X19 {Γ : Gm} {own : String} {cc : ByteArray} {nL : Nat} {ret : Option FieldType} {d : Nat} (o : Ok Γ own cc nL ret d) : ∀ q ∈ [119], cst Γ q "LazyForge$Named" := cstL_at (show cstL Γ "LazyForge$Named" [119] from ⟨(cst_o o (c := 19) rfl (Or.inl rfl)), trivial⟩)
theorem cs_X4 {Γ : Gm} {own : String} {cc : ByteArray} {nL : Nat} {ret : Option FieldType} {d : Nat} (o : Ok Γ own cc nL ret d) : ∀ q ∈ [106, 107, 108, 109, 110, 118, 119, 120, 121, 122, 123, 124, 125, 126], cst Γ q "LazyForge$Part" := cstL_at (show cstL Γ "LazyForge$Part" [106, 107, 108, 109, 110, 118, 119, 120, 121, 122, 123, 124, 125, 126] from ⟨(cst_o o (c := 6) rfl (Or.inr q3483)), ⟨(cst_o o (c := 7) rfl (Or.inr q3477)), ⟨(cst_o o (c := 8) rfl (Or.inr q3471)), ⟨(cst_o o (c := 9) rfl (Or.inr q3474)), ⟨(cst_o o (c := 10) rfl (Or.inr q3476)), ⟨(cst_o o (c := 18) rfl (Or.inr q3478)), ⟨(cst_o o (c := 19) rfl (Or.inr q3481)), ⟨(cst_o o (c := 20) rfl (Or.inr q3484)), ⟨(cst_o o (c := 21) rfl (Or.inr q3472)), ⟨(cst_o o (c := 22) rfl (Or.inr q3473)), ⟨(cst_o o (c := 23) rfl (Or.inr q3482)), ⟨(cst_o o (c := 24) rfl (Or.inr q3479)), ⟨(cst_o o (c := 25) rfl (Or.inr q3480)), ⟨(cst_o o (c := 26) rfl (Or.inr q3475)), trivial⟩⟩⟩⟩⟩⟩⟩⟩⟩⟩⟩⟩⟩⟩)
theorem is_X24 {Γ : Gm} {own : String} {cc : ByteArray} {nL : Nat} {ret : Option FieldType} {d : Nat} (o : Ok Γ own cc nL ret d) : ∀ q ∈ [118, 119, 120, 121, 122, 123, 124, 125, 126], (q = 124 → cst Γ q "LazyForge$Literal") ∧ (q ≠ 124 → nct Γ q "LazyForge$Literal") := insL_at (show insL Γ 124 "LazyForge$Literal" [118, 119, 120, 121, 122, 123, 124, 125, 126] from ⟨ins_n rfl (nct_o o (c := 18) rfl (by decide +kernel)), ⟨ins_n rfl (nct_o o (c := 19) rfl (by decide +kernel)), ⟨ins_n rfl (nct_o o (c := 20) rfl (by decide +kernel)), ⟨ins_n rfl (nct_o o (c := 21) rfl (by decide +kernel)), ⟨ins_n rfl (nct_o o (c := 22) rfl (by decide +kernel)), ⟨ins_n rfl (nct_o o (c := 23) rfl (by decide +kernel)), ⟨ins_y (cst_o o (c := 24) rfl (Or.inl rfl)), ⟨ins_n rfl (nct_o o (c := 25) rfl (by decide +kernel)), ⟨ins_n rfl (nct_o o (c := 26) rfl (by decide +kernel)), trivial⟩⟩⟩⟩⟩⟩⟩⟩⟩)
theorem is_X19 {Γ : Gm} {own : String} {cc : ByteArray} {nL : Nat} {ret : Option FieldType} {d : Nat} (o : Ok Γ own cc nL ret d) : ∀ q ∈ [118, 119, 120, 121, 122, 123, 124, 125, 126], (q = 119 → cst Γ q "LazyForge$Named") ∧ (q ≠ 119 → nct Γ q "LazyForge$Named") := insL_at (show insL Γ 119 "LazyForge$Named" [118, 119, 120, 121, 122, 123, 124, 125, 126] from ⟨ins_n rfl (nct_o o (c := 18) rfl (by decide +kernel)), ⟨ins_y (cst_o o (c := 19) rfl (Or.inl rfl)), ⟨ins_n rfl (nct_o o (c := 20) rfl (by decide +kernel)), ⟨ins_n rfl (nct_o o (c := 21) rfl (by decide +kernel)), ⟨ins_n rfl (nct_o o (c := 22) rfl (by decide +kernel)), ⟨ins_n rfl (nct_o o (c := 23) rfl (by decide +kernel)), ⟨ins_n rfl (nct_o o (c := 24) rfl (by decide +kernel)), ⟨ins_n rfl (nct_o o (c := 25) rfl (by decide +kernel)), ⟨ins_n rfl (nct_o o (c := 26) rfl (by decide +kernel)), trivial⟩⟩⟩⟩⟩⟩⟩⟩⟩)
theorem is_X25 {Γ : Gm} {own : String} {cc : ByteArray} {nL : Nat} {ret : Option FieldType} {d : Nat} (o : Ok Γ own cc nL ret d) : ∀ q ∈ [118, 119, 120, 121, 122, 123, 124, 125, 126], (q = 125 → cst Γ q "LazyForge$Made") ∧ (q ≠ 125 → nct Γ q "LazyForge$Made") := insL_at (show insL Γ 125 "LazyForge$Made" [118, 119, 120, 121, 122, 123, 124, 125, 126] from ⟨ins_n rfl (nct_o o (c := 18) rfl (by decide +kernel)), ⟨ins_n rfl (nct_o o (c := 19) rfl (by decide +kernel)), ⟨ins_n rfl (nct_o o (c := 20) rfl (by decide +kernel)), ⟨ins_n rfl (nct_o o (c := 21) rfl (by decide +kernel)), ⟨ins_n rfl (nct_o o (c := 22) rfl (by decide +kernel)), ⟨ins_n rfl (nct_o o (c := 23) rfl (by decide +kernel)), ⟨ins_n rfl (nct_o o (c := 24) rfl (by decide +kernel)), ⟨ins_y (cst_o o (c := 25) rfl (Or.inl rfl)), ⟨ins_n rfl (nct_o o (c := 26) rfl (by decide +kernel)), trivial⟩⟩⟩⟩⟩⟩⟩⟩⟩)
theorem is_X21 {Γ : Gm} {own : String} {cc : ByteArray} {nL : Nat} {ret : Option FieldType} {d : Nat} (o : Ok Γ own cc nL ret d) : ∀ q ∈ [118, 119, 120, 121, 122, 123, 124, 125, 126], (q = 121 → cst Γ q "LazyForge$Apply") ∧ (q ≠ 121 → nct Γ q "LazyForge$Apply") := insL_at (show insL Γ 121 "LazyForge$Apply" [118, 119, 120, 121, 122, 123, 124, 125, 126] from ⟨ins_n rfl (nct_o o (c := 18) rfl (by decide +kernel)), ⟨ins_n rfl (nct_o o (c := 19) rfl (by decide +kernel)), ⟨ins_n rfl (nct_o o (c := 20) rfl (by decide +kernel)), ⟨ins_y (cst_o o (c := 21) rfl (Or.inl rfl)), ⟨ins_n rfl (nct_o o (c := 22) rfl (by decide +kernel)), ⟨ins_n rfl (nct_o o (c := 23) rfl (by decide +kernel)), ⟨ins_n rfl (nct_o o (c := 24) rfl (by decide +kernel)), ⟨ins_n rfl (nct_o o (c := 25) rfl (by decide +kernel)), ⟨ins_n rfl (nct_o o (c := 26) rfl (by decide +kernel)), trivial⟩⟩⟩⟩⟩⟩⟩⟩⟩)
