/-! PRINTED: the beginning of the twin, in the heap of the component -/
set_option maxRecDepth 100000
theorem cf_X11_thrown : fldOK [111] 0 "LazyForgeModel" "thrown" "I" .int false = true := by decide +kernel
theorem cf_X11_text : fldOK [111] 1 "LazyForgeModel" "text" "[I" (.array .int) true = true := by decide +kernel
theorem cf_X11_size : fldOK [111] 2 "LazyForgeModel" "size" "I" .int false = true := by decide +kernel
theorem cf_X11_out : fldOK [111] 3 "LazyForgeModel" "out" "[I" (.array .int) true = true := by decide +kernel
theorem cf_X11_outSize : fldOK [111] 4 "LazyForgeModel" "outSize" "I" .int false = true := by decide +kernel
theorem cf_X11_at : fldOK [111] 5 "LazyForgeModel" "at" "I" .int false = true := by decide +kernel
theorem cf_X11_word : fldOK [111] 6 "LazyForgeModel" "word" "I" .int false = true := by decide +kernel
theorem cf_X11_wordPlace : fldOK [111] 7 "LazyForgeModel" "wordPlace" "I" .int false = true := by decide +kernel
theorem cf_X11_wordName : fldOK [111] 8 "LazyForgeModel" "wordName" "J" .long false = true := by decide +kernel
theorem cf_X11_wordNumber : fldOK [111] 9 "LazyForgeModel" "wordNumber" "I" .int false = true := by decide +kernel
theorem cf_X11_fault : fldOK [111] 10 "LazyForgeModel" "fault" "I" .int false = true := by decide +kernel
theorem cf_X11_faultPlace : fldOK [111] 11 "LazyForgeModel" "faultPlace" "I" .int false = true := by decide +kernel
theorem cf_X11_nodes : fldOK [111] 12 "LazyForgeModel" "nodes" "I" .int false = true := by decide +kernel
theorem cf_X11_kinds : fldOK [111] 13 "LazyForgeModel" "kinds" "[I" (.array .int) true = true := by decide +kernel
theorem cf_X11_firsts : fldOK [111] 14 "LazyForgeModel" "firsts" "[I" (.array .int) true = true := by decide +kernel
theorem cf_X11_seconds : fldOK [111] 15 "LazyForgeModel" "seconds" "[I" (.array .int) true = true := by decide +kernel
theorem cf_X11_nexts : fldOK [111] 16 "LazyForgeModel" "nexts" "[I" (.array .int) true = true := by decide +kernel
theorem cf_X11_places : fldOK [111] 17 "LazyForgeModel" "places" "[I" (.array .int) true = true := by decide +kernel
theorem cf_X11_values : fldOK [111] 18 "LazyForgeModel" "values" "[I" (.array .int) true = true := by decide +kernel
theorem cf_X11_sorts : fldOK [111] 19 "LazyForgeModel" "sorts" "[I" (.array .int) true = true := by decide +kernel
theorem cf_X11_nodeNames : fldOK [111] 20 "LazyForgeModel" "nodeNames" "[J" (.array .long) true = true := by decide +kernel
theorem cf_X11_giveBegins : fldOK [111] 21 "LazyForgeModel" "giveBegins" "[I" (.array .int) true = true := by decide +kernel
theorem cf_X11_giveCounts : fldOK [111] 22 "LazyForgeModel" "giveCounts" "[I" (.array .int) true = true := by decide +kernel
theorem cf_X11_gives : fldOK [111] 23 "LazyForgeModel" "gives" "I" .int false = true := by decide +kernel
theorem cf_X11_given : fldOK [111] 24 "LazyForgeModel" "given" "[J" (.array .long) true = true := by decide +kernel
theorem cf_X11_parts : fldOK [111] 25 "LazyForgeModel" "parts" "I" .int false = true := by decide +kernel
theorem cf_X11_allParts : fldOK [111] 26 "LazyForgeModel" "allParts" "I" .int false = true := by decide +kernel
theorem cf_X11_functions : fldOK [111] 27 "LazyForgeModel" "functions" "I" .int false = true := by decide +kernel
theorem cf_X11_functionNames : fldOK [111] 28 "LazyForgeModel" "functionNames" "[J" (.array .long) true = true := by decide +kernel
theorem cf_X11_functionPlaces : fldOK [111] 29 "LazyForgeModel" "functionPlaces" "[I" (.array .int) true = true := by decide +kernel
theorem cf_X11_functionNodes : fldOK [111] 30 "LazyForgeModel" "functionNodes" "[I" (.array .int) true = true := by decide +kernel
theorem cf_X11_constructors : fldOK [111] 31 "LazyForgeModel" "constructors" "I" .int false = true := by decide +kernel
theorem cf_X11_constructorNames : fldOK [111] 32 "LazyForgeModel" "constructorNames" "[J" (.array .long) true = true := by decide +kernel
theorem cf_X11_fieldCounts : fldOK [111] 33 "LazyForgeModel" "fieldCounts" "[I" (.array .int) true = true := by decide +kernel
theorem cf_X11_open : fldOK [111] 34 "LazyForgeModel" "open" "I" .int false = true := by decide +kernel
theorem cf_X11_piled : fldOK [111] 35 "LazyForgeModel" "piled" "I" .int false = true := by decide +kernel
theorem cf_X11_pileKinds : fldOK [111] 36 "LazyForgeModel" "pileKinds" "[I" (.array .int) true = true := by decide +kernel
theorem cf_X11_pileNodes : fldOK [111] 37 "LazyForgeModel" "pileNodes" "[I" (.array .int) true = true := by decide +kernel
theorem cf_X11_pileRanks : fldOK [111] 38 "LazyForgeModel" "pileRanks" "[I" (.array .int) true = true := by decide +kernel
theorem cf_X11_pileCounts : fldOK [111] 39 "LazyForgeModel" "pileCounts" "[I" (.array .int) true = true := by decide +kernel
theorem cf_X11_operands : fldOK [111] 40 "LazyForgeModel" "operands" "I" .int false = true := by decide +kernel
theorem cf_X11_operandNodes : fldOK [111] 41 "LazyForgeModel" "operandNodes" "[I" (.array .int) true = true := by decide +kernel
theorem cf_X11_startsE : fldOK [111] 42 "LazyForgeModel" "startsE" "Z" .boolean false = true := by decide +kernel
theorem cf_X11_wants : fldOK [111] 43 "LazyForgeModel" "wants" "Z" .boolean false = true := by decide +kernel
theorem cf_X11_isApplied : fldOK [111] 44 "LazyForgeModel" "isApplied" "Z" .boolean false = true := by decide +kernel
theorem cf_X11_isEnded : fldOK [111] 45 "LazyForgeModel" "isEnded" "Z" .boolean false = true := by decide +kernel
theorem cf_X11_named : fldOK [111] 46 "LazyForgeModel" "named" "I" .int false = true := by decide +kernel
theorem cf_X11_functionOf : fldOK [111] 47 "LazyForgeModel" "functionOf" "[I" (.array .int) true = true := by decide +kernel
theorem cf_X11_freeCounts : fldOK [111] 48 "LazyForgeModel" "freeCounts" "[I" (.array .int) true = true := by decide +kernel
theorem cf_X11_frees : fldOK [111] 49 "LazyForgeModel" "frees" "[I" (.array .int) true = true := by decide +kernel
theorem cf_X11_variables : fldOK [111] 50 "LazyForgeModel" "variables" "I" .int false = true := by decide +kernel
theorem cf_X11_homes : fldOK [111] 51 "LazyForgeModel" "homes" "[I" (.array .int) true = true := by decide +kernel
theorem cf_X11_owns : fldOK [111] 52 "LazyForgeModel" "owns" "[I" (.array .int) true = true := by decide +kernel
theorem cf_X11_ownCounts : fldOK [111] 53 "LazyForgeModel" "ownCounts" "[I" (.array .int) true = true := by decide +kernel
theorem cf_X11_firstVariables : fldOK [111] 54 "LazyForgeModel" "firstVariables" "[I" (.array .int) true = true := by decide +kernel
theorem cf_X11_seen : fldOK [111] 55 "LazyForgeModel" "seen" "I" .int false = true := by decide +kernel
theorem cf_X11_seenNames : fldOK [111] 56 "LazyForgeModel" "seenNames" "[J" (.array .long) true = true := by decide +kernel
theorem cf_X11_seenVariables : fldOK [111] 57 "LazyForgeModel" "seenVariables" "[I" (.array .int) true = true := by decide +kernel
theorem cf_X11_around : fldOK [111] 58 "LazyForgeModel" "around" "I" .int false = true := by decide +kernel
theorem cf_X11_arounds : fldOK [111] 59 "LazyForgeModel" "arounds" "[I" (.array .int) true = true := by decide +kernel
theorem cf_X11_walk : fldOK [111] 60 "LazyForgeModel" "walk" "[I" (.array .int) true = true := by decide +kernel
theorem cf_X11_walkStages : fldOK [111] 61 "LazyForgeModel" "walkStages" "[I" (.array .int) true = true := by decide +kernel
theorem cf_X11_walkChildren : fldOK [111] 62 "LazyForgeModel" "walkChildren" "[I" (.array .int) true = true := by decide +kernel
theorem cf_X11_lifted : fldOK [111] 63 "LazyForgeModel" "lifted" "I" .int false = true := by decide +kernel
theorem cf_X11_liftKinds : fldOK [111] 64 "LazyForgeModel" "liftKinds" "[I" (.array .int) true = true := by decide +kernel
theorem cf_X11_liftValues : fldOK [111] 65 "LazyForgeModel" "liftValues" "[I" (.array .int) true = true := by decide +kernel
theorem cf_X11_liftBegins : fldOK [111] 66 "LazyForgeModel" "liftBegins" "[I" (.array .int) true = true := by decide +kernel
theorem cf_X11_liftCounts : fldOK [111] 67 "LazyForgeModel" "liftCounts" "[I" (.array .int) true = true := by decide +kernel
theorem cf_X11_liftVariables : fldOK [111] 68 "LazyForgeModel" "liftVariables" "[I" (.array .int) true = true := by decide +kernel
theorem cf_X11_liftNeeds : fldOK [111] 69 "LazyForgeModel" "liftNeeds" "[Z" (.array .boolean) true = true := by decide +kernel
theorem cf_X11_heights : fldOK [111] 70 "LazyForgeModel" "heights" "[I" (.array .int) true = true := by decide +kernel
theorem cf_X11_liftFunctions : fldOK [111] 71 "LazyForgeModel" "liftFunctions" "[I" (.array .int) true = true := by decide +kernel
theorem cf_X11_outside : fldOK [111] 72 "LazyForgeModel" "outside" "[J" (.array .long) true = true := by decide +kernel
theorem cf_X11_childTop : fldOK [111] 73 "LazyForgeModel" "childTop" "I" .int false = true := by decide +kernel
theorem cf_X11_liftChildren : fldOK [111] 74 "LazyForgeModel" "liftChildren" "[I" (.array .int) true = true := by decide +kernel
theorem cf_X11_branchSorts : fldOK [111] 75 "LazyForgeModel" "branchSorts" "[I" (.array .int) true = true := by decide +kernel
theorem cf_X11_branchValues : fldOK [111] 76 "LazyForgeModel" "branchValues" "[I" (.array .int) true = true := by decide +kernel
theorem cf_X11_branchVariables : fldOK [111] 77 "LazyForgeModel" "branchVariables" "[I" (.array .int) true = true := by decide +kernel
theorem cf_X11_branchCounts : fldOK [111] 78 "LazyForgeModel" "branchCounts" "[I" (.array .int) true = true := by decide +kernel
theorem cf_X11_begins : fldOK [111] 79 "LazyForgeModel" "begins" "[I" (.array .int) true = true := by decide +kernel
theorem cf_X11_roots : fldOK [111] 80 "LazyForgeModel" "roots" "[I" (.array .int) true = true := by decide +kernel
theorem cf_X11_variableCounts : fldOK [111] 81 "LazyForgeModel" "variableCounts" "[I" (.array .int) true = true := by decide +kernel
theorem cf_X11_parameterCounts : fldOK [111] 82 "LazyForgeModel" "parameterCounts" "[I" (.array .int) true = true := by decide +kernel
theorem cf_X11_held : fldOK [111] 83 "LazyForgeModel" "held" "I" .int false = true := by decide +kernel
theorem cf_X11_heldNodes : fldOK [111] 84 "LazyForgeModel" "heldNodes" "[I" (.array .int) true = true := by decide +kernel
theorem cf_X11_tables : fldOK [111] 85 "LazyForgeModel" "tables" "[Z" (.array .boolean) true = true := by decide +kernel
theorem cf_X11_bitOf : fldOK [111] 86 "LazyForgeModel" "bitOf" "[Z" (.array .boolean) true = true := by decide +kernel
theorem cf_X11_has : fldOK [111] 87 "LazyForgeModel" "has" "[Z" (.array .boolean) true = true := by decide +kernel
theorem cf_X11_hasProgram : fldOK [111] 88 "LazyForgeModel" "hasProgram" "Z" .boolean false = true := by decide +kernel
theorem cf_X11_lastFault : fldOK [111] 89 "LazyForgeModel" "lastFault" "I" .int false = true := by decide +kernel
theorem cf_X11_lastPlace : fldOK [111] 90 "LazyForgeModel" "lastPlace" "I" .int false = true := by decide +kernel
theorem cf_X11_needed : fldOK [111] 91 "LazyForgeModel" "needed" "[Z" (.array .boolean) true = true := by decide +kernel
theorem cf_X11_cellSorts : fldOK [111] 92 "LazyForgeModel" "cellSorts" "[I" (.array .int) true = true := by decide +kernel
theorem cf_X11_cellValues : fldOK [111] 93 "LazyForgeModel" "cellValues" "[I" (.array .int) true = true := by decide +kernel
theorem cf_X11_cellDone : fldOK [111] 94 "LazyForgeModel" "cellDone" "[J" (.array .long) true = true := by decide +kernel
theorem cf_X11_cellBegins : fldOK [111] 95 "LazyForgeModel" "cellBegins" "[I" (.array .int) true = true := by decide +kernel
theorem cf_X11_cellCounts : fldOK [111] 96 "LazyForgeModel" "cellCounts" "[I" (.array .int) true = true := by decide +kernel
theorem cf_X11_cellsMade : fldOK [111] 97 "LazyForgeModel" "cellsMade" "I" .int false = true := by decide +kernel
theorem cf_X11_fieldTop : fldOK [111] 98 "LazyForgeModel" "fieldTop" "I" .int false = true := by decide +kernel
theorem cf_X11_fields : fldOK [111] 99 "LazyForgeModel" "fields" "[J" (.array .long) true = true := by decide +kernel
theorem cf_X11_cells : fldOK [111] 100 "LazyForgeModel" "cells" "I" .int false = true := by decide +kernel
theorem cf_X11_allCells : fldOK [111] 101 "LazyForgeModel" "allCells" "I" .int false = true := by decide +kernel
theorem cf_X11_allCalls : fldOK [111] 102 "LazyForgeModel" "allCalls" "I" .int false = true := by decide +kernel
theorem cf_X11_callsLeft : fldOK [111] 103 "LazyForgeModel" "callsLeft" "I" .int false = true := by decide +kernel
theorem cf_X11_calls : fldOK [111] 104 "LazyForgeModel" "calls" "I" .int false = true := by decide +kernel
theorem cf_X11_suspensions : fldOK [111] 105 "LazyForgeModel" "suspensions" "I" .int false = true := by decide +kernel
theorem cf_X11_partials : fldOK [111] 106 "LazyForgeModel" "partials" "I" .int false = true := by decide +kernel
theorem cf_X11_objects : fldOK [111] 107 "LazyForgeModel" "objects" "I" .int false = true := by decide +kernel
theorem cf_X11_updates : fldOK [111] 108 "LazyForgeModel" "updates" "I" .int false = true := by decide +kernel
theorem cf_X11_atOnce : fldOK [111] 109 "LazyForgeModel" "atOnce" "I" .int false = true := by decide +kernel
theorem cf_X11_calledCounts : fldOK [111] 110 "LazyForgeModel" "calledCounts" "[I" (.array .int) true = true := by decide +kernel
theorem cf_X11_how : fldOK [111] 111 "LazyForgeModel" "how" "I" .int false = true := by decide +kernel
theorem cf_X11_why : fldOK [111] 112 "LazyForgeModel" "why" "I" .int false = true := by decide +kernel
theorem cf_X11_rowCounted : fldOK [111] 113 "LazyForgeModel" "rowCounted" "I" .int false = true := by decide +kernel
theorem cf_X11_row : fldOK [111] 114 "LazyForgeModel" "row" "[I" (.array .int) true = true := by decide +kernel
theorem cf_X11_eager : fldOK [111] 115 "LazyForgeModel" "eager" "Z" .boolean false = true := by decide +kernel
theorem cf_X11_waiting : fldOK [111] 116 "LazyForgeModel" "waiting" "I" .int false = true := by decide +kernel
theorem cf_X11_waitKinds : fldOK [111] 117 "LazyForgeModel" "waitKinds" "[I" (.array .int) true = true := by decide +kernel
theorem cf_X11_waitBases : fldOK [111] 118 "LazyForgeModel" "waitBases" "[I" (.array .int) true = true := by decide +kernel
theorem cf_X11_waitMore : fldOK [111] 119 "LazyForgeModel" "waitMore" "[I" (.array .int) true = true := by decide +kernel
theorem cf_X11_top : fldOK [111] 120 "LazyForgeModel" "top" "I" .int false = true := by decide +kernel
theorem cf_X11_stack : fldOK [111] 121 "LazyForgeModel" "stack" "[J" (.array .long) true = true := by decide +kernel
theorem cf_X11_base : fldOK [111] 122 "LazyForgeModel" "base" "I" .int false = true := by decide +kernel
theorem cf_X11_localTop : fldOK [111] 123 "LazyForgeModel" "localTop" "I" .int false = true := by decide +kernel
theorem cf_X11_locals : fldOK [111] 124 "LazyForgeModel" "locals" "[J" (.array .long) true = true := by decide +kernel
theorem cf_X11_current : fldOK [111] 125 "LazyForgeModel" "current" "I" .int false = true := by decide +kernel
theorem cf_X11_has0 : fldOK [111] 126 "LazyForgeModel" "has0" "Z" .boolean false = true := by decide +kernel
theorem cf_X11_result : fldOK [111] 127 "LazyForgeModel" "result" "J" .long false = true := by decide +kernel
theorem cf_X11_tasks : fldOK [111] 128 "LazyForgeModel" "tasks" "I" .int false = true := by decide +kernel
theorem cf_X11_taskParts : fldOK [111] 129 "LazyForgeModel" "taskParts" "[I" (.array .int) true = true := by decide +kernel
theorem cf_X11_taskPlaces : fldOK [111] 130 "LazyForgeModel" "taskPlaces" "[I" (.array .int) true = true := by decide +kernel
theorem cf_X11_functionCells : fldOK [111] 131 "LazyForgeModel" "functionCells" "[I" (.array .int) true = true := by decide +kernel
theorem cf_X11_pending : fldOK [111] 132 "LazyForgeModel" "pending" "I" .int false = true := by decide +kernel
theorem cf_X11_pendings : fldOK [111] 133 "LazyForgeModel" "pendings" "[J" (.array .long) true = true := by decide +kernel
theorem cf_X11_drafted : fldOK [111] 134 "LazyForgeModel" "drafted" "I" .int false = true := by decide +kernel
theorem cf_X11_draft : fldOK [111] 135 "LazyForgeModel" "draft" "[I" (.array .int) true = true := by decide +kernel
theorem mk_11 : mk_ok 11 "LazyForgeModel" := ⟨_, rfl, rfl, (lw_all_tbl q2495), (lw_all_tbl q173), by decide +kernel⟩
theorem dX11_init_0 : decode cX11_init 0 = .ok (.aload_n 0, 1) := by decide +kernel
theorem dX11_init_1 : decode cX11_init 1 = .ok (.invokespecial 1, 3) := by decide +kernel
theorem dX11_init_4 : decode cX11_init 4 = .ok (.aload_n 0, 1) := by decide +kernel
theorem dX11_init_5 : decode cX11_init 5 = .ok (.sipush 3000, 3) := by decide +kernel
theorem dX11_init_8 : decode cX11_init 8 = .ok (.newarray .int, 2) := by decide +kernel
theorem dX11_init_10 : decode cX11_init 10 = .ok (.putfield 7, 3) := by decide +kernel
theorem dX11_init_13 : decode cX11_init 13 = .ok (.aload_n 0, 1) := by decide +kernel
theorem dX11_init_14 : decode cX11_init 14 = .ok (.sipush 12000, 3) := by decide +kernel
theorem dX11_init_17 : decode cX11_init 17 = .ok (.newarray .int, 2) := by decide +kernel
theorem dX11_init_19 : decode cX11_init 19 = .ok (.putfield 13, 3) := by decide +kernel
theorem dX11_init_22 : decode cX11_init 22 = .ok (.aload_n 0, 1) := by decide +kernel
theorem dX11_init_23 : decode cX11_init 23 = .ok (.sipush 3200, 3) := by decide +kernel
theorem dX11_init_26 : decode cX11_init 26 = .ok (.newarray .int, 2) := by decide +kernel
theorem dX11_init_28 : decode cX11_init 28 = .ok (.putfield 16, 3) := by decide +kernel
theorem dX11_init_31 : decode cX11_init 31 = .ok (.aload_n 0, 1) := by decide +kernel
theorem dX11_init_32 : decode cX11_init 32 = .ok (.sipush 3200, 3) := by decide +kernel
theorem dX11_init_35 : decode cX11_init 35 = .ok (.newarray .int, 2) := by decide +kernel
theorem dX11_init_37 : decode cX11_init 37 = .ok (.putfield 19, 3) := by decide +kernel
theorem dX11_init_40 : decode cX11_init 40 = .ok (.aload_n 0, 1) := by decide +kernel
theorem dX11_init_41 : decode cX11_init 41 = .ok (.sipush 3200, 3) := by decide +kernel
theorem dX11_init_44 : decode cX11_init 44 = .ok (.newarray .int, 2) := by decide +kernel
theorem dX11_init_46 : decode cX11_init 46 = .ok (.putfield 22, 3) := by decide +kernel
theorem dX11_init_49 : decode cX11_init 49 = .ok (.aload_n 0, 1) := by decide +kernel
theorem dX11_init_50 : decode cX11_init 50 = .ok (.sipush 3200, 3) := by decide +kernel
theorem dX11_init_53 : decode cX11_init 53 = .ok (.newarray .int, 2) := by decide +kernel
theorem dX11_init_55 : decode cX11_init 55 = .ok (.putfield 25, 3) := by decide +kernel
theorem dX11_init_58 : decode cX11_init 58 = .ok (.aload_n 0, 1) := by decide +kernel
theorem dX11_init_59 : decode cX11_init 59 = .ok (.sipush 3200, 3) := by decide +kernel
theorem dX11_init_62 : decode cX11_init 62 = .ok (.newarray .int, 2) := by decide +kernel
theorem dX11_init_64 : decode cX11_init 64 = .ok (.putfield 28, 3) := by decide +kernel
theorem dX11_init_67 : decode cX11_init 67 = .ok (.aload_n 0, 1) := by decide +kernel
theorem dX11_init_68 : decode cX11_init 68 = .ok (.sipush 3200, 3) := by decide +kernel
theorem dX11_init_71 : decode cX11_init 71 = .ok (.newarray .int, 2) := by decide +kernel
theorem dX11_init_73 : decode cX11_init 73 = .ok (.putfield 31, 3) := by decide +kernel
theorem dX11_init_76 : decode cX11_init 76 = .ok (.aload_n 0, 1) := by decide +kernel
theorem dX11_init_77 : decode cX11_init 77 = .ok (.sipush 3200, 3) := by decide +kernel
theorem dX11_init_80 : decode cX11_init 80 = .ok (.newarray .int, 2) := by decide +kernel
theorem dX11_init_82 : decode cX11_init 82 = .ok (.putfield 34, 3) := by decide +kernel
theorem dX11_init_85 : decode cX11_init 85 = .ok (.aload_n 0, 1) := by decide +kernel
theorem dX11_init_86 : decode cX11_init 86 = .ok (.sipush 3200, 3) := by decide +kernel
theorem dX11_init_89 : decode cX11_init 89 = .ok (.newarray .long, 2) := by decide +kernel
theorem dX11_init_91 : decode cX11_init 91 = .ok (.putfield 37, 3) := by decide +kernel
theorem dX11_init_94 : decode cX11_init 94 = .ok (.aload_n 0, 1) := by decide +kernel
theorem dX11_init_95 : decode cX11_init 95 = .ok (.sipush 3200, 3) := by decide +kernel
theorem dX11_init_98 : decode cX11_init 98 = .ok (.newarray .int, 2) := by decide +kernel
theorem dX11_init_100 : decode cX11_init 100 = .ok (.putfield 41, 3) := by decide +kernel
theorem dX11_init_103 : decode cX11_init 103 = .ok (.aload_n 0, 1) := by decide +kernel
theorem dX11_init_104 : decode cX11_init 104 = .ok (.sipush 3200, 3) := by decide +kernel
theorem dX11_init_107 : decode cX11_init 107 = .ok (.newarray .int, 2) := by decide +kernel
theorem dX11_init_109 : decode cX11_init 109 = .ok (.putfield 44, 3) := by decide +kernel
theorem dX11_init_112 : decode cX11_init 112 = .ok (.aload_n 0, 1) := by decide +kernel
theorem dX11_init_113 : decode cX11_init 113 = .ok (.sipush 3200, 3) := by decide +kernel
theorem dX11_init_116 : decode cX11_init 116 = .ok (.newarray .long, 2) := by decide +kernel
theorem dX11_init_118 : decode cX11_init 118 = .ok (.putfield 47, 3) := by decide +kernel
theorem dX11_init_121 : decode cX11_init 121 = .ok (.aload_n 0, 1) := by decide +kernel
theorem dX11_init_122 : decode cX11_init 122 = .ok (.sipush 640, 3) := by decide +kernel
theorem dX11_init_125 : decode cX11_init 125 = .ok (.newarray .long, 2) := by decide +kernel
theorem dX11_init_127 : decode cX11_init 127 = .ok (.putfield 50, 3) := by decide +kernel
theorem dX11_init_130 : decode cX11_init 130 = .ok (.aload_n 0, 1) := by decide +kernel
theorem dX11_init_131 : decode cX11_init 131 = .ok (.sipush 640, 3) := by decide +kernel
theorem dX11_init_134 : decode cX11_init 134 = .ok (.newarray .int, 2) := by decide +kernel
theorem dX11_init_136 : decode cX11_init 136 = .ok (.putfield 53, 3) := by decide +kernel
theorem dX11_init_139 : decode cX11_init 139 = .ok (.aload_n 0, 1) := by decide +kernel
theorem dX11_init_140 : decode cX11_init 140 = .ok (.sipush 640, 3) := by decide +kernel
theorem dX11_init_143 : decode cX11_init 143 = .ok (.newarray .int, 2) := by decide +kernel
theorem dX11_init_145 : decode cX11_init 145 = .ok (.putfield 56, 3) := by decide +kernel
theorem dX11_init_148 : decode cX11_init 148 = .ok (.aload_n 0, 1) := by decide +kernel
theorem dX11_init_149 : decode cX11_init 149 = .ok (.bipush 30, 2) := by decide +kernel
theorem dX11_init_151 : decode cX11_init 151 = .ok (.newarray .long, 2) := by decide +kernel
theorem dX11_init_153 : decode cX11_init 153 = .ok (.putfield 59, 3) := by decide +kernel
theorem dX11_init_156 : decode cX11_init 156 = .ok (.aload_n 0, 1) := by decide +kernel
theorem dX11_init_157 : decode cX11_init 157 = .ok (.bipush 30, 2) := by decide +kernel
theorem dX11_init_159 : decode cX11_init 159 = .ok (.newarray .int, 2) := by decide +kernel
theorem dX11_init_161 : decode cX11_init 161 = .ok (.putfield 62, 3) := by decide +kernel
theorem dX11_init_164 : decode cX11_init 164 = .ok (.aload_n 0, 1) := by decide +kernel
theorem dX11_init_165 : decode cX11_init 165 = .ok (.sipush 3200, 3) := by decide +kernel
theorem dX11_init_168 : decode cX11_init 168 = .ok (.newarray .int, 2) := by decide +kernel
theorem dX11_init_170 : decode cX11_init 170 = .ok (.putfield 65, 3) := by decide +kernel
theorem dX11_init_173 : decode cX11_init 173 = .ok (.aload_n 0, 1) := by decide +kernel
theorem dX11_init_174 : decode cX11_init 174 = .ok (.sipush 3200, 3) := by decide +kernel
theorem dX11_init_177 : decode cX11_init 177 = .ok (.newarray .int, 2) := by decide +kernel
theorem dX11_init_179 : decode cX11_init 179 = .ok (.putfield 68, 3) := by decide +kernel
theorem dX11_init_182 : decode cX11_init 182 = .ok (.aload_n 0, 1) := by decide +kernel
theorem dX11_init_183 : decode cX11_init 183 = .ok (.sipush 3200, 3) := by decide +kernel
theorem dX11_init_186 : decode cX11_init 186 = .ok (.newarray .int, 2) := by decide +kernel
theorem dX11_init_188 : decode cX11_init 188 = .ok (.putfield 71, 3) := by decide +kernel
theorem dX11_init_191 : decode cX11_init 191 = .ok (.aload_n 0, 1) := by decide +kernel
theorem dX11_init_192 : decode cX11_init 192 = .ok (.sipush 3200, 3) := by decide +kernel
theorem dX11_init_195 : decode cX11_init 195 = .ok (.newarray .int, 2) := by decide +kernel
theorem dX11_init_197 : decode cX11_init 197 = .ok (.putfield 74, 3) := by decide +kernel
theorem dX11_init_200 : decode cX11_init 200 = .ok (.aload_n 0, 1) := by decide +kernel
theorem dX11_init_201 : decode cX11_init 201 = .ok (.sipush 3200, 3) := by decide +kernel
theorem dX11_init_204 : decode cX11_init 204 = .ok (.newarray .int, 2) := by decide +kernel
theorem dX11_init_206 : decode cX11_init 206 = .ok (.putfield 77, 3) := by decide +kernel
theorem dX11_init_209 : decode cX11_init 209 = .ok (.aload_n 0, 1) := by decide +kernel
theorem dX11_init_210 : decode cX11_init 210 = .ok (.sipush 3200, 3) := by decide +kernel
theorem dX11_init_213 : decode cX11_init 213 = .ok (.newarray .int, 2) := by decide +kernel
theorem dX11_init_215 : decode cX11_init 215 = .ok (.putfield 80, 3) := by decide +kernel
theorem dX11_init_218 : decode cX11_init 218 = .ok (.aload_n 0, 1) := by decide +kernel
theorem dX11_init_219 : decode cX11_init 219 = .ok (.sipush 640, 3) := by decide +kernel
theorem dX11_init_222 : decode cX11_init 222 = .ok (.newarray .int, 2) := by decide +kernel
theorem dX11_init_224 : decode cX11_init 224 = .ok (.putfield 83, 3) := by decide +kernel
theorem dX11_init_227 : decode cX11_init 227 = .ok (.aload_n 0, 1) := by decide +kernel
theorem dX11_init_228 : decode cX11_init 228 = .ok (.sipush 5760, 3) := by decide +kernel
theorem dX11_init_231 : decode cX11_init 231 = .ok (.newarray .int, 2) := by decide +kernel
theorem dX11_init_233 : decode cX11_init 233 = .ok (.putfield 86, 3) := by decide +kernel
theorem dX11_init_236 : decode cX11_init 236 = .ok (.aload_n 0, 1) := by decide +kernel
theorem dX11_init_237 : decode cX11_init 237 = .ok (.sipush 3200, 3) := by decide +kernel
theorem dX11_init_240 : decode cX11_init 240 = .ok (.newarray .int, 2) := by decide +kernel
theorem dX11_init_242 : decode cX11_init 242 = .ok (.putfield 89, 3) := by decide +kernel
theorem dX11_init_245 : decode cX11_init 245 = .ok (.aload_n 0, 1) := by decide +kernel
theorem dX11_init_246 : decode cX11_init 246 = .ok (.sipush 3200, 3) := by decide +kernel
theorem dX11_init_249 : decode cX11_init 249 = .ok (.newarray .int, 2) := by decide +kernel
theorem dX11_init_251 : decode cX11_init 251 = .ok (.putfield 92, 3) := by decide +kernel
theorem dX11_init_254 : decode cX11_init 254 = .ok (.aload_n 0, 1) := by decide +kernel
theorem dX11_init_255 : decode cX11_init 255 = .ok (.sipush 640, 3) := by decide +kernel
theorem dX11_init_258 : decode cX11_init 258 = .ok (.newarray .int, 2) := by decide +kernel
theorem dX11_init_260 : decode cX11_init 260 = .ok (.putfield 95, 3) := by decide +kernel
theorem dX11_init_263 : decode cX11_init 263 = .ok (.aload_n 0, 1) := by decide +kernel
theorem dX11_init_264 : decode cX11_init 264 = .ok (.sipush 3200, 3) := by decide +kernel
theorem dX11_init_267 : decode cX11_init 267 = .ok (.newarray .int, 2) := by decide +kernel
theorem dX11_init_269 : decode cX11_init 269 = .ok (.putfield 98, 3) := by decide +kernel
theorem dX11_init_272 : decode cX11_init 272 = .ok (.aload_n 0, 1) := by decide +kernel
theorem dX11_init_273 : decode cX11_init 273 = .ok (.sipush 3200, 3) := by decide +kernel
theorem dX11_init_276 : decode cX11_init 276 = .ok (.newarray .long, 2) := by decide +kernel
theorem dX11_init_278 : decode cX11_init 278 = .ok (.putfield 101, 3) := by decide +kernel
theorem dX11_init_281 : decode cX11_init 281 = .ok (.aload_n 0, 1) := by decide +kernel
theorem dX11_init_282 : decode cX11_init 282 = .ok (.sipush 3200, 3) := by decide +kernel
theorem dX11_init_285 : decode cX11_init 285 = .ok (.newarray .int, 2) := by decide +kernel
theorem dX11_init_287 : decode cX11_init 287 = .ok (.putfield 104, 3) := by decide +kernel
theorem dX11_init_290 : decode cX11_init 290 = .ok (.aload_n 0, 1) := by decide +kernel
theorem dX11_init_291 : decode cX11_init 291 = .ok (.bipush 64, 2) := by decide +kernel
theorem dX11_init_293 : decode cX11_init 293 = .ok (.newarray .int, 2) := by decide +kernel
theorem dX11_init_295 : decode cX11_init 295 = .ok (.putfield 107, 3) := by decide +kernel
theorem dX11_init_298 : decode cX11_init 298 = .ok (.aload_n 0, 1) := by decide +kernel
theorem dX11_init_299 : decode cX11_init 299 = .ok (.sipush 3200, 3) := by decide +kernel
theorem dX11_init_302 : decode cX11_init 302 = .ok (.newarray .int, 2) := by decide +kernel
theorem dX11_init_304 : decode cX11_init 304 = .ok (.putfield 110, 3) := by decide +kernel
theorem dX11_init_307 : decode cX11_init 307 = .ok (.aload_n 0, 1) := by decide +kernel
theorem dX11_init_308 : decode cX11_init 308 = .ok (.sipush 3200, 3) := by decide +kernel
theorem dX11_init_311 : decode cX11_init 311 = .ok (.newarray .int, 2) := by decide +kernel
theorem dX11_init_313 : decode cX11_init 313 = .ok (.putfield 113, 3) := by decide +kernel
theorem dX11_init_316 : decode cX11_init 316 = .ok (.aload_n 0, 1) := by decide +kernel
theorem dX11_init_317 : decode cX11_init 317 = .ok (.sipush 3200, 3) := by decide +kernel
theorem dX11_init_320 : decode cX11_init 320 = .ok (.newarray .int, 2) := by decide +kernel
theorem dX11_init_322 : decode cX11_init 322 = .ok (.putfield 116, 3) := by decide +kernel
theorem dX11_init_325 : decode cX11_init 325 = .ok (.aload_n 0, 1) := by decide +kernel
theorem dX11_init_326 : decode cX11_init 326 = .ok (.sipush 7000, 3) := by decide +kernel
theorem dX11_init_329 : decode cX11_init 329 = .ok (.newarray .int, 2) := by decide +kernel
theorem dX11_init_331 : decode cX11_init 331 = .ok (.putfield 119, 3) := by decide +kernel
theorem dX11_init_334 : decode cX11_init 334 = .ok (.aload_n 0, 1) := by decide +kernel
theorem dX11_init_335 : decode cX11_init 335 = .ok (.sipush 7000, 3) := by decide +kernel
theorem dX11_init_338 : decode cX11_init 338 = .ok (.newarray .int, 2) := by decide +kernel
theorem dX11_init_340 : decode cX11_init 340 = .ok (.putfield 122, 3) := by decide +kernel
theorem dX11_init_343 : decode cX11_init 343 = .ok (.aload_n 0, 1) := by decide +kernel
theorem dX11_init_344 : decode cX11_init 344 = .ok (.sipush 7000, 3) := by decide +kernel
theorem dX11_init_347 : decode cX11_init 347 = .ok (.newarray .int, 2) := by decide +kernel
theorem dX11_init_349 : decode cX11_init 349 = .ok (.putfield 125, 3) := by decide +kernel
theorem dX11_init_352 : decode cX11_init 352 = .ok (.aload_n 0, 1) := by decide +kernel
theorem dX11_init_353 : decode cX11_init 353 = .ok (.sipush 7000, 3) := by decide +kernel
theorem dX11_init_356 : decode cX11_init 356 = .ok (.newarray .int, 2) := by decide +kernel
theorem dX11_init_358 : decode cX11_init 358 = .ok (.putfield 128, 3) := by decide +kernel
theorem dX11_init_361 : decode cX11_init 361 = .ok (.aload_n 0, 1) := by decide +kernel
theorem dX11_init_362 : decode cX11_init 362 = .ok (.sipush 7000, 3) := by decide +kernel
theorem dX11_init_365 : decode cX11_init 365 = .ok (.newarray .int, 2) := by decide +kernel
theorem dX11_init_367 : decode cX11_init 367 = .ok (.putfield 131, 3) := by decide +kernel
theorem dX11_init_370 : decode cX11_init 370 = .ok (.aload_n 0, 1) := by decide +kernel
theorem dX11_init_371 : decode cX11_init 371 = .ok (.sipush 7000, 3) := by decide +kernel
theorem dX11_init_374 : decode cX11_init 374 = .ok (.newarray .boolean, 2) := by decide +kernel
theorem dX11_init_376 : decode cX11_init 376 = .ok (.putfield 134, 3) := by decide +kernel
theorem dX11_init_379 : decode cX11_init 379 = .ok (.aload_n 0, 1) := by decide +kernel
theorem dX11_init_380 : decode cX11_init 380 = .ok (.sipush 7000, 3) := by decide +kernel
theorem dX11_init_383 : decode cX11_init 383 = .ok (.newarray .int, 2) := by decide +kernel
theorem dX11_init_385 : decode cX11_init 385 = .ok (.putfield 138, 3) := by decide +kernel
theorem dX11_init_388 : decode cX11_init 388 = .ok (.aload_n 0, 1) := by decide +kernel
theorem dX11_init_389 : decode cX11_init 389 = .ok (.sipush 7000, 3) := by decide +kernel
theorem dX11_init_392 : decode cX11_init 392 = .ok (.newarray .int, 2) := by decide +kernel
theorem dX11_init_394 : decode cX11_init 394 = .ok (.putfield 141, 3) := by decide +kernel
theorem dX11_init_397 : decode cX11_init 397 = .ok (.aload_n 0, 1) := by decide +kernel
theorem dX11_init_398 : decode cX11_init 398 = .ok (.sipush 7000, 3) := by decide +kernel
theorem dX11_init_401 : decode cX11_init 401 = .ok (.newarray .long, 2) := by decide +kernel
theorem dX11_init_403 : decode cX11_init 403 = .ok (.putfield 144, 3) := by decide +kernel
theorem dX11_init_406 : decode cX11_init 406 = .ok (.aload_n 0, 1) := by decide +kernel
theorem dX11_init_407 : decode cX11_init 407 = .ok (.sipush 14000, 3) := by decide +kernel
theorem dX11_init_410 : decode cX11_init 410 = .ok (.newarray .int, 2) := by decide +kernel
theorem dX11_init_412 : decode cX11_init 412 = .ok (.putfield 147, 3) := by decide +kernel
theorem dX11_init_415 : decode cX11_init 415 = .ok (.aload_n 0, 1) := by decide +kernel
theorem dX11_init_416 : decode cX11_init 416 = .ok (.sipush 14000, 3) := by decide +kernel
theorem dX11_init_419 : decode cX11_init 419 = .ok (.newarray .int, 2) := by decide +kernel
theorem dX11_init_421 : decode cX11_init 421 = .ok (.putfield 150, 3) := by decide +kernel
theorem dX11_init_424 : decode cX11_init 424 = .ok (.aload_n 0, 1) := by decide +kernel
theorem dX11_init_425 : decode cX11_init 425 = .ok (.sipush 14000, 3) := by decide +kernel
theorem dX11_init_428 : decode cX11_init 428 = .ok (.newarray .int, 2) := by decide +kernel
theorem dX11_init_430 : decode cX11_init 430 = .ok (.putfield 153, 3) := by decide +kernel
theorem dX11_init_433 : decode cX11_init 433 = .ok (.aload_n 0, 1) := by decide +kernel
theorem dX11_init_434 : decode cX11_init 434 = .ok (.sipush 14000, 3) := by decide +kernel
theorem dX11_init_437 : decode cX11_init 437 = .ok (.newarray .int, 2) := by decide +kernel
theorem dX11_init_439 : decode cX11_init 439 = .ok (.putfield 156, 3) := by decide +kernel
theorem dX11_init_442 : decode cX11_init 442 = .ok (.aload_n 0, 1) := by decide +kernel
theorem dX11_init_443 : decode cX11_init 443 = .ok (.sipush 14000, 3) := by decide +kernel
theorem dX11_init_446 : decode cX11_init 446 = .ok (.newarray .int, 2) := by decide +kernel
theorem dX11_init_448 : decode cX11_init 448 = .ok (.putfield 159, 3) := by decide +kernel
theorem dX11_init_451 : decode cX11_init 451 = .ok (.aload_n 0, 1) := by decide +kernel
theorem dX11_init_452 : decode cX11_init 452 = .ok (.sipush 640, 3) := by decide +kernel
theorem dX11_init_455 : decode cX11_init 455 = .ok (.newarray .int, 2) := by decide +kernel
theorem dX11_init_457 : decode cX11_init 457 = .ok (.putfield 162, 3) := by decide +kernel
theorem dX11_init_460 : decode cX11_init 460 = .ok (.aload_n 0, 1) := by decide +kernel
theorem dX11_init_461 : decode cX11_init 461 = .ok (.sipush 640, 3) := by decide +kernel
theorem dX11_init_464 : decode cX11_init 464 = .ok (.newarray .int, 2) := by decide +kernel
theorem dX11_init_466 : decode cX11_init 466 = .ok (.putfield 165, 3) := by decide +kernel
theorem dX11_init_469 : decode cX11_init 469 = .ok (.aload_n 0, 1) := by decide +kernel
theorem dX11_init_470 : decode cX11_init 470 = .ok (.sipush 640, 3) := by decide +kernel
theorem dX11_init_473 : decode cX11_init 473 = .ok (.newarray .int, 2) := by decide +kernel
theorem dX11_init_475 : decode cX11_init 475 = .ok (.putfield 168, 3) := by decide +kernel
theorem dX11_init_478 : decode cX11_init 478 = .ok (.aload_n 0, 1) := by decide +kernel
theorem dX11_init_479 : decode cX11_init 479 = .ok (.sipush 640, 3) := by decide +kernel
theorem dX11_init_482 : decode cX11_init 482 = .ok (.newarray .int, 2) := by decide +kernel
theorem dX11_init_484 : decode cX11_init 484 = .ok (.putfield 171, 3) := by decide +kernel
theorem dX11_init_487 : decode cX11_init 487 = .ok (.aload_n 0, 1) := by decide +kernel
theorem dX11_init_488 : decode cX11_init 488 = .ok (.sipush 7000, 3) := by decide +kernel
theorem dX11_init_491 : decode cX11_init 491 = .ok (.newarray .int, 2) := by decide +kernel
theorem dX11_init_493 : decode cX11_init 493 = .ok (.putfield 174, 3) := by decide +kernel
theorem dX11_init_496 : decode cX11_init 496 = .ok (.aload_n 0, 1) := by decide +kernel
theorem dX11_init_497 : decode cX11_init 497 = .ok (.ldc 177, 2) := by decide +kernel
theorem dX11_init_499 : decode cX11_init 499 = .ok (.newarray .boolean, 2) := by decide +kernel
theorem dX11_init_501 : decode cX11_init 501 = .ok (.putfield 178, 3) := by decide +kernel
theorem dX11_init_504 : decode cX11_init 504 = .ok (.aload_n 0, 1) := by decide +kernel
theorem dX11_init_505 : decode cX11_init 505 = .ok (.sipush 7000, 3) := by decide +kernel
theorem dX11_init_508 : decode cX11_init 508 = .ok (.newarray .boolean, 2) := by decide +kernel
theorem dX11_init_510 : decode cX11_init 510 = .ok (.putfield 181, 3) := by decide +kernel
theorem dX11_init_513 : decode cX11_init 513 = .ok (.aload_n 0, 1) := by decide +kernel
theorem dX11_init_514 : decode cX11_init 514 = .ok (.sipush 640, 3) := by decide +kernel
theorem dX11_init_517 : decode cX11_init 517 = .ok (.newarray .boolean, 2) := by decide +kernel
theorem dX11_init_519 : decode cX11_init 519 = .ok (.putfield 184, 3) := by decide +kernel
theorem dX11_init_522 : decode cX11_init 522 = .ok (.aload_n 0, 1) := by decide +kernel
theorem dX11_init_523 : decode cX11_init 523 = .ok (.iconst (-1), 1) := by decide +kernel
theorem dX11_init_524 : decode cX11_init 524 = .ok (.putfield 187, 3) := by decide +kernel
theorem dX11_init_527 : decode cX11_init 527 = .ok (.aload_n 0, 1) := by decide +kernel
theorem dX11_init_528 : decode cX11_init 528 = .ok (.sipush 5120, 3) := by decide +kernel
theorem dX11_init_531 : decode cX11_init 531 = .ok (.newarray .boolean, 2) := by decide +kernel
theorem dX11_init_533 : decode cX11_init 533 = .ok (.putfield 191, 3) := by decide +kernel
theorem dX11_init_536 : decode cX11_init 536 = .ok (.aload_n 0, 1) := by decide +kernel
theorem dX11_init_537 : decode cX11_init 537 = .ok (.sipush 4100, 3) := by decide +kernel
theorem dX11_init_540 : decode cX11_init 540 = .ok (.newarray .int, 2) := by decide +kernel
theorem dX11_init_542 : decode cX11_init 542 = .ok (.putfield 194, 3) := by decide +kernel
theorem dX11_init_545 : decode cX11_init 545 = .ok (.aload_n 0, 1) := by decide +kernel
theorem dX11_init_546 : decode cX11_init 546 = .ok (.sipush 4100, 3) := by decide +kernel
theorem dX11_init_549 : decode cX11_init 549 = .ok (.newarray .int, 2) := by decide +kernel
theorem dX11_init_551 : decode cX11_init 551 = .ok (.putfield 197, 3) := by decide +kernel
theorem dX11_init_554 : decode cX11_init 554 = .ok (.aload_n 0, 1) := by decide +kernel
theorem dX11_init_555 : decode cX11_init 555 = .ok (.sipush 4100, 3) := by decide +kernel
theorem dX11_init_558 : decode cX11_init 558 = .ok (.newarray .long, 2) := by decide +kernel
theorem dX11_init_560 : decode cX11_init 560 = .ok (.putfield 200, 3) := by decide +kernel
theorem dX11_init_563 : decode cX11_init 563 = .ok (.aload_n 0, 1) := by decide +kernel
theorem dX11_init_564 : decode cX11_init 564 = .ok (.sipush 4100, 3) := by decide +kernel
theorem dX11_init_567 : decode cX11_init 567 = .ok (.newarray .int, 2) := by decide +kernel
theorem dX11_init_569 : decode cX11_init 569 = .ok (.putfield 203, 3) := by decide +kernel
theorem dX11_init_572 : decode cX11_init 572 = .ok (.aload_n 0, 1) := by decide +kernel
theorem dX11_init_573 : decode cX11_init 573 = .ok (.sipush 4100, 3) := by decide +kernel
theorem dX11_init_576 : decode cX11_init 576 = .ok (.newarray .int, 2) := by decide +kernel
theorem dX11_init_578 : decode cX11_init 578 = .ok (.putfield 206, 3) := by decide +kernel
theorem dX11_init_581 : decode cX11_init 581 = .ok (.aload_n 0, 1) := by decide +kernel
theorem dX11_init_582 : decode cX11_init 582 = .ok (.sipush 4100, 3) := by decide +kernel
theorem dX11_init_585 : decode cX11_init 585 = .ok (.newarray .long, 2) := by decide +kernel
theorem dX11_init_587 : decode cX11_init 587 = .ok (.putfield 209, 3) := by decide +kernel
theorem dX11_init_590 : decode cX11_init 590 = .ok (.aload_n 0, 1) := by decide +kernel
theorem dX11_init_591 : decode cX11_init 591 = .ok (.sipush 640, 3) := by decide +kernel
theorem dX11_init_594 : decode cX11_init 594 = .ok (.newarray .int, 2) := by decide +kernel
theorem dX11_init_596 : decode cX11_init 596 = .ok (.putfield 212, 3) := by decide +kernel
theorem dX11_init_599 : decode cX11_init 599 = .ok (.aload_n 0, 1) := by decide +kernel
theorem dX11_init_600 : decode cX11_init 600 = .ok (.sipush 1000, 3) := by decide +kernel
theorem dX11_init_603 : decode cX11_init 603 = .ok (.newarray .int, 2) := by decide +kernel
theorem dX11_init_605 : decode cX11_init 605 = .ok (.putfield 215, 3) := by decide +kernel
theorem dX11_init_608 : decode cX11_init 608 = .ok (.aload_n 0, 1) := by decide +kernel
theorem dX11_init_609 : decode cX11_init 609 = .ok (.ldc 218, 2) := by decide +kernel
theorem dX11_init_611 : decode cX11_init 611 = .ok (.newarray .int, 2) := by decide +kernel
theorem dX11_init_613 : decode cX11_init 613 = .ok (.putfield 219, 3) := by decide +kernel
theorem dX11_init_616 : decode cX11_init 616 = .ok (.aload_n 0, 1) := by decide +kernel
theorem dX11_init_617 : decode cX11_init 617 = .ok (.ldc 218, 2) := by decide +kernel
theorem dX11_init_619 : decode cX11_init 619 = .ok (.newarray .int, 2) := by decide +kernel
theorem dX11_init_621 : decode cX11_init 621 = .ok (.putfield 222, 3) := by decide +kernel
theorem dX11_init_624 : decode cX11_init 624 = .ok (.aload_n 0, 1) := by decide +kernel
theorem dX11_init_625 : decode cX11_init 625 = .ok (.ldc 218, 2) := by decide +kernel
theorem dX11_init_627 : decode cX11_init 627 = .ok (.newarray .int, 2) := by decide +kernel
theorem dX11_init_629 : decode cX11_init 629 = .ok (.putfield 225, 3) := by decide +kernel
theorem dX11_init_632 : decode cX11_init 632 = .ok (.aload_n 0, 1) := by decide +kernel
theorem dX11_init_633 : decode cX11_init 633 = .ok (.ldc 228, 2) := by decide +kernel
theorem dX11_init_635 : decode cX11_init 635 = .ok (.newarray .long, 2) := by decide +kernel
theorem dX11_init_637 : decode cX11_init 637 = .ok (.putfield 229, 3) := by decide +kernel
theorem dX11_init_640 : decode cX11_init 640 = .ok (.aload_n 0, 1) := by decide +kernel
theorem dX11_init_641 : decode cX11_init 641 = .ok (.ldc 232, 2) := by decide +kernel
theorem dX11_init_643 : decode cX11_init 643 = .ok (.newarray .long, 2) := by decide +kernel
theorem dX11_init_645 : decode cX11_init 645 = .ok (.putfield 233, 3) := by decide +kernel
theorem dX11_init_648 : decode cX11_init 648 = .ok (.aload_n 0, 1) := by decide +kernel
theorem dX11_init_649 : decode cX11_init 649 = .ok (.sipush 8000, 3) := by decide +kernel
theorem dX11_init_652 : decode cX11_init 652 = .ok (.newarray .int, 2) := by decide +kernel
theorem dX11_init_654 : decode cX11_init 654 = .ok (.putfield 236, 3) := by decide +kernel
theorem dX11_init_657 : decode cX11_init 657 = .ok (.aload_n 0, 1) := by decide +kernel
theorem dX11_init_658 : decode cX11_init 658 = .ok (.sipush 8000, 3) := by decide +kernel
theorem dX11_init_661 : decode cX11_init 661 = .ok (.newarray .int, 2) := by decide +kernel
theorem dX11_init_663 : decode cX11_init 663 = .ok (.putfield 239, 3) := by decide +kernel
theorem dX11_init_666 : decode cX11_init 666 = .ok (.aload_n 0, 1) := by decide +kernel
theorem dX11_init_667 : decode cX11_init 667 = .ok (.sipush 640, 3) := by decide +kernel
theorem dX11_init_670 : decode cX11_init 670 = .ok (.newarray .int, 2) := by decide +kernel
theorem dX11_init_672 : decode cX11_init 672 = .ok (.putfield 242, 3) := by decide +kernel
theorem dX11_init_675 : decode cX11_init 675 = .ok (.aload_n 0, 1) := by decide +kernel
theorem dX11_init_676 : decode cX11_init 676 = .ok (.sipush 4200, 3) := by decide +kernel
theorem dX11_init_679 : decode cX11_init 679 = .ok (.newarray .long, 2) := by decide +kernel
theorem dX11_init_681 : decode cX11_init 681 = .ok (.putfield 245, 3) := by decide +kernel
theorem dX11_init_684 : decode cX11_init 684 = .ok (.aload_n 0, 1) := by decide +kernel
theorem dX11_init_685 : decode cX11_init 685 = .ok (.sipush 12001, 3) := by decide +kernel
theorem dX11_init_688 : decode cX11_init 688 = .ok (.newarray .int, 2) := by decide +kernel
theorem dX11_init_690 : decode cX11_init 690 = .ok (.putfield 248, 3) := by decide +kernel
theorem dX11_init_693 : decode cX11_init 693 = .ok (.return_, 1) := by decide +kernel
theorem mw_X11_init : MW yX11_init (Cond.code yX11_init cX11_init 1 (Option.none : Option Jvm.ClassFile.FieldType)) cX11_init 1 (Option.none : Option Jvm.ClassFile.FieldType) 0 := ⟨rfl, ⟨(lw_all_tbl q2498), rfl, (lw_all_tbl q173)⟩, rfl, ⟨by decide, by decide⟩, by decide +kernel⟩
noncomputable def c_X11_init (l0 : Int) : Mo CH Int :=
  bnd (newa 0 3000) fun v1 =>
  bnd (pf [111] 1 l0 v1) fun _ =>
  bnd (newa 0 12000) fun v2 =>
  bnd (pf [111] 3 l0 v2) fun _ =>
  bnd (newa 0 3200) fun v3 =>
  bnd (pf [111] 13 l0 v3) fun _ =>
  bnd (newa 0 3200) fun v4 =>
  bnd (pf [111] 14 l0 v4) fun _ =>
  bnd (newa 0 3200) fun v5 =>
  bnd (pf [111] 15 l0 v5) fun _ =>
  bnd (newa 0 3200) fun v6 =>
  bnd (pf [111] 16 l0 v6) fun _ =>
  bnd (newa 0 3200) fun v7 =>
  bnd (pf [111] 17 l0 v7) fun _ =>
  bnd (newa 0 3200) fun v8 =>
  bnd (pf [111] 18 l0 v8) fun _ =>
  bnd (newa 0 3200) fun v9 =>
  bnd (pf [111] 19 l0 v9) fun _ =>
  bnd (newa 1 3200) fun v10 =>
  bnd (pf [111] 20 l0 v10) fun _ =>
  bnd (newa 0 3200) fun v11 =>
  bnd (pf [111] 21 l0 v11) fun _ =>
  bnd (newa 0 3200) fun v12 =>
  bnd (pf [111] 22 l0 v12) fun _ =>
  bnd (newa 1 3200) fun v13 =>
  bnd (pf [111] 24 l0 v13) fun _ =>
  bnd (newa 1 640) fun v14 =>
  bnd (pf [111] 28 l0 v14) fun _ =>
  bnd (newa 0 640) fun v15 =>
  bnd (pf [111] 29 l0 v15) fun _ =>
  bnd (newa 0 640) fun v16 =>
  bnd (pf [111] 30 l0 v16) fun _ =>
  bnd (newa 1 30) fun v17 =>
  bnd (pf [111] 32 l0 v17) fun _ =>
  bnd (newa 0 30) fun v18 =>
  bnd (pf [111] 33 l0 v18) fun _ =>
  bnd (newa 0 3200) fun v19 =>
  bnd (pf [111] 36 l0 v19) fun _ =>
  bnd (newa 0 3200) fun v20 =>
  bnd (pf [111] 37 l0 v20) fun _ =>
  bnd (newa 0 3200) fun v21 =>
  bnd (pf [111] 38 l0 v21) fun _ =>
  bnd (newa 0 3200) fun v22 =>
  bnd (pf [111] 39 l0 v22) fun _ =>
  bnd (newa 0 3200) fun v23 =>
  bnd (pf [111] 41 l0 v23) fun _ =>
  bnd (newa 0 3200) fun v24 =>
  bnd (pf [111] 47 l0 v24) fun _ =>
  bnd (newa 0 640) fun v25 =>
  bnd (pf [111] 48 l0 v25) fun _ =>
  bnd (newa 0 5760) fun v26 =>
  bnd (pf [111] 49 l0 v26) fun _ =>
  bnd (newa 0 3200) fun v27 =>
  bnd (pf [111] 51 l0 v27) fun _ =>
  bnd (newa 0 3200) fun v28 =>
  bnd (pf [111] 52 l0 v28) fun _ =>
  bnd (newa 0 640) fun v29 =>
  bnd (pf [111] 53 l0 v29) fun _ =>
  bnd (newa 0 3200) fun v30 =>
  bnd (pf [111] 54 l0 v30) fun _ =>
  bnd (newa 1 3200) fun v31 =>
  bnd (pf [111] 56 l0 v31) fun _ =>
  bnd (newa 0 3200) fun v32 =>
  bnd (pf [111] 57 l0 v32) fun _ =>
  bnd (newa 0 64) fun v33 =>
  bnd (pf [111] 59 l0 v33) fun _ =>
  bnd (newa 0 3200) fun v34 =>
  bnd (pf [111] 60 l0 v34) fun _ =>
  bnd (newa 0 3200) fun v35 =>
  bnd (pf [111] 61 l0 v35) fun _ =>
  bnd (newa 0 3200) fun v36 =>
  bnd (pf [111] 62 l0 v36) fun _ =>
  bnd (newa 0 7000) fun v37 =>
  bnd (pf [111] 64 l0 v37) fun _ =>
  bnd (newa 0 7000) fun v38 =>
  bnd (pf [111] 65 l0 v38) fun _ =>
  bnd (newa 0 7000) fun v39 =>
  bnd (pf [111] 66 l0 v39) fun _ =>
  bnd (newa 0 7000) fun v40 =>
  bnd (pf [111] 67 l0 v40) fun _ =>
  bnd (newa 0 7000) fun v41 =>
  bnd (pf [111] 68 l0 v41) fun _ =>
  bnd (newa 3 7000) fun v42 =>
  bnd (pf [111] 69 l0 v42) fun _ =>
  bnd (newa 0 7000) fun v43 =>
  bnd (pf [111] 70 l0 v43) fun _ =>
  bnd (newa 0 7000) fun v44 =>
  bnd (pf [111] 71 l0 v44) fun _ =>
  bnd (newa 1 7000) fun v45 =>
  bnd (pf [111] 72 l0 v45) fun _ =>
  bnd (newa 0 14000) fun v46 =>
  bnd (pf [111] 74 l0 v46) fun _ =>
  bnd (newa 0 14000) fun v47 =>
  bnd (pf [111] 75 l0 v47) fun _ =>
  bnd (newa 0 14000) fun v48 =>
  bnd (pf [111] 76 l0 v48) fun _ =>
  bnd (newa 0 14000) fun v49 =>
  bnd (pf [111] 77 l0 v49) fun _ =>
  bnd (newa 0 14000) fun v50 =>
  bnd (pf [111] 78 l0 v50) fun _ =>
  bnd (newa 0 640) fun v51 =>
  bnd (pf [111] 79 l0 v51) fun _ =>
  bnd (newa 0 640) fun v52 =>
  bnd (pf [111] 80 l0 v52) fun _ =>
  bnd (newa 0 640) fun v53 =>
  bnd (pf [111] 81 l0 v53) fun _ =>
  bnd (newa 0 640) fun v54 =>
  bnd (pf [111] 82 l0 v54) fun _ =>
  bnd (newa 0 7000) fun v55 =>
  bnd (pf [111] 84 l0 v55) fun _ =>
  bnd (newa 3 163840) fun v56 =>
  bnd (pf [111] 85 l0 v56) fun _ =>
  bnd (newa 3 7000) fun v57 =>
  bnd (pf [111] 86 l0 v57) fun _ =>
  bnd (newa 3 640) fun v58 =>
  bnd (pf [111] 87 l0 v58) fun _ =>
  bnd (pf [111] 90 l0 (-1)) fun _ =>
  bnd (newa 3 5120) fun v59 =>
  bnd (pf [111] 91 l0 v59) fun _ =>
  bnd (newa 0 4100) fun v60 =>
  bnd (pf [111] 92 l0 v60) fun _ =>
  bnd (newa 0 4100) fun v61 =>
  bnd (pf [111] 93 l0 v61) fun _ =>
  bnd (newa 1 4100) fun v62 =>
  bnd (pf [111] 94 l0 v62) fun _ =>
  bnd (newa 0 4100) fun v63 =>
  bnd (pf [111] 95 l0 v63) fun _ =>
  bnd (newa 0 4100) fun v64 =>
  bnd (pf [111] 96 l0 v64) fun _ =>
  bnd (newa 1 4100) fun v65 =>
  bnd (pf [111] 99 l0 v65) fun _ =>
  bnd (newa 0 640) fun v66 =>
  bnd (pf [111] 110 l0 v66) fun _ =>
  bnd (newa 0 1000) fun v67 =>
  bnd (pf [111] 114 l0 v67) fun _ =>
  bnd (newa 0 202000) fun v68 =>
  bnd (pf [111] 117 l0 v68) fun _ =>
  bnd (newa 0 202000) fun v69 =>
  bnd (pf [111] 118 l0 v69) fun _ =>
  bnd (newa 0 202000) fun v70 =>
  bnd (pf [111] 119 l0 v70) fun _ =>
  bnd (newa 1 580000) fun v71 =>
  bnd (pf [111] 121 l0 v71) fun _ =>
  bnd (newa 1 193000) fun v72 =>
  bnd (pf [111] 124 l0 v72) fun _ =>
  bnd (newa 0 8000) fun v73 =>
  bnd (pf [111] 129 l0 v73) fun _ =>
  bnd (newa 0 8000) fun v74 =>
  bnd (pf [111] 130 l0 v74) fun _ =>
  bnd (newa 0 640) fun v75 =>
  bnd (pf [111] 131 l0 v75) fun _ =>
  bnd (newa 1 4200) fun v76 =>
  bnd (pf [111] 133 l0 v76) fun _ =>
  bnd (newa 0 12001) fun v77 =>
  bnd (pf [111] 135 l0 v77) fun _ =>
  pr 0
theorem sc_X11_init (g : gC) (d : Nat) (ts : TS) (l0 : Int) (hl0 : 0 < l0) : SF g yX11_init (Cond.code yX11_init cX11_init 1 (Option.none : Option Jvm.ClassFile.FieldType)) (Option.none : Option Jvm.ClassFile.FieldType) (d + 1) [vA g l0] (fun h => (h, ts)) (c_X11_init l0) := by
  refine SF.of (lv := [(0, vA g l0)]) (by decide) (wt_A wt_0) rfl (by simp only [la_A, la_I, la_J, la_0]) (fun Γ hg hnm o => ?_)
  subst hg
  have o : Ok Γ "LazyForgeModel" cX11_init 1 (Option.none : Option Jvm.ClassFile.FieldType) (d + 1) := o
  have hnm : (xMe (mx Γ)).name = "<init>" := hnm
  unfold c_X11_init
  refine s_aload_n o dX11_init_0 rfl 0 rfl ?_
  refine s_obj (d := d + 0) o (lw_all_tbl q2499) hl0 wt_0 rfl dX11_init_1 (lw_all_tbl q216) (lw_all_tbl q217) ?_
  refine s_aload_n o dX11_init_4 rfl 0 rfl ?_
  refine s_sipush o dX11_init_5 rfl ?_
  refine s_newa (kd := 0) o (by decide) rfl (by decide) (o.ra (by decide)) (lw_all_tbl q439) (r32 rfl) dX11_init_8 (fun v1 hv1 => ?_)
  refine r_putf (vA (mg Γ)) rfl o cf_X11_text (Or.inl (lw_all_tbl q2505)) dX11_init_10 (Or.inr ⟨hnm, rfl, (lw_all_tbl q2505)⟩) trivial (ty_array _) ?_
  refine s_aload_n o dX11_init_13 rfl 0 rfl ?_
  refine s_sipush o dX11_init_14 rfl ?_
  refine s_newa (kd := 0) o (by decide) rfl (by decide) (o.ra (by decide)) (lw_all_tbl q439) (r32 rfl) dX11_init_17 (fun v2 hv2 => ?_)
  refine r_putf (vA (mg Γ)) rfl o cf_X11_out (Or.inl (lw_all_tbl q2507)) dX11_init_19 (Or.inr ⟨hnm, rfl, (lw_all_tbl q2507)⟩) trivial (ty_array _) ?_
  refine s_aload_n o dX11_init_22 rfl 0 rfl ?_
  refine s_sipush o dX11_init_23 rfl ?_
  refine s_newa (kd := 0) o (by decide) rfl (by decide) (o.ra (by decide)) (lw_all_tbl q439) (r32 rfl) dX11_init_26 (fun v3 hv3 => ?_)
  refine r_putf (vA (mg Γ)) rfl o cf_X11_kinds (Or.inl (lw_all_tbl q2517)) dX11_init_28 (Or.inr ⟨hnm, rfl, (lw_all_tbl q2517)⟩) trivial (ty_array _) ?_
  refine s_aload_n o dX11_init_31 rfl 0 rfl ?_
  refine s_sipush o dX11_init_32 rfl ?_
  refine s_newa (kd := 0) o (by decide) rfl (by decide) (o.ra (by decide)) (lw_all_tbl q439) (r32 rfl) dX11_init_35 (fun v4 hv4 => ?_)
  refine r_putf (vA (mg Γ)) rfl o cf_X11_firsts (Or.inl (lw_all_tbl q2518)) dX11_init_37 (Or.inr ⟨hnm, rfl, (lw_all_tbl q2518)⟩) trivial (ty_array _) ?_
  refine s_aload_n o dX11_init_40 rfl 0 rfl ?_
  refine s_sipush o dX11_init_41 rfl ?_
  refine s_newa (kd := 0) o (by decide) rfl (by decide) (o.ra (by decide)) (lw_all_tbl q439) (r32 rfl) dX11_init_44 (fun v5 hv5 => ?_)
  refine r_putf (vA (mg Γ)) rfl o cf_X11_seconds (Or.inl (lw_all_tbl q2519)) dX11_init_46 (Or.inr ⟨hnm, rfl, (lw_all_tbl q2519)⟩) trivial (ty_array _) ?_
  refine s_aload_n o dX11_init_49 rfl 0 rfl ?_
  refine s_sipush o dX11_init_50 rfl ?_
  refine s_newa (kd := 0) o (by decide) rfl (by decide) (o.ra (by decide)) (lw_all_tbl q439) (r32 rfl) dX11_init_53 (fun v6 hv6 => ?_)
  refine r_putf (vA (mg Γ)) rfl o cf_X11_nexts (Or.inl (lw_all_tbl q2520)) dX11_init_55 (Or.inr ⟨hnm, rfl, (lw_all_tbl q2520)⟩) trivial (ty_array _) ?_
  refine s_aload_n o dX11_init_58 rfl 0 rfl ?_
  refine s_sipush o dX11_init_59 rfl ?_
  refine s_newa (kd := 0) o (by decide) rfl (by decide) (o.ra (by decide)) (lw_all_tbl q439) (r32 rfl) dX11_init_62 (fun v7 hv7 => ?_)
  refine r_putf (vA (mg Γ)) rfl o cf_X11_places (Or.inl (lw_all_tbl q2521)) dX11_init_64 (Or.inr ⟨hnm, rfl, (lw_all_tbl q2521)⟩) trivial (ty_array _) ?_
  refine s_aload_n o dX11_init_67 rfl 0 rfl ?_
  refine s_sipush o dX11_init_68 rfl ?_
  refine s_newa (kd := 0) o (by decide) rfl (by decide) (o.ra (by decide)) (lw_all_tbl q439) (r32 rfl) dX11_init_71 (fun v8 hv8 => ?_)
  refine r_putf (vA (mg Γ)) rfl o cf_X11_values (Or.inl (lw_all_tbl q2522)) dX11_init_73 (Or.inr ⟨hnm, rfl, (lw_all_tbl q2522)⟩) trivial (ty_array _) ?_
  refine s_aload_n o dX11_init_76 rfl 0 rfl ?_
  refine s_sipush o dX11_init_77 rfl ?_
  refine s_newa (kd := 0) o (by decide) rfl (by decide) (o.ra (by decide)) (lw_all_tbl q439) (r32 rfl) dX11_init_80 (fun v9 hv9 => ?_)
  refine r_putf (vA (mg Γ)) rfl o cf_X11_sorts (Or.inl (lw_all_tbl q2523)) dX11_init_82 (Or.inr ⟨hnm, rfl, (lw_all_tbl q2523)⟩) trivial (ty_array _) ?_
  refine s_aload_n o dX11_init_85 rfl 0 rfl ?_
  refine s_sipush o dX11_init_86 rfl ?_
  refine s_newa (kd := 1) o (by decide) rfl (by decide) (o.ra (by decide)) (lw_all_tbl q438) (r32 rfl) dX11_init_89 (fun v10 hv10 => ?_)
  refine r_putf (vA (mg Γ)) rfl o cf_X11_nodeNames (Or.inl (lw_all_tbl q2524)) dX11_init_91 (Or.inr ⟨hnm, rfl, (lw_all_tbl q2524)⟩) trivial (ty_array _) ?_
  refine s_aload_n o dX11_init_94 rfl 0 rfl ?_
  refine s_sipush o dX11_init_95 rfl ?_
  refine s_newa (kd := 0) o (by decide) rfl (by decide) (o.ra (by decide)) (lw_all_tbl q439) (r32 rfl) dX11_init_98 (fun v11 hv11 => ?_)
  refine r_putf (vA (mg Γ)) rfl o cf_X11_giveBegins (Or.inl (lw_all_tbl q2525)) dX11_init_100 (Or.inr ⟨hnm, rfl, (lw_all_tbl q2525)⟩) trivial (ty_array _) ?_
  refine s_aload_n o dX11_init_103 rfl 0 rfl ?_
  refine s_sipush o dX11_init_104 rfl ?_
  refine s_newa (kd := 0) o (by decide) rfl (by decide) (o.ra (by decide)) (lw_all_tbl q439) (r32 rfl) dX11_init_107 (fun v12 hv12 => ?_)
  refine r_putf (vA (mg Γ)) rfl o cf_X11_giveCounts (Or.inl (lw_all_tbl q2526)) dX11_init_109 (Or.inr ⟨hnm, rfl, (lw_all_tbl q2526)⟩) trivial (ty_array _) ?_
  refine s_aload_n o dX11_init_112 rfl 0 rfl ?_
  refine s_sipush o dX11_init_113 rfl ?_
  refine s_newa (kd := 1) o (by decide) rfl (by decide) (o.ra (by decide)) (lw_all_tbl q438) (r32 rfl) dX11_init_116 (fun v13 hv13 => ?_)
  refine r_putf (vA (mg Γ)) rfl o cf_X11_given (Or.inl (lw_all_tbl q2528)) dX11_init_118 (Or.inr ⟨hnm, rfl, (lw_all_tbl q2528)⟩) trivial (ty_array _) ?_
  refine s_aload_n o dX11_init_121 rfl 0 rfl ?_
  refine s_sipush o dX11_init_122 rfl ?_
  refine s_newa (kd := 1) o (by decide) rfl (by decide) (o.ra (by decide)) (lw_all_tbl q438) (r32 rfl) dX11_init_125 (fun v14 hv14 => ?_)
  refine r_putf (vA (mg Γ)) rfl o cf_X11_functionNames (Or.inl (lw_all_tbl q2532)) dX11_init_127 (Or.inr ⟨hnm, rfl, (lw_all_tbl q2532)⟩) trivial (ty_array _) ?_
  refine s_aload_n o dX11_init_130 rfl 0 rfl ?_
  refine s_sipush o dX11_init_131 rfl ?_
  refine s_newa (kd := 0) o (by decide) rfl (by decide) (o.ra (by decide)) (lw_all_tbl q439) (r32 rfl) dX11_init_134 (fun v15 hv15 => ?_)
  refine r_putf (vA (mg Γ)) rfl o cf_X11_functionPlaces (Or.inl (lw_all_tbl q2533)) dX11_init_136 (Or.inr ⟨hnm, rfl, (lw_all_tbl q2533)⟩) trivial (ty_array _) ?_
  refine s_aload_n o dX11_init_139 rfl 0 rfl ?_
  refine s_sipush o dX11_init_140 rfl ?_
  refine s_newa (kd := 0) o (by decide) rfl (by decide) (o.ra (by decide)) (lw_all_tbl q439) (r32 rfl) dX11_init_143 (fun v16 hv16 => ?_)
  refine r_putf (vA (mg Γ)) rfl o cf_X11_functionNodes (Or.inl (lw_all_tbl q2534)) dX11_init_145 (Or.inr ⟨hnm, rfl, (lw_all_tbl q2534)⟩) trivial (ty_array _) ?_
  refine s_aload_n o dX11_init_148 rfl 0 rfl ?_
  refine s_bipush o dX11_init_149 rfl ?_
  refine s_newa (kd := 1) o (by decide) rfl (by decide) (o.ra (by decide)) (lw_all_tbl q438) (r32 rfl) dX11_init_151 (fun v17 hv17 => ?_)
  refine r_putf (vA (mg Γ)) rfl o cf_X11_constructorNames (Or.inl (lw_all_tbl q2536)) dX11_init_153 (Or.inr ⟨hnm, rfl, (lw_all_tbl q2536)⟩) trivial (ty_array _) ?_
  refine s_aload_n o dX11_init_156 rfl 0 rfl ?_
  refine s_bipush o dX11_init_157 rfl ?_
  refine s_newa (kd := 0) o (by decide) rfl (by decide) (o.ra (by decide)) (lw_all_tbl q439) (r32 rfl) dX11_init_159 (fun v18 hv18 => ?_)
  refine r_putf (vA (mg Γ)) rfl o cf_X11_fieldCounts (Or.inl (lw_all_tbl q2537)) dX11_init_161 (Or.inr ⟨hnm, rfl, (lw_all_tbl q2537)⟩) trivial (ty_array _) ?_
  refine s_aload_n o dX11_init_164 rfl 0 rfl ?_
  refine s_sipush o dX11_init_165 rfl ?_
  refine s_newa (kd := 0) o (by decide) rfl (by decide) (o.ra (by decide)) (lw_all_tbl q439) (r32 rfl) dX11_init_168 (fun v19 hv19 => ?_)
  refine r_putf (vA (mg Γ)) rfl o cf_X11_pileKinds (Or.inl (lw_all_tbl q2540)) dX11_init_170 (Or.inr ⟨hnm, rfl, (lw_all_tbl q2540)⟩) trivial (ty_array _) ?_
  refine s_aload_n o dX11_init_173 rfl 0 rfl ?_
  refine s_sipush o dX11_init_174 rfl ?_
  refine s_newa (kd := 0) o (by decide) rfl (by decide) (o.ra (by decide)) (lw_all_tbl q439) (r32 rfl) dX11_init_177 (fun v20 hv20 => ?_)
  refine r_putf (vA (mg Γ)) rfl o cf_X11_pileNodes (Or.inl (lw_all_tbl q2541)) dX11_init_179 (Or.inr ⟨hnm, rfl, (lw_all_tbl q2541)⟩) trivial (ty_array _) ?_
  refine s_aload_n o dX11_init_182 rfl 0 rfl ?_
  refine s_sipush o dX11_init_183 rfl ?_
  refine s_newa (kd := 0) o (by decide) rfl (by decide) (o.ra (by decide)) (lw_all_tbl q439) (r32 rfl) dX11_init_186 (fun v21 hv21 => ?_)
  refine r_putf (vA (mg Γ)) rfl o cf_X11_pileRanks (Or.inl (lw_all_tbl q2542)) dX11_init_188 (Or.inr ⟨hnm, rfl, (lw_all_tbl q2542)⟩) trivial (ty_array _) ?_
  refine s_aload_n o dX11_init_191 rfl 0 rfl ?_
  refine s_sipush o dX11_init_192 rfl ?_
  refine s_newa (kd := 0) o (by decide) rfl (by decide) (o.ra (by decide)) (lw_all_tbl q439) (r32 rfl) dX11_init_195 (fun v22 hv22 => ?_)
  refine r_putf (vA (mg Γ)) rfl o cf_X11_pileCounts (Or.inl (lw_all_tbl q2543)) dX11_init_197 (Or.inr ⟨hnm, rfl, (lw_all_tbl q2543)⟩) trivial (ty_array _) ?_
  refine s_aload_n o dX11_init_200 rfl 0 rfl ?_
  refine s_sipush o dX11_init_201 rfl ?_
  refine s_newa (kd := 0) o (by decide) rfl (by decide) (o.ra (by decide)) (lw_all_tbl q439) (r32 rfl) dX11_init_204 (fun v23 hv23 => ?_)
  refine r_putf (vA (mg Γ)) rfl o cf_X11_operandNodes (Or.inl (lw_all_tbl q2545)) dX11_init_206 (Or.inr ⟨hnm, rfl, (lw_all_tbl q2545)⟩) trivial (ty_array _) ?_
  refine s_aload_n o dX11_init_209 rfl 0 rfl ?_
  refine s_sipush o dX11_init_210 rfl ?_
  refine s_newa (kd := 0) o (by decide) rfl (by decide) (o.ra (by decide)) (lw_all_tbl q439) (r32 rfl) dX11_init_213 (fun v24 hv24 => ?_)
  refine r_putf (vA (mg Γ)) rfl o cf_X11_functionOf (Or.inl (lw_all_tbl q2551)) dX11_init_215 (Or.inr ⟨hnm, rfl, (lw_all_tbl q2551)⟩) trivial (ty_array _) ?_
  refine s_aload_n o dX11_init_218 rfl 0 rfl ?_
  refine s_sipush o dX11_init_219 rfl ?_
  refine s_newa (kd := 0) o (by decide) rfl (by decide) (o.ra (by decide)) (lw_all_tbl q439) (r32 rfl) dX11_init_222 (fun v25 hv25 => ?_)
  refine r_putf (vA (mg Γ)) rfl o cf_X11_freeCounts (Or.inl (lw_all_tbl q2552)) dX11_init_224 (Or.inr ⟨hnm, rfl, (lw_all_tbl q2552)⟩) trivial (ty_array _) ?_
  refine s_aload_n o dX11_init_227 rfl 0 rfl ?_
  refine s_sipush o dX11_init_228 rfl ?_
  refine s_newa (kd := 0) o (by decide) rfl (by decide) (o.ra (by decide)) (lw_all_tbl q439) (r32 rfl) dX11_init_231 (fun v26 hv26 => ?_)
  refine r_putf (vA (mg Γ)) rfl o cf_X11_frees (Or.inl (lw_all_tbl q2553)) dX11_init_233 (Or.inr ⟨hnm, rfl, (lw_all_tbl q2553)⟩) trivial (ty_array _) ?_
  refine s_aload_n o dX11_init_236 rfl 0 rfl ?_
  refine s_sipush o dX11_init_237 rfl ?_
  refine s_newa (kd := 0) o (by decide) rfl (by decide) (o.ra (by decide)) (lw_all_tbl q439) (r32 rfl) dX11_init_240 (fun v27 hv27 => ?_)
  refine r_putf (vA (mg Γ)) rfl o cf_X11_homes (Or.inl (lw_all_tbl q2555)) dX11_init_242 (Or.inr ⟨hnm, rfl, (lw_all_tbl q2555)⟩) trivial (ty_array _) ?_
  refine s_aload_n o dX11_init_245 rfl 0 rfl ?_
  refine s_sipush o dX11_init_246 rfl ?_
  refine s_newa (kd := 0) o (by decide) rfl (by decide) (o.ra (by decide)) (lw_all_tbl q439) (r32 rfl) dX11_init_249 (fun v28 hv28 => ?_)
  refine r_putf (vA (mg Γ)) rfl o cf_X11_owns (Or.inl (lw_all_tbl q2556)) dX11_init_251 (Or.inr ⟨hnm, rfl, (lw_all_tbl q2556)⟩) trivial (ty_array _) ?_
  refine s_aload_n o dX11_init_254 rfl 0 rfl ?_
  refine s_sipush o dX11_init_255 rfl ?_
  refine s_newa (kd := 0) o (by decide) rfl (by decide) (o.ra (by decide)) (lw_all_tbl q439) (r32 rfl) dX11_init_258 (fun v29 hv29 => ?_)
  refine r_putf (vA (mg Γ)) rfl o cf_X11_ownCounts (Or.inl (lw_all_tbl q2557)) dX11_init_260 (Or.inr ⟨hnm, rfl, (lw_all_tbl q2557)⟩) trivial (ty_array _) ?_
  refine s_aload_n o dX11_init_263 rfl 0 rfl ?_
  refine s_sipush o dX11_init_264 rfl ?_
  refine s_newa (kd := 0) o (by decide) rfl (by decide) (o.ra (by decide)) (lw_all_tbl q439) (r32 rfl) dX11_init_267 (fun v30 hv30 => ?_)
  refine r_putf (vA (mg Γ)) rfl o cf_X11_firstVariables (Or.inl (lw_all_tbl q2558)) dX11_init_269 (Or.inr ⟨hnm, rfl, (lw_all_tbl q2558)⟩) trivial (ty_array _) ?_
  refine s_aload_n o dX11_init_272 rfl 0 rfl ?_
  refine s_sipush o dX11_init_273 rfl ?_
  refine s_newa (kd := 1) o (by decide) rfl (by decide) (o.ra (by decide)) (lw_all_tbl q438) (r32 rfl) dX11_init_276 (fun v31 hv31 => ?_)
  refine r_putf (vA (mg Γ)) rfl o cf_X11_seenNames (Or.inl (lw_all_tbl q2560)) dX11_init_278 (Or.inr ⟨hnm, rfl, (lw_all_tbl q2560)⟩) trivial (ty_array _) ?_
  refine s_aload_n o dX11_init_281 rfl 0 rfl ?_
  refine s_sipush o dX11_init_282 rfl ?_
  refine s_newa (kd := 0) o (by decide) rfl (by decide) (o.ra (by decide)) (lw_all_tbl q439) (r32 rfl) dX11_init_285 (fun v32 hv32 => ?_)
  refine r_putf (vA (mg Γ)) rfl o cf_X11_seenVariables (Or.inl (lw_all_tbl q2561)) dX11_init_287 (Or.inr ⟨hnm, rfl, (lw_all_tbl q2561)⟩) trivial (ty_array _) ?_
  refine s_aload_n o dX11_init_290 rfl 0 rfl ?_
  refine s_bipush o dX11_init_291 rfl ?_
  refine s_newa (kd := 0) o (by decide) rfl (by decide) (o.ra (by decide)) (lw_all_tbl q439) (r32 rfl) dX11_init_293 (fun v33 hv33 => ?_)
  refine r_putf (vA (mg Γ)) rfl o cf_X11_arounds (Or.inl (lw_all_tbl q2563)) dX11_init_295 (Or.inr ⟨hnm, rfl, (lw_all_tbl q2563)⟩) trivial (ty_array _) ?_
  refine s_aload_n o dX11_init_298 rfl 0 rfl ?_
  refine s_sipush o dX11_init_299 rfl ?_
  refine s_newa (kd := 0) o (by decide) rfl (by decide) (o.ra (by decide)) (lw_all_tbl q439) (r32 rfl) dX11_init_302 (fun v34 hv34 => ?_)
  refine r_putf (vA (mg Γ)) rfl o cf_X11_walk (Or.inl (lw_all_tbl q2564)) dX11_init_304 (Or.inr ⟨hnm, rfl, (lw_all_tbl q2564)⟩) trivial (ty_array _) ?_
  refine s_aload_n o dX11_init_307 rfl 0 rfl ?_
  refine s_sipush o dX11_init_308 rfl ?_
  refine s_newa (kd := 0) o (by decide) rfl (by decide) (o.ra (by decide)) (lw_all_tbl q439) (r32 rfl) dX11_init_311 (fun v35 hv35 => ?_)
  refine r_putf (vA (mg Γ)) rfl o cf_X11_walkStages (Or.inl (lw_all_tbl q2565)) dX11_init_313 (Or.inr ⟨hnm, rfl, (lw_all_tbl q2565)⟩) trivial (ty_array _) ?_
  refine s_aload_n o dX11_init_316 rfl 0 rfl ?_
  refine s_sipush o dX11_init_317 rfl ?_
  refine s_newa (kd := 0) o (by decide) rfl (by decide) (o.ra (by decide)) (lw_all_tbl q439) (r32 rfl) dX11_init_320 (fun v36 hv36 => ?_)
  refine r_putf (vA (mg Γ)) rfl o cf_X11_walkChildren (Or.inl (lw_all_tbl q2566)) dX11_init_322 (Or.inr ⟨hnm, rfl, (lw_all_tbl q2566)⟩) trivial (ty_array _) ?_
  refine s_aload_n o dX11_init_325 rfl 0 rfl ?_
  refine s_sipush o dX11_init_326 rfl ?_
  refine s_newa (kd := 0) o (by decide) rfl (by decide) (o.ra (by decide)) (lw_all_tbl q439) (r32 rfl) dX11_init_329 (fun v37 hv37 => ?_)
  refine r_putf (vA (mg Γ)) rfl o cf_X11_liftKinds (Or.inl (lw_all_tbl q2568)) dX11_init_331 (Or.inr ⟨hnm, rfl, (lw_all_tbl q2568)⟩) trivial (ty_array _) ?_
  refine s_aload_n o dX11_init_334 rfl 0 rfl ?_
  refine s_sipush o dX11_init_335 rfl ?_
  refine s_newa (kd := 0) o (by decide) rfl (by decide) (o.ra (by decide)) (lw_all_tbl q439) (r32 rfl) dX11_init_338 (fun v38 hv38 => ?_)
  refine r_putf (vA (mg Γ)) rfl o cf_X11_liftValues (Or.inl (lw_all_tbl q2569)) dX11_init_340 (Or.inr ⟨hnm, rfl, (lw_all_tbl q2569)⟩) trivial (ty_array _) ?_
  refine s_aload_n o dX11_init_343 rfl 0 rfl ?_
  refine s_sipush o dX11_init_344 rfl ?_
  refine s_newa (kd := 0) o (by decide) rfl (by decide) (o.ra (by decide)) (lw_all_tbl q439) (r32 rfl) dX11_init_347 (fun v39 hv39 => ?_)
  refine r_putf (vA (mg Γ)) rfl o cf_X11_liftBegins (Or.inl (lw_all_tbl q2570)) dX11_init_349 (Or.inr ⟨hnm, rfl, (lw_all_tbl q2570)⟩) trivial (ty_array _) ?_
  refine s_aload_n o dX11_init_352 rfl 0 rfl ?_
  refine s_sipush o dX11_init_353 rfl ?_
  refine s_newa (kd := 0) o (by decide) rfl (by decide) (o.ra (by decide)) (lw_all_tbl q439) (r32 rfl) dX11_init_356 (fun v40 hv40 => ?_)
  refine r_putf (vA (mg Γ)) rfl o cf_X11_liftCounts (Or.inl (lw_all_tbl q2571)) dX11_init_358 (Or.inr ⟨hnm, rfl, (lw_all_tbl q2571)⟩) trivial (ty_array _) ?_
  refine s_aload_n o dX11_init_361 rfl 0 rfl ?_
  refine s_sipush o dX11_init_362 rfl ?_
  refine s_newa (kd := 0) o (by decide) rfl (by decide) (o.ra (by decide)) (lw_all_tbl q439) (r32 rfl) dX11_init_365 (fun v41 hv41 => ?_)
  refine r_putf (vA (mg Γ)) rfl o cf_X11_liftVariables (Or.inl (lw_all_tbl q2572)) dX11_init_367 (Or.inr ⟨hnm, rfl, (lw_all_tbl q2572)⟩) trivial (ty_array _) ?_
  refine s_aload_n o dX11_init_370 rfl 0 rfl ?_
  refine s_sipush o dX11_init_371 rfl ?_
  refine s_newa (kd := 3) o (by decide) rfl (by decide) (o.ra (by decide)) (lw_all_tbl q1099) (r32 rfl) dX11_init_374 (fun v42 hv42 => ?_)
  refine r_putf (vA (mg Γ)) rfl o cf_X11_liftNeeds (Or.inl (lw_all_tbl q2573)) dX11_init_376 (Or.inr ⟨hnm, rfl, (lw_all_tbl q2573)⟩) trivial (ty_array _) ?_
  refine s_aload_n o dX11_init_379 rfl 0 rfl ?_
  refine s_sipush o dX11_init_380 rfl ?_
  refine s_newa (kd := 0) o (by decide) rfl (by decide) (o.ra (by decide)) (lw_all_tbl q439) (r32 rfl) dX11_init_383 (fun v43 hv43 => ?_)
  refine r_putf (vA (mg Γ)) rfl o cf_X11_heights (Or.inl (lw_all_tbl q2574)) dX11_init_385 (Or.inr ⟨hnm, rfl, (lw_all_tbl q2574)⟩) trivial (ty_array _) ?_
  refine s_aload_n o dX11_init_388 rfl 0 rfl ?_
  refine s_sipush o dX11_init_389 rfl ?_
  refine s_newa (kd := 0) o (by decide) rfl (by decide) (o.ra (by decide)) (lw_all_tbl q439) (r32 rfl) dX11_init_392 (fun v44 hv44 => ?_)
  refine r_putf (vA (mg Γ)) rfl o cf_X11_liftFunctions (Or.inl (lw_all_tbl q2575)) dX11_init_394 (Or.inr ⟨hnm, rfl, (lw_all_tbl q2575)⟩) trivial (ty_array _) ?_
  refine s_aload_n o dX11_init_397 rfl 0 rfl ?_
  refine s_sipush o dX11_init_398 rfl ?_
  refine s_newa (kd := 1) o (by decide) rfl (by decide) (o.ra (by decide)) (lw_all_tbl q438) (r32 rfl) dX11_init_401 (fun v45 hv45 => ?_)
  refine r_putf (vA (mg Γ)) rfl o cf_X11_outside (Or.inl (lw_all_tbl q2576)) dX11_init_403 (Or.inr ⟨hnm, rfl, (lw_all_tbl q2576)⟩) trivial (ty_array _) ?_
  refine s_aload_n o dX11_init_406 rfl 0 rfl ?_
  refine s_sipush o dX11_init_407 rfl ?_
  refine s_newa (kd := 0) o (by decide) rfl (by decide) (o.ra (by decide)) (lw_all_tbl q439) (r32 rfl) dX11_init_410 (fun v46 hv46 => ?_)
  refine r_putf (vA (mg Γ)) rfl o cf_X11_liftChildren (Or.inl (lw_all_tbl q2578)) dX11_init_412 (Or.inr ⟨hnm, rfl, (lw_all_tbl q2578)⟩) trivial (ty_array _) ?_
  refine s_aload_n o dX11_init_415 rfl 0 rfl ?_
  refine s_sipush o dX11_init_416 rfl ?_
  refine s_newa (kd := 0) o (by decide) rfl (by decide) (o.ra (by decide)) (lw_all_tbl q439) (r32 rfl) dX11_init_419 (fun v47 hv47 => ?_)
  refine r_putf (vA (mg Γ)) rfl o cf_X11_branchSorts (Or.inl (lw_all_tbl q2579)) dX11_init_421 (Or.inr ⟨hnm, rfl, (lw_all_tbl q2579)⟩) trivial (ty_array _) ?_
  refine s_aload_n o dX11_init_424 rfl 0 rfl ?_
  refine s_sipush o dX11_init_425 rfl ?_
  refine s_newa (kd := 0) o (by decide) rfl (by decide) (o.ra (by decide)) (lw_all_tbl q439) (r32 rfl) dX11_init_428 (fun v48 hv48 => ?_)
  refine r_putf (vA (mg Γ)) rfl o cf_X11_branchValues (Or.inl (lw_all_tbl q2580)) dX11_init_430 (Or.inr ⟨hnm, rfl, (lw_all_tbl q2580)⟩) trivial (ty_array _) ?_
  refine s_aload_n o dX11_init_433 rfl 0 rfl ?_
  refine s_sipush o dX11_init_434 rfl ?_
  refine s_newa (kd := 0) o (by decide) rfl (by decide) (o.ra (by decide)) (lw_all_tbl q439) (r32 rfl) dX11_init_437 (fun v49 hv49 => ?_)
  refine r_putf (vA (mg Γ)) rfl o cf_X11_branchVariables (Or.inl (lw_all_tbl q2581)) dX11_init_439 (Or.inr ⟨hnm, rfl, (lw_all_tbl q2581)⟩) trivial (ty_array _) ?_
  refine s_aload_n o dX11_init_442 rfl 0 rfl ?_
  refine s_sipush o dX11_init_443 rfl ?_
  refine s_newa (kd := 0) o (by decide) rfl (by decide) (o.ra (by decide)) (lw_all_tbl q439) (r32 rfl) dX11_init_446 (fun v50 hv50 => ?_)
  refine r_putf (vA (mg Γ)) rfl o cf_X11_branchCounts (Or.inl (lw_all_tbl q2582)) dX11_init_448 (Or.inr ⟨hnm, rfl, (lw_all_tbl q2582)⟩) trivial (ty_array _) ?_
  refine s_aload_n o dX11_init_451 rfl 0 rfl ?_
  refine s_sipush o dX11_init_452 rfl ?_
  refine s_newa (kd := 0) o (by decide) rfl (by decide) (o.ra (by decide)) (lw_all_tbl q439) (r32 rfl) dX11_init_455 (fun v51 hv51 => ?_)
  refine r_putf (vA (mg Γ)) rfl o cf_X11_begins (Or.inl (lw_all_tbl q2583)) dX11_init_457 (Or.inr ⟨hnm, rfl, (lw_all_tbl q2583)⟩) trivial (ty_array _) ?_
  refine s_aload_n o dX11_init_460 rfl 0 rfl ?_
  refine s_sipush o dX11_init_461 rfl ?_
  refine s_newa (kd := 0) o (by decide) rfl (by decide) (o.ra (by decide)) (lw_all_tbl q439) (r32 rfl) dX11_init_464 (fun v52 hv52 => ?_)
  refine r_putf (vA (mg Γ)) rfl o cf_X11_roots (Or.inl (lw_all_tbl q2584)) dX11_init_466 (Or.inr ⟨hnm, rfl, (lw_all_tbl q2584)⟩) trivial (ty_array _) ?_
  refine s_aload_n o dX11_init_469 rfl 0 rfl ?_
  refine s_sipush o dX11_init_470 rfl ?_
  refine s_newa (kd := 0) o (by decide) rfl (by decide) (o.ra (by decide)) (lw_all_tbl q439) (r32 rfl) dX11_init_473 (fun v53 hv53 => ?_)
  refine r_putf (vA (mg Γ)) rfl o cf_X11_variableCounts (Or.inl (lw_all_tbl q2585)) dX11_init_475 (Or.inr ⟨hnm, rfl, (lw_all_tbl q2585)⟩) trivial (ty_array _) ?_
  refine s_aload_n o dX11_init_478 rfl 0 rfl ?_
  refine s_sipush o dX11_init_479 rfl ?_
  refine s_newa (kd := 0) o (by decide) rfl (by decide) (o.ra (by decide)) (lw_all_tbl q439) (r32 rfl) dX11_init_482 (fun v54 hv54 => ?_)
  refine r_putf (vA (mg Γ)) rfl o cf_X11_parameterCounts (Or.inl (lw_all_tbl q2586)) dX11_init_484 (Or.inr ⟨hnm, rfl, (lw_all_tbl q2586)⟩) trivial (ty_array _) ?_
  refine s_aload_n o dX11_init_487 rfl 0 rfl ?_
  refine s_sipush o dX11_init_488 rfl ?_
  refine s_newa (kd := 0) o (by decide) rfl (by decide) (o.ra (by decide)) (lw_all_tbl q439) (r32 rfl) dX11_init_491 (fun v55 hv55 => ?_)
  refine r_putf (vA (mg Γ)) rfl o cf_X11_heldNodes (Or.inl (lw_all_tbl q2588)) dX11_init_493 (Or.inr ⟨hnm, rfl, (lw_all_tbl q2588)⟩) trivial (ty_array _) ?_
  refine s_aload_n o dX11_init_496 rfl 0 rfl ?_
  refine s_ldc (n := 163840) o dX11_init_497 (lw_all_tbl q2500) rfl ?_
  refine s_newa (kd := 3) o (by decide) rfl (by decide) (o.ra (by decide)) (lw_all_tbl q1099) (r32 rfl) dX11_init_499 (fun v56 hv56 => ?_)
  refine r_putf (vA (mg Γ)) rfl o cf_X11_tables (Or.inl (lw_all_tbl q2589)) dX11_init_501 (Or.inr ⟨hnm, rfl, (lw_all_tbl q2589)⟩) trivial (ty_array _) ?_
  refine s_aload_n o dX11_init_504 rfl 0 rfl ?_
  refine s_sipush o dX11_init_505 rfl ?_
  refine s_newa (kd := 3) o (by decide) rfl (by decide) (o.ra (by decide)) (lw_all_tbl q1099) (r32 rfl) dX11_init_508 (fun v57 hv57 => ?_)
  refine r_putf (vA (mg Γ)) rfl o cf_X11_bitOf (Or.inl (lw_all_tbl q2590)) dX11_init_510 (Or.inr ⟨hnm, rfl, (lw_all_tbl q2590)⟩) trivial (ty_array _) ?_
  refine s_aload_n o dX11_init_513 rfl 0 rfl ?_
  refine s_sipush o dX11_init_514 rfl ?_
  refine s_newa (kd := 3) o (by decide) rfl (by decide) (o.ra (by decide)) (lw_all_tbl q1099) (r32 rfl) dX11_init_517 (fun v58 hv58 => ?_)
  refine r_putf (vA (mg Γ)) rfl o cf_X11_has (Or.inl (lw_all_tbl q2591)) dX11_init_519 (Or.inr ⟨hnm, rfl, (lw_all_tbl q2591)⟩) trivial (ty_array _) ?_
  refine s_aload_n o dX11_init_522 rfl 0 rfl ?_
  refine s_iconst o dX11_init_523 ?_
  refine r_putf vI rfl o cf_X11_lastPlace (Or.inl (lw_all_tbl q2594)) dX11_init_524 (Or.inl rfl) (r32 rfl) ty_int ?_
  refine s_aload_n o dX11_init_527 rfl 0 rfl ?_
  refine s_sipush o dX11_init_528 rfl ?_
  refine s_newa (kd := 3) o (by decide) rfl (by decide) (o.ra (by decide)) (lw_all_tbl q1099) (r32 rfl) dX11_init_531 (fun v59 hv59 => ?_)
  refine r_putf (vA (mg Γ)) rfl o cf_X11_needed (Or.inl (lw_all_tbl q2595)) dX11_init_533 (Or.inr ⟨hnm, rfl, (lw_all_tbl q2595)⟩) trivial (ty_array _) ?_
  refine s_aload_n o dX11_init_536 rfl 0 rfl ?_
  refine s_sipush o dX11_init_537 rfl ?_
  refine s_newa (kd := 0) o (by decide) rfl (by decide) (o.ra (by decide)) (lw_all_tbl q439) (r32 rfl) dX11_init_540 (fun v60 hv60 => ?_)
  refine r_putf (vA (mg Γ)) rfl o cf_X11_cellSorts (Or.inl (lw_all_tbl q2596)) dX11_init_542 (Or.inr ⟨hnm, rfl, (lw_all_tbl q2596)⟩) trivial (ty_array _) ?_
  refine s_aload_n o dX11_init_545 rfl 0 rfl ?_
  refine s_sipush o dX11_init_546 rfl ?_
  refine s_newa (kd := 0) o (by decide) rfl (by decide) (o.ra (by decide)) (lw_all_tbl q439) (r32 rfl) dX11_init_549 (fun v61 hv61 => ?_)
  refine r_putf (vA (mg Γ)) rfl o cf_X11_cellValues (Or.inl (lw_all_tbl q2597)) dX11_init_551 (Or.inr ⟨hnm, rfl, (lw_all_tbl q2597)⟩) trivial (ty_array _) ?_
  refine s_aload_n o dX11_init_554 rfl 0 rfl ?_
  refine s_sipush o dX11_init_555 rfl ?_
  refine s_newa (kd := 1) o (by decide) rfl (by decide) (o.ra (by decide)) (lw_all_tbl q438) (r32 rfl) dX11_init_558 (fun v62 hv62 => ?_)
  refine r_putf (vA (mg Γ)) rfl o cf_X11_cellDone (Or.inl (lw_all_tbl q2598)) dX11_init_560 (Or.inr ⟨hnm, rfl, (lw_all_tbl q2598)⟩) trivial (ty_array _) ?_
  refine s_aload_n o dX11_init_563 rfl 0 rfl ?_
  refine s_sipush o dX11_init_564 rfl ?_
  refine s_newa (kd := 0) o (by decide) rfl (by decide) (o.ra (by decide)) (lw_all_tbl q439) (r32 rfl) dX11_init_567 (fun v63 hv63 => ?_)
  refine r_putf (vA (mg Γ)) rfl o cf_X11_cellBegins (Or.inl (lw_all_tbl q2599)) dX11_init_569 (Or.inr ⟨hnm, rfl, (lw_all_tbl q2599)⟩) trivial (ty_array _) ?_
  refine s_aload_n o dX11_init_572 rfl 0 rfl ?_
  refine s_sipush o dX11_init_573 rfl ?_
  refine s_newa (kd := 0) o (by decide) rfl (by decide) (o.ra (by decide)) (lw_all_tbl q439) (r32 rfl) dX11_init_576 (fun v64 hv64 => ?_)
  refine r_putf (vA (mg Γ)) rfl o cf_X11_cellCounts (Or.inl (lw_all_tbl q2600)) dX11_init_578 (Or.inr ⟨hnm, rfl, (lw_all_tbl q2600)⟩) trivial (ty_array _) ?_
  refine s_aload_n o dX11_init_581 rfl 0 rfl ?_
  refine s_sipush o dX11_init_582 rfl ?_
  refine s_newa (kd := 1) o (by decide) rfl (by decide) (o.ra (by decide)) (lw_all_tbl q438) (r32 rfl) dX11_init_585 (fun v65 hv65 => ?_)
  refine r_putf (vA (mg Γ)) rfl o cf_X11_fields (Or.inl (lw_all_tbl q2603)) dX11_init_587 (Or.inr ⟨hnm, rfl, (lw_all_tbl q2603)⟩) trivial (ty_array _) ?_
  refine s_aload_n o dX11_init_590 rfl 0 rfl ?_
  refine s_sipush o dX11_init_591 rfl ?_
  refine s_newa (kd := 0) o (by decide) rfl (by decide) (o.ra (by decide)) (lw_all_tbl q439) (r32 rfl) dX11_init_594 (fun v66 hv66 => ?_)
  refine r_putf (vA (mg Γ)) rfl o cf_X11_calledCounts (Or.inl (lw_all_tbl q2614)) dX11_init_596 (Or.inr ⟨hnm, rfl, (lw_all_tbl q2614)⟩) trivial (ty_array _) ?_
  refine s_aload_n o dX11_init_599 rfl 0 rfl ?_
  refine s_sipush o dX11_init_600 rfl ?_
  refine s_newa (kd := 0) o (by decide) rfl (by decide) (o.ra (by decide)) (lw_all_tbl q439) (r32 rfl) dX11_init_603 (fun v67 hv67 => ?_)
  refine r_putf (vA (mg Γ)) rfl o cf_X11_row (Or.inl (lw_all_tbl q2618)) dX11_init_605 (Or.inr ⟨hnm, rfl, (lw_all_tbl q2618)⟩) trivial (ty_array _) ?_
  refine s_aload_n o dX11_init_608 rfl 0 rfl ?_
  refine s_ldc (n := 202000) o dX11_init_609 (lw_all_tbl q2501) rfl ?_
  refine s_newa (kd := 0) o (by decide) rfl (by decide) (o.ra (by decide)) (lw_all_tbl q439) (r32 rfl) dX11_init_611 (fun v68 hv68 => ?_)
  refine r_putf (vA (mg Γ)) rfl o cf_X11_waitKinds (Or.inl (lw_all_tbl q2621)) dX11_init_613 (Or.inr ⟨hnm, rfl, (lw_all_tbl q2621)⟩) trivial (ty_array _) ?_
  refine s_aload_n o dX11_init_616 rfl 0 rfl ?_
  refine s_ldc (n := 202000) o dX11_init_617 (lw_all_tbl q2501) rfl ?_
  refine s_newa (kd := 0) o (by decide) rfl (by decide) (o.ra (by decide)) (lw_all_tbl q439) (r32 rfl) dX11_init_619 (fun v69 hv69 => ?_)
  refine r_putf (vA (mg Γ)) rfl o cf_X11_waitBases (Or.inl (lw_all_tbl q2622)) dX11_init_621 (Or.inr ⟨hnm, rfl, (lw_all_tbl q2622)⟩) trivial (ty_array _) ?_
  refine s_aload_n o dX11_init_624 rfl 0 rfl ?_
  refine s_ldc (n := 202000) o dX11_init_625 (lw_all_tbl q2501) rfl ?_
  refine s_newa (kd := 0) o (by decide) rfl (by decide) (o.ra (by decide)) (lw_all_tbl q439) (r32 rfl) dX11_init_627 (fun v70 hv70 => ?_)
  refine r_putf (vA (mg Γ)) rfl o cf_X11_waitMore (Or.inl (lw_all_tbl q2623)) dX11_init_629 (Or.inr ⟨hnm, rfl, (lw_all_tbl q2623)⟩) trivial (ty_array _) ?_
  refine s_aload_n o dX11_init_632 rfl 0 rfl ?_
  refine s_ldc (n := 580000) o dX11_init_633 (lw_all_tbl q2502) rfl ?_
  refine s_newa (kd := 1) o (by decide) rfl (by decide) (o.ra (by decide)) (lw_all_tbl q438) (r32 rfl) dX11_init_635 (fun v71 hv71 => ?_)
  refine r_putf (vA (mg Γ)) rfl o cf_X11_stack (Or.inl (lw_all_tbl q2625)) dX11_init_637 (Or.inr ⟨hnm, rfl, (lw_all_tbl q2625)⟩) trivial (ty_array _) ?_
  refine s_aload_n o dX11_init_640 rfl 0 rfl ?_
  refine s_ldc (n := 193000) o dX11_init_641 (lw_all_tbl q2503) rfl ?_
  refine s_newa (kd := 1) o (by decide) rfl (by decide) (o.ra (by decide)) (lw_all_tbl q438) (r32 rfl) dX11_init_643 (fun v72 hv72 => ?_)
  refine r_putf (vA (mg Γ)) rfl o cf_X11_locals (Or.inl (lw_all_tbl q2628)) dX11_init_645 (Or.inr ⟨hnm, rfl, (lw_all_tbl q2628)⟩) trivial (ty_array _) ?_
  refine s_aload_n o dX11_init_648 rfl 0 rfl ?_
  refine s_sipush o dX11_init_649 rfl ?_
  refine s_newa (kd := 0) o (by decide) rfl (by decide) (o.ra (by decide)) (lw_all_tbl q439) (r32 rfl) dX11_init_652 (fun v73 hv73 => ?_)
  refine r_putf (vA (mg Γ)) rfl o cf_X11_taskParts (Or.inl (lw_all_tbl q2633)) dX11_init_654 (Or.inr ⟨hnm, rfl, (lw_all_tbl q2633)⟩) trivial (ty_array _) ?_
  refine s_aload_n o dX11_init_657 rfl 0 rfl ?_
  refine s_sipush o dX11_init_658 rfl ?_
  refine s_newa (kd := 0) o (by decide) rfl (by decide) (o.ra (by decide)) (lw_all_tbl q439) (r32 rfl) dX11_init_661 (fun v74 hv74 => ?_)
  refine r_putf (vA (mg Γ)) rfl o cf_X11_taskPlaces (Or.inl (lw_all_tbl q2634)) dX11_init_663 (Or.inr ⟨hnm, rfl, (lw_all_tbl q2634)⟩) trivial (ty_array _) ?_
  refine s_aload_n o dX11_init_666 rfl 0 rfl ?_
  refine s_sipush o dX11_init_667 rfl ?_
  refine s_newa (kd := 0) o (by decide) rfl (by decide) (o.ra (by decide)) (lw_all_tbl q439) (r32 rfl) dX11_init_670 (fun v75 hv75 => ?_)
  refine r_putf (vA (mg Γ)) rfl o cf_X11_functionCells (Or.inl (lw_all_tbl q2635)) dX11_init_672 (Or.inr ⟨hnm, rfl, (lw_all_tbl q2635)⟩) trivial (ty_array _) ?_
  refine s_aload_n o dX11_init_675 rfl 0 rfl ?_
  refine s_sipush o dX11_init_676 rfl ?_
  refine s_newa (kd := 1) o (by decide) rfl (by decide) (o.ra (by decide)) (lw_all_tbl q438) (r32 rfl) dX11_init_679 (fun v76 hv76 => ?_)
  refine r_putf (vA (mg Γ)) rfl o cf_X11_pendings (Or.inl (lw_all_tbl q2637)) dX11_init_681 (Or.inr ⟨hnm, rfl, (lw_all_tbl q2637)⟩) trivial (ty_array _) ?_
  refine s_aload_n o dX11_init_684 rfl 0 rfl ?_
  refine s_sipush o dX11_init_685 rfl ?_
  refine s_newa (kd := 0) o (by decide) rfl (by decide) (o.ra (by decide)) (lw_all_tbl q439) (r32 rfl) dX11_init_688 (fun v77 hv77 => ?_)
  refine r_putf (vA (mg Γ)) rfl o cf_X11_draft (Or.inl (lw_all_tbl q2639)) dX11_init_690 (Or.inr ⟨hnm, rfl, (lw_all_tbl q2639)⟩) trivial (ty_array _) ?_
  exact s_vret o rfl dX11_init_693 (fun _ hh => hh)
