/-! PRINTED: the fields of the twin -/
set_option maxRecDepth 100000
theorem tf_thrown : tfl 0 "thrown" "I" .int false = true := by decide +kernel
theorem tj_thrown : (tj 0 == 0) = true := by decide +kernel
theorem tf_text : tfl 1 "text" "[I" (.array .int) true = true := by decide +kernel
theorem ta_text : (!(tj 1 == 0) && decide (((t0 + tj 1 : Nat) : Int) = 22)) = true := by decide +kernel
theorem tr_text : tar 1 0 3000 22 = true := by decide +kernel
theorem tf_size : tfl 2 "size" "I" .int false = true := by decide +kernel
theorem tj_size : (tj 2 == 0) = true := by decide +kernel
theorem tf_out : tfl 3 "out" "[I" (.array .int) true = true := by decide +kernel
theorem ta_out : (!(tj 3 == 0) && decide (((t0 + tj 3 : Nat) : Int) = 23)) = true := by decide +kernel
theorem tr_out : tar 3 0 12000 23 = true := by decide +kernel
theorem tf_outSize : tfl 4 "outSize" "I" .int false = true := by decide +kernel
theorem tj_outSize : (tj 4 == 0) = true := by decide +kernel
theorem tf_at : tfl 5 "at" "I" .int false = true := by decide +kernel
theorem tj_at : (tj 5 == 0) = true := by decide +kernel
theorem tf_word : tfl 6 "word" "I" .int false = true := by decide +kernel
theorem tj_word : (tj 6 == 0) = true := by decide +kernel
theorem tf_wordPlace : tfl 7 "wordPlace" "I" .int false = true := by decide +kernel
theorem tj_wordPlace : (tj 7 == 0) = true := by decide +kernel
theorem tf_wordName : tfl 8 "wordName" "J" .long false = true := by decide +kernel
theorem tj_wordName : (tj 8 == 0) = true := by decide +kernel
theorem tf_wordNumber : tfl 9 "wordNumber" "I" .int false = true := by decide +kernel
theorem tj_wordNumber : (tj 9 == 0) = true := by decide +kernel
theorem tf_fault : tfl 10 "fault" "I" .int false = true := by decide +kernel
theorem tj_fault : (tj 10 == 0) = true := by decide +kernel
theorem tf_faultPlace : tfl 11 "faultPlace" "I" .int false = true := by decide +kernel
theorem tj_faultPlace : (tj 11 == 0) = true := by decide +kernel
theorem tf_nodes : tfl 12 "nodes" "I" .int false = true := by decide +kernel
theorem tj_nodes : (tj 12 == 0) = true := by decide +kernel
theorem tf_kinds : tfl 13 "kinds" "[I" (.array .int) true = true := by decide +kernel
theorem ta_kinds : (!(tj 13 == 0) && decide (((t0 + tj 13 : Nat) : Int) = 24)) = true := by decide +kernel
theorem tr_kinds : tar 13 0 3200 24 = true := by decide +kernel
theorem tf_firsts : tfl 14 "firsts" "[I" (.array .int) true = true := by decide +kernel
theorem ta_firsts : (!(tj 14 == 0) && decide (((t0 + tj 14 : Nat) : Int) = 25)) = true := by decide +kernel
theorem tr_firsts : tar 14 0 3200 25 = true := by decide +kernel
theorem tf_seconds : tfl 15 "seconds" "[I" (.array .int) true = true := by decide +kernel
theorem ta_seconds : (!(tj 15 == 0) && decide (((t0 + tj 15 : Nat) : Int) = 26)) = true := by decide +kernel
theorem tr_seconds : tar 15 0 3200 26 = true := by decide +kernel
theorem tf_nexts : tfl 16 "nexts" "[I" (.array .int) true = true := by decide +kernel
theorem ta_nexts : (!(tj 16 == 0) && decide (((t0 + tj 16 : Nat) : Int) = 27)) = true := by decide +kernel
theorem tr_nexts : tar 16 0 3200 27 = true := by decide +kernel
theorem tf_places : tfl 17 "places" "[I" (.array .int) true = true := by decide +kernel
theorem ta_places : (!(tj 17 == 0) && decide (((t0 + tj 17 : Nat) : Int) = 28)) = true := by decide +kernel
theorem tr_places : tar 17 0 3200 28 = true := by decide +kernel
theorem tf_values : tfl 18 "values" "[I" (.array .int) true = true := by decide +kernel
theorem ta_values : (!(tj 18 == 0) && decide (((t0 + tj 18 : Nat) : Int) = 29)) = true := by decide +kernel
theorem tr_values : tar 18 0 3200 29 = true := by decide +kernel
theorem tf_sorts : tfl 19 "sorts" "[I" (.array .int) true = true := by decide +kernel
theorem ta_sorts : (!(tj 19 == 0) && decide (((t0 + tj 19 : Nat) : Int) = 30)) = true := by decide +kernel
theorem tr_sorts : tar 19 0 3200 30 = true := by decide +kernel
theorem tf_nodeNames : tfl 20 "nodeNames" "[J" (.array .long) true = true := by decide +kernel
theorem ta_nodeNames : (!(tj 20 == 0) && decide (((t0 + tj 20 : Nat) : Int) = 31)) = true := by decide +kernel
theorem tr_nodeNames : tar 20 1 3200 31 = true := by decide +kernel
theorem tf_giveBegins : tfl 21 "giveBegins" "[I" (.array .int) true = true := by decide +kernel
theorem ta_giveBegins : (!(tj 21 == 0) && decide (((t0 + tj 21 : Nat) : Int) = 32)) = true := by decide +kernel
theorem tr_giveBegins : tar 21 0 3200 32 = true := by decide +kernel
theorem tf_giveCounts : tfl 22 "giveCounts" "[I" (.array .int) true = true := by decide +kernel
theorem ta_giveCounts : (!(tj 22 == 0) && decide (((t0 + tj 22 : Nat) : Int) = 33)) = true := by decide +kernel
theorem tr_giveCounts : tar 22 0 3200 33 = true := by decide +kernel
theorem tf_gives : tfl 23 "gives" "I" .int false = true := by decide +kernel
theorem tj_gives : (tj 23 == 0) = true := by decide +kernel
theorem tf_given : tfl 24 "given" "[J" (.array .long) true = true := by decide +kernel
theorem ta_given : (!(tj 24 == 0) && decide (((t0 + tj 24 : Nat) : Int) = 34)) = true := by decide +kernel
theorem tr_given : tar 24 1 3200 34 = true := by decide +kernel
theorem tf_parts : tfl 25 "parts" "I" .int false = true := by decide +kernel
theorem tj_parts : (tj 25 == 0) = true := by decide +kernel
theorem tf_allParts : tfl 26 "allParts" "I" .int false = true := by decide +kernel
theorem tj_allParts : (tj 26 == 0) = true := by decide +kernel
theorem tf_functions : tfl 27 "functions" "I" .int false = true := by decide +kernel
theorem tj_functions : (tj 27 == 0) = true := by decide +kernel
theorem tf_functionNames : tfl 28 "functionNames" "[J" (.array .long) true = true := by decide +kernel
theorem ta_functionNames : (!(tj 28 == 0) && decide (((t0 + tj 28 : Nat) : Int) = 35)) = true := by decide +kernel
theorem tr_functionNames : tar 28 1 640 35 = true := by decide +kernel
theorem tf_functionPlaces : tfl 29 "functionPlaces" "[I" (.array .int) true = true := by decide +kernel
theorem ta_functionPlaces : (!(tj 29 == 0) && decide (((t0 + tj 29 : Nat) : Int) = 36)) = true := by decide +kernel
theorem tr_functionPlaces : tar 29 0 640 36 = true := by decide +kernel
theorem tf_functionNodes : tfl 30 "functionNodes" "[I" (.array .int) true = true := by decide +kernel
theorem ta_functionNodes : (!(tj 30 == 0) && decide (((t0 + tj 30 : Nat) : Int) = 37)) = true := by decide +kernel
theorem tr_functionNodes : tar 30 0 640 37 = true := by decide +kernel
theorem tf_constructors : tfl 31 "constructors" "I" .int false = true := by decide +kernel
theorem tj_constructors : (tj 31 == 0) = true := by decide +kernel
theorem tf_constructorNames : tfl 32 "constructorNames" "[J" (.array .long) true = true := by decide +kernel
theorem ta_constructorNames : (!(tj 32 == 0) && decide (((t0 + tj 32 : Nat) : Int) = 38)) = true := by decide +kernel
theorem tr_constructorNames : tar 32 1 30 38 = true := by decide +kernel
theorem tf_fieldCounts : tfl 33 "fieldCounts" "[I" (.array .int) true = true := by decide +kernel
theorem ta_fieldCounts : (!(tj 33 == 0) && decide (((t0 + tj 33 : Nat) : Int) = 39)) = true := by decide +kernel
theorem tr_fieldCounts : tar 33 0 30 39 = true := by decide +kernel
theorem tf_open : tfl 34 "open" "I" .int false = true := by decide +kernel
theorem tj_open : (tj 34 == 0) = true := by decide +kernel
theorem tf_piled : tfl 35 "piled" "I" .int false = true := by decide +kernel
theorem tj_piled : (tj 35 == 0) = true := by decide +kernel
theorem tf_pileKinds : tfl 36 "pileKinds" "[I" (.array .int) true = true := by decide +kernel
theorem ta_pileKinds : (!(tj 36 == 0) && decide (((t0 + tj 36 : Nat) : Int) = 40)) = true := by decide +kernel
theorem tr_pileKinds : tar 36 0 3200 40 = true := by decide +kernel
theorem tf_pileNodes : tfl 37 "pileNodes" "[I" (.array .int) true = true := by decide +kernel
theorem ta_pileNodes : (!(tj 37 == 0) && decide (((t0 + tj 37 : Nat) : Int) = 41)) = true := by decide +kernel
theorem tr_pileNodes : tar 37 0 3200 41 = true := by decide +kernel
theorem tf_pileRanks : tfl 38 "pileRanks" "[I" (.array .int) true = true := by decide +kernel
theorem ta_pileRanks : (!(tj 38 == 0) && decide (((t0 + tj 38 : Nat) : Int) = 42)) = true := by decide +kernel
theorem tr_pileRanks : tar 38 0 3200 42 = true := by decide +kernel
theorem tf_pileCounts : tfl 39 "pileCounts" "[I" (.array .int) true = true := by decide +kernel
theorem ta_pileCounts : (!(tj 39 == 0) && decide (((t0 + tj 39 : Nat) : Int) = 43)) = true := by decide +kernel
theorem tr_pileCounts : tar 39 0 3200 43 = true := by decide +kernel
theorem tf_operands : tfl 40 "operands" "I" .int false = true := by decide +kernel
theorem tj_operands : (tj 40 == 0) = true := by decide +kernel
theorem tf_operandNodes : tfl 41 "operandNodes" "[I" (.array .int) true = true := by decide +kernel
theorem ta_operandNodes : (!(tj 41 == 0) && decide (((t0 + tj 41 : Nat) : Int) = 44)) = true := by decide +kernel
theorem tr_operandNodes : tar 41 0 3200 44 = true := by decide +kernel
theorem tf_startsE : tfl 42 "startsE" "Z" .boolean false = true := by decide +kernel
theorem tj_startsE : (tj 42 == 0) = true := by decide +kernel
theorem tf_wants : tfl 43 "wants" "Z" .boolean false = true := by decide +kernel
theorem tj_wants : (tj 43 == 0) = true := by decide +kernel
theorem tf_isApplied : tfl 44 "isApplied" "Z" .boolean false = true := by decide +kernel
theorem tj_isApplied : (tj 44 == 0) = true := by decide +kernel
theorem tf_isEnded : tfl 45 "isEnded" "Z" .boolean false = true := by decide +kernel
theorem tj_isEnded : (tj 45 == 0) = true := by decide +kernel
theorem tf_named : tfl 46 "named" "I" .int false = true := by decide +kernel
theorem tj_named : (tj 46 == 0) = true := by decide +kernel
theorem tf_functionOf : tfl 47 "functionOf" "[I" (.array .int) true = true := by decide +kernel
theorem ta_functionOf : (!(tj 47 == 0) && decide (((t0 + tj 47 : Nat) : Int) = 45)) = true := by decide +kernel
theorem tr_functionOf : tar 47 0 3200 45 = true := by decide +kernel
theorem tf_freeCounts : tfl 48 "freeCounts" "[I" (.array .int) true = true := by decide +kernel
theorem ta_freeCounts : (!(tj 48 == 0) && decide (((t0 + tj 48 : Nat) : Int) = 46)) = true := by decide +kernel
theorem tr_freeCounts : tar 48 0 640 46 = true := by decide +kernel
theorem tf_frees : tfl 49 "frees" "[I" (.array .int) true = true := by decide +kernel
theorem ta_frees : (!(tj 49 == 0) && decide (((t0 + tj 49 : Nat) : Int) = 47)) = true := by decide +kernel
theorem tr_frees : tar 49 0 5760 47 = true := by decide +kernel
theorem tf_variables : tfl 50 "variables" "I" .int false = true := by decide +kernel
theorem tj_variables : (tj 50 == 0) = true := by decide +kernel
theorem tf_homes : tfl 51 "homes" "[I" (.array .int) true = true := by decide +kernel
theorem ta_homes : (!(tj 51 == 0) && decide (((t0 + tj 51 : Nat) : Int) = 48)) = true := by decide +kernel
theorem tr_homes : tar 51 0 3200 48 = true := by decide +kernel
theorem tf_owns : tfl 52 "owns" "[I" (.array .int) true = true := by decide +kernel
theorem ta_owns : (!(tj 52 == 0) && decide (((t0 + tj 52 : Nat) : Int) = 49)) = true := by decide +kernel
theorem tr_owns : tar 52 0 3200 49 = true := by decide +kernel
theorem tf_ownCounts : tfl 53 "ownCounts" "[I" (.array .int) true = true := by decide +kernel
theorem ta_ownCounts : (!(tj 53 == 0) && decide (((t0 + tj 53 : Nat) : Int) = 50)) = true := by decide +kernel
theorem tr_ownCounts : tar 53 0 640 50 = true := by decide +kernel
theorem tf_firstVariables : tfl 54 "firstVariables" "[I" (.array .int) true = true := by decide +kernel
theorem ta_firstVariables : (!(tj 54 == 0) && decide (((t0 + tj 54 : Nat) : Int) = 51)) = true := by decide +kernel
theorem tr_firstVariables : tar 54 0 3200 51 = true := by decide +kernel
theorem tf_seen : tfl 55 "seen" "I" .int false = true := by decide +kernel
theorem tj_seen : (tj 55 == 0) = true := by decide +kernel
theorem tf_seenNames : tfl 56 "seenNames" "[J" (.array .long) true = true := by decide +kernel
theorem ta_seenNames : (!(tj 56 == 0) && decide (((t0 + tj 56 : Nat) : Int) = 52)) = true := by decide +kernel
theorem tr_seenNames : tar 56 1 3200 52 = true := by decide +kernel
theorem tf_seenVariables : tfl 57 "seenVariables" "[I" (.array .int) true = true := by decide +kernel
theorem ta_seenVariables : (!(tj 57 == 0) && decide (((t0 + tj 57 : Nat) : Int) = 53)) = true := by decide +kernel
theorem tr_seenVariables : tar 57 0 3200 53 = true := by decide +kernel
theorem tf_around : tfl 58 "around" "I" .int false = true := by decide +kernel
theorem tj_around : (tj 58 == 0) = true := by decide +kernel
theorem tf_arounds : tfl 59 "arounds" "[I" (.array .int) true = true := by decide +kernel
theorem ta_arounds : (!(tj 59 == 0) && decide (((t0 + tj 59 : Nat) : Int) = 54)) = true := by decide +kernel
theorem tr_arounds : tar 59 0 64 54 = true := by decide +kernel
theorem tf_walk : tfl 60 "walk" "[I" (.array .int) true = true := by decide +kernel
theorem ta_walk : (!(tj 60 == 0) && decide (((t0 + tj 60 : Nat) : Int) = 55)) = true := by decide +kernel
theorem tr_walk : tar 60 0 3200 55 = true := by decide +kernel
theorem tf_walkStages : tfl 61 "walkStages" "[I" (.array .int) true = true := by decide +kernel
theorem ta_walkStages : (!(tj 61 == 0) && decide (((t0 + tj 61 : Nat) : Int) = 56)) = true := by decide +kernel
theorem tr_walkStages : tar 61 0 3200 56 = true := by decide +kernel
theorem tf_walkChildren : tfl 62 "walkChildren" "[I" (.array .int) true = true := by decide +kernel
theorem ta_walkChildren : (!(tj 62 == 0) && decide (((t0 + tj 62 : Nat) : Int) = 57)) = true := by decide +kernel
theorem tr_walkChildren : tar 62 0 3200 57 = true := by decide +kernel
theorem tf_lifted : tfl 63 "lifted" "I" .int false = true := by decide +kernel
theorem tj_lifted : (tj 63 == 0) = true := by decide +kernel
theorem tf_liftKinds : tfl 64 "liftKinds" "[I" (.array .int) true = true := by decide +kernel
theorem ta_liftKinds : (!(tj 64 == 0) && decide (((t0 + tj 64 : Nat) : Int) = 58)) = true := by decide +kernel
theorem tr_liftKinds : tar 64 0 7000 58 = true := by decide +kernel
theorem tf_liftValues : tfl 65 "liftValues" "[I" (.array .int) true = true := by decide +kernel
theorem ta_liftValues : (!(tj 65 == 0) && decide (((t0 + tj 65 : Nat) : Int) = 59)) = true := by decide +kernel
theorem tr_liftValues : tar 65 0 7000 59 = true := by decide +kernel
theorem tf_liftBegins : tfl 66 "liftBegins" "[I" (.array .int) true = true := by decide +kernel
theorem ta_liftBegins : (!(tj 66 == 0) && decide (((t0 + tj 66 : Nat) : Int) = 60)) = true := by decide +kernel
theorem tr_liftBegins : tar 66 0 7000 60 = true := by decide +kernel
theorem tf_liftCounts : tfl 67 "liftCounts" "[I" (.array .int) true = true := by decide +kernel
theorem ta_liftCounts : (!(tj 67 == 0) && decide (((t0 + tj 67 : Nat) : Int) = 61)) = true := by decide +kernel
theorem tr_liftCounts : tar 67 0 7000 61 = true := by decide +kernel
theorem tf_liftVariables : tfl 68 "liftVariables" "[I" (.array .int) true = true := by decide +kernel
theorem ta_liftVariables : (!(tj 68 == 0) && decide (((t0 + tj 68 : Nat) : Int) = 62)) = true := by decide +kernel
theorem tr_liftVariables : tar 68 0 7000 62 = true := by decide +kernel
theorem tf_liftNeeds : tfl 69 "liftNeeds" "[Z" (.array .boolean) true = true := by decide +kernel
theorem ta_liftNeeds : (!(tj 69 == 0) && decide (((t0 + tj 69 : Nat) : Int) = 63)) = true := by decide +kernel
theorem tr_liftNeeds : tar 69 3 7000 63 = true := by decide +kernel
theorem tf_heights : tfl 70 "heights" "[I" (.array .int) true = true := by decide +kernel
theorem ta_heights : (!(tj 70 == 0) && decide (((t0 + tj 70 : Nat) : Int) = 64)) = true := by decide +kernel
theorem tr_heights : tar 70 0 7000 64 = true := by decide +kernel
theorem tf_liftFunctions : tfl 71 "liftFunctions" "[I" (.array .int) true = true := by decide +kernel
theorem ta_liftFunctions : (!(tj 71 == 0) && decide (((t0 + tj 71 : Nat) : Int) = 65)) = true := by decide +kernel
theorem tr_liftFunctions : tar 71 0 7000 65 = true := by decide +kernel
theorem tf_outside : tfl 72 "outside" "[J" (.array .long) true = true := by decide +kernel
theorem ta_outside : (!(tj 72 == 0) && decide (((t0 + tj 72 : Nat) : Int) = 66)) = true := by decide +kernel
theorem tr_outside : tar 72 1 7000 66 = true := by decide +kernel
theorem tf_childTop : tfl 73 "childTop" "I" .int false = true := by decide +kernel
theorem tj_childTop : (tj 73 == 0) = true := by decide +kernel
theorem tf_liftChildren : tfl 74 "liftChildren" "[I" (.array .int) true = true := by decide +kernel
theorem ta_liftChildren : (!(tj 74 == 0) && decide (((t0 + tj 74 : Nat) : Int) = 67)) = true := by decide +kernel
theorem tr_liftChildren : tar 74 0 14000 67 = true := by decide +kernel
theorem tf_branchSorts : tfl 75 "branchSorts" "[I" (.array .int) true = true := by decide +kernel
theorem ta_branchSorts : (!(tj 75 == 0) && decide (((t0 + tj 75 : Nat) : Int) = 68)) = true := by decide +kernel
theorem tr_branchSorts : tar 75 0 14000 68 = true := by decide +kernel
theorem tf_branchValues : tfl 76 "branchValues" "[I" (.array .int) true = true := by decide +kernel
theorem ta_branchValues : (!(tj 76 == 0) && decide (((t0 + tj 76 : Nat) : Int) = 69)) = true := by decide +kernel
theorem tr_branchValues : tar 76 0 14000 69 = true := by decide +kernel
theorem tf_branchVariables : tfl 77 "branchVariables" "[I" (.array .int) true = true := by decide +kernel
theorem ta_branchVariables : (!(tj 77 == 0) && decide (((t0 + tj 77 : Nat) : Int) = 70)) = true := by decide +kernel
theorem tr_branchVariables : tar 77 0 14000 70 = true := by decide +kernel
theorem tf_branchCounts : tfl 78 "branchCounts" "[I" (.array .int) true = true := by decide +kernel
theorem ta_branchCounts : (!(tj 78 == 0) && decide (((t0 + tj 78 : Nat) : Int) = 71)) = true := by decide +kernel
theorem tr_branchCounts : tar 78 0 14000 71 = true := by decide +kernel
theorem tf_begins : tfl 79 "begins" "[I" (.array .int) true = true := by decide +kernel
theorem ta_begins : (!(tj 79 == 0) && decide (((t0 + tj 79 : Nat) : Int) = 72)) = true := by decide +kernel
theorem tr_begins : tar 79 0 640 72 = true := by decide +kernel
theorem tf_roots : tfl 80 "roots" "[I" (.array .int) true = true := by decide +kernel
theorem ta_roots : (!(tj 80 == 0) && decide (((t0 + tj 80 : Nat) : Int) = 73)) = true := by decide +kernel
theorem tr_roots : tar 80 0 640 73 = true := by decide +kernel
theorem tf_variableCounts : tfl 81 "variableCounts" "[I" (.array .int) true = true := by decide +kernel
theorem ta_variableCounts : (!(tj 81 == 0) && decide (((t0 + tj 81 : Nat) : Int) = 74)) = true := by decide +kernel
theorem tr_variableCounts : tar 81 0 640 74 = true := by decide +kernel
theorem tf_parameterCounts : tfl 82 "parameterCounts" "[I" (.array .int) true = true := by decide +kernel
theorem ta_parameterCounts : (!(tj 82 == 0) && decide (((t0 + tj 82 : Nat) : Int) = 75)) = true := by decide +kernel
theorem tr_parameterCounts : tar 82 0 640 75 = true := by decide +kernel
theorem tf_held : tfl 83 "held" "I" .int false = true := by decide +kernel
theorem tj_held : (tj 83 == 0) = true := by decide +kernel
theorem tf_heldNodes : tfl 84 "heldNodes" "[I" (.array .int) true = true := by decide +kernel
theorem ta_heldNodes : (!(tj 84 == 0) && decide (((t0 + tj 84 : Nat) : Int) = 76)) = true := by decide +kernel
theorem tr_heldNodes : tar 84 0 7000 76 = true := by decide +kernel
theorem tf_tables : tfl 85 "tables" "[Z" (.array .boolean) true = true := by decide +kernel
theorem ta_tables : (!(tj 85 == 0) && decide (((t0 + tj 85 : Nat) : Int) = 77)) = true := by decide +kernel
theorem tr_tables : tar 85 3 163840 77 = true := by decide +kernel
theorem tf_bitOf : tfl 86 "bitOf" "[Z" (.array .boolean) true = true := by decide +kernel
theorem ta_bitOf : (!(tj 86 == 0) && decide (((t0 + tj 86 : Nat) : Int) = 78)) = true := by decide +kernel
theorem tr_bitOf : tar 86 3 7000 78 = true := by decide +kernel
theorem tf_has : tfl 87 "has" "[Z" (.array .boolean) true = true := by decide +kernel
theorem ta_has : (!(tj 87 == 0) && decide (((t0 + tj 87 : Nat) : Int) = 79)) = true := by decide +kernel
theorem tr_has : tar 87 3 640 79 = true := by decide +kernel
theorem tf_hasProgram : tfl 88 "hasProgram" "Z" .boolean false = true := by decide +kernel
theorem tj_hasProgram : (tj 88 == 0) = true := by decide +kernel
theorem tf_lastFault : tfl 89 "lastFault" "I" .int false = true := by decide +kernel
theorem tj_lastFault : (tj 89 == 0) = true := by decide +kernel
theorem tf_lastPlace : tfl 90 "lastPlace" "I" .int false = true := by decide +kernel
theorem tj_lastPlace : (tj 90 == 0) = true := by decide +kernel
theorem tf_needed : tfl 91 "needed" "[Z" (.array .boolean) true = true := by decide +kernel
theorem ta_needed : (!(tj 91 == 0) && decide (((t0 + tj 91 : Nat) : Int) = 80)) = true := by decide +kernel
theorem tr_needed : tar 91 3 5120 80 = true := by decide +kernel
theorem tf_cellSorts : tfl 92 "cellSorts" "[I" (.array .int) true = true := by decide +kernel
theorem ta_cellSorts : (!(tj 92 == 0) && decide (((t0 + tj 92 : Nat) : Int) = 81)) = true := by decide +kernel
theorem tr_cellSorts : tar 92 0 4100 81 = true := by decide +kernel
theorem tf_cellValues : tfl 93 "cellValues" "[I" (.array .int) true = true := by decide +kernel
theorem ta_cellValues : (!(tj 93 == 0) && decide (((t0 + tj 93 : Nat) : Int) = 82)) = true := by decide +kernel
theorem tr_cellValues : tar 93 0 4100 82 = true := by decide +kernel
theorem tf_cellDone : tfl 94 "cellDone" "[J" (.array .long) true = true := by decide +kernel
theorem ta_cellDone : (!(tj 94 == 0) && decide (((t0 + tj 94 : Nat) : Int) = 83)) = true := by decide +kernel
theorem tr_cellDone : tar 94 1 4100 83 = true := by decide +kernel
theorem tf_cellBegins : tfl 95 "cellBegins" "[I" (.array .int) true = true := by decide +kernel
theorem ta_cellBegins : (!(tj 95 == 0) && decide (((t0 + tj 95 : Nat) : Int) = 84)) = true := by decide +kernel
theorem tr_cellBegins : tar 95 0 4100 84 = true := by decide +kernel
theorem tf_cellCounts : tfl 96 "cellCounts" "[I" (.array .int) true = true := by decide +kernel
theorem ta_cellCounts : (!(tj 96 == 0) && decide (((t0 + tj 96 : Nat) : Int) = 85)) = true := by decide +kernel
theorem tr_cellCounts : tar 96 0 4100 85 = true := by decide +kernel
theorem tf_cellsMade : tfl 97 "cellsMade" "I" .int false = true := by decide +kernel
theorem tj_cellsMade : (tj 97 == 0) = true := by decide +kernel
theorem tf_fieldTop : tfl 98 "fieldTop" "I" .int false = true := by decide +kernel
theorem tj_fieldTop : (tj 98 == 0) = true := by decide +kernel
theorem tf_fields : tfl 99 "fields" "[J" (.array .long) true = true := by decide +kernel
theorem ta_fields : (!(tj 99 == 0) && decide (((t0 + tj 99 : Nat) : Int) = 86)) = true := by decide +kernel
theorem tr_fields : tar 99 1 4100 86 = true := by decide +kernel
theorem tf_cells : tfl 100 "cells" "I" .int false = true := by decide +kernel
theorem tj_cells : (tj 100 == 0) = true := by decide +kernel
theorem tf_allCells : tfl 101 "allCells" "I" .int false = true := by decide +kernel
theorem tj_allCells : (tj 101 == 0) = true := by decide +kernel
theorem tf_allCalls : tfl 102 "allCalls" "I" .int false = true := by decide +kernel
theorem tj_allCalls : (tj 102 == 0) = true := by decide +kernel
theorem tf_callsLeft : tfl 103 "callsLeft" "I" .int false = true := by decide +kernel
theorem tj_callsLeft : (tj 103 == 0) = true := by decide +kernel
theorem tf_calls : tfl 104 "calls" "I" .int false = true := by decide +kernel
theorem tj_calls : (tj 104 == 0) = true := by decide +kernel
theorem tf_suspensions : tfl 105 "suspensions" "I" .int false = true := by decide +kernel
theorem tj_suspensions : (tj 105 == 0) = true := by decide +kernel
theorem tf_partials : tfl 106 "partials" "I" .int false = true := by decide +kernel
theorem tj_partials : (tj 106 == 0) = true := by decide +kernel
theorem tf_objects : tfl 107 "objects" "I" .int false = true := by decide +kernel
theorem tj_objects : (tj 107 == 0) = true := by decide +kernel
theorem tf_updates : tfl 108 "updates" "I" .int false = true := by decide +kernel
theorem tj_updates : (tj 108 == 0) = true := by decide +kernel
theorem tf_atOnce : tfl 109 "atOnce" "I" .int false = true := by decide +kernel
theorem tj_atOnce : (tj 109 == 0) = true := by decide +kernel
theorem tf_calledCounts : tfl 110 "calledCounts" "[I" (.array .int) true = true := by decide +kernel
theorem ta_calledCounts : (!(tj 110 == 0) && decide (((t0 + tj 110 : Nat) : Int) = 87)) = true := by decide +kernel
theorem tr_calledCounts : tar 110 0 640 87 = true := by decide +kernel
theorem tf_how : tfl 111 "how" "I" .int false = true := by decide +kernel
theorem tj_how : (tj 111 == 0) = true := by decide +kernel
theorem tf_why : tfl 112 "why" "I" .int false = true := by decide +kernel
theorem tj_why : (tj 112 == 0) = true := by decide +kernel
theorem tf_rowCounted : tfl 113 "rowCounted" "I" .int false = true := by decide +kernel
theorem tj_rowCounted : (tj 113 == 0) = true := by decide +kernel
theorem tf_row : tfl 114 "row" "[I" (.array .int) true = true := by decide +kernel
theorem ta_row : (!(tj 114 == 0) && decide (((t0 + tj 114 : Nat) : Int) = 88)) = true := by decide +kernel
theorem tr_row : tar 114 0 1000 88 = true := by decide +kernel
theorem tf_eager : tfl 115 "eager" "Z" .boolean false = true := by decide +kernel
theorem tj_eager : (tj 115 == 0) = true := by decide +kernel
theorem tf_waiting : tfl 116 "waiting" "I" .int false = true := by decide +kernel
theorem tj_waiting : (tj 116 == 0) = true := by decide +kernel
theorem tf_waitKinds : tfl 117 "waitKinds" "[I" (.array .int) true = true := by decide +kernel
theorem ta_waitKinds : (!(tj 117 == 0) && decide (((t0 + tj 117 : Nat) : Int) = 89)) = true := by decide +kernel
theorem tr_waitKinds : tar 117 0 202000 89 = true := by decide +kernel
theorem tf_waitBases : tfl 118 "waitBases" "[I" (.array .int) true = true := by decide +kernel
theorem ta_waitBases : (!(tj 118 == 0) && decide (((t0 + tj 118 : Nat) : Int) = 90)) = true := by decide +kernel
theorem tr_waitBases : tar 118 0 202000 90 = true := by decide +kernel
theorem tf_waitMore : tfl 119 "waitMore" "[I" (.array .int) true = true := by decide +kernel
theorem ta_waitMore : (!(tj 119 == 0) && decide (((t0 + tj 119 : Nat) : Int) = 91)) = true := by decide +kernel
theorem tr_waitMore : tar 119 0 202000 91 = true := by decide +kernel
theorem tf_top : tfl 120 "top" "I" .int false = true := by decide +kernel
theorem tj_top : (tj 120 == 0) = true := by decide +kernel
theorem tf_stack : tfl 121 "stack" "[J" (.array .long) true = true := by decide +kernel
theorem ta_stack : (!(tj 121 == 0) && decide (((t0 + tj 121 : Nat) : Int) = 92)) = true := by decide +kernel
theorem tr_stack : tar 121 1 580000 92 = true := by decide +kernel
theorem tf_base : tfl 122 "base" "I" .int false = true := by decide +kernel
theorem tj_base : (tj 122 == 0) = true := by decide +kernel
theorem tf_localTop : tfl 123 "localTop" "I" .int false = true := by decide +kernel
theorem tj_localTop : (tj 123 == 0) = true := by decide +kernel
theorem tf_locals : tfl 124 "locals" "[J" (.array .long) true = true := by decide +kernel
theorem ta_locals : (!(tj 124 == 0) && decide (((t0 + tj 124 : Nat) : Int) = 93)) = true := by decide +kernel
theorem tr_locals : tar 124 1 193000 93 = true := by decide +kernel
theorem tf_current : tfl 125 "current" "I" .int false = true := by decide +kernel
theorem tj_current : (tj 125 == 0) = true := by decide +kernel
theorem tf_has0 : tfl 126 "has0" "Z" .boolean false = true := by decide +kernel
theorem tj_has0 : (tj 126 == 0) = true := by decide +kernel
theorem tf_result : tfl 127 "result" "J" .long false = true := by decide +kernel
theorem tj_result : (tj 127 == 0) = true := by decide +kernel
theorem tf_tasks : tfl 128 "tasks" "I" .int false = true := by decide +kernel
theorem tj_tasks : (tj 128 == 0) = true := by decide +kernel
theorem tf_taskParts : tfl 129 "taskParts" "[I" (.array .int) true = true := by decide +kernel
theorem ta_taskParts : (!(tj 129 == 0) && decide (((t0 + tj 129 : Nat) : Int) = 94)) = true := by decide +kernel
theorem tr_taskParts : tar 129 0 8000 94 = true := by decide +kernel
theorem tf_taskPlaces : tfl 130 "taskPlaces" "[I" (.array .int) true = true := by decide +kernel
theorem ta_taskPlaces : (!(tj 130 == 0) && decide (((t0 + tj 130 : Nat) : Int) = 95)) = true := by decide +kernel
theorem tr_taskPlaces : tar 130 0 8000 95 = true := by decide +kernel
theorem tf_functionCells : tfl 131 "functionCells" "[I" (.array .int) true = true := by decide +kernel
theorem ta_functionCells : (!(tj 131 == 0) && decide (((t0 + tj 131 : Nat) : Int) = 96)) = true := by decide +kernel
theorem tr_functionCells : tar 131 0 640 96 = true := by decide +kernel
theorem tf_pending : tfl 132 "pending" "I" .int false = true := by decide +kernel
theorem tj_pending : (tj 132 == 0) = true := by decide +kernel
theorem tf_pendings : tfl 133 "pendings" "[J" (.array .long) true = true := by decide +kernel
theorem ta_pendings : (!(tj 133 == 0) && decide (((t0 + tj 133 : Nat) : Int) = 97)) = true := by decide +kernel
theorem tr_pendings : tar 133 1 4200 97 = true := by decide +kernel
theorem tf_drafted : tfl 134 "drafted" "I" .int false = true := by decide +kernel
theorem tj_drafted : (tj 134 == 0) = true := by decide +kernel
theorem tf_draft : tfl 135 "draft" "[I" (.array .int) true = true := by decide +kernel
theorem ta_draft : (!(tj 135 == 0) && decide (((t0 + tj 135 : Nat) : Int) = 98)) = true := by decide +kernel
theorem tr_draft : tar 135 0 12001 98 = true := by decide +kernel
