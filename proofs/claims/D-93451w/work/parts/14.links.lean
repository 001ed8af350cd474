set_option maxRecDepth 100000
theorem zt_1 {i : Nat} {a : ByteArray} {b c e : Nat} (h : zlk zmt i = some (a, b, c, e)) : zcb i = a := by unfold zcb; rw [h]; rfl
theorem zt_2 {i : Nat} {a : ByteArray} {b c e : Nat} (h : zlk zmt i = some (a, b, c, e)) : zml i = b := by unfold zml; rw [h]; rfl
theorem zt_3 {i : Nat} {a : ByteArray} {b c e : Nat} (h : zlk zmt i = some (a, b, c, e)) : zow i = c := by unfold zow; rw [h]; rfl
theorem zt_4 {i : Nat} {a : ByteArray} {b c e : Nat} (h : zlk zmt i = some (a, b, c, e)) : zrk i = e := by unfold zrk; rw [h]; rfl
theorem zt0 : zlk zmt 0 = some (cL_law, 4, 1, 1) := rfl
theorem z0 : zcb 0 = cL_law := zt_1 zt0
theorem zo0 : zow 0 = 1 := zt_3 zt0
theorem zk0 : zrk 0 = 1 := zt_4 zt0
theorem zm0 : zml 0 = 4 := zt_2 zt0
theorem zt1 : zlk zmt 1 = some (cX0_init, 2, 2, 4) := rfl
theorem z1 : zcb 1 = cX0_init := zt_1 zt1
theorem zo1 : zow 1 = 2 := zt_3 zt1
theorem zk1 : zrk 1 = 4 := zt_4 zt1
theorem zm1 : zml 1 = 2 := zt_2 zt1
theorem zt2 : zlk zmt 2 = some (cX0_zero, 1, 2, 3) := rfl
theorem z2 : zcb 2 = cX0_zero := zt_1 zt2
theorem zo2 : zow 2 = 2 := zt_3 zt2
theorem zk2 : zrk 2 = 3 := zt_4 zt2
theorem zm2 : zml 2 = 1 := zt_2 zt2
theorem zt3 : zlk zmt 3 = some (cX0_build, 2, 2, 4) := rfl
theorem z3 : zcb 3 = cX0_build := zt_1 zt3
theorem zo3 : zow 3 = 2 := zt_3 zt3
theorem zk3 : zrk 3 = 4 := zt_4 zt3
theorem zm3 : zml 3 = 2 := zt_2 zt3
theorem zt4 : zlk zmt 4 = some (cX0_setArity, 5, 2, 0) := rfl
theorem z4 : zcb 4 = cX0_setArity := zt_1 zt4
theorem zo4 : zow 4 = 2 := zt_3 zt4
theorem zk4 : zrk 4 = 0 := zt_4 zt4
theorem zm4 : zml 4 = 5 := zt_2 zt4
theorem zt5 : zlk zmt 5 = some (cX0_isFunction, 1, 2, 1) := rfl
theorem z5 : zcb 5 = cX0_isFunction := zt_1 zt5
theorem zo5 : zow 5 = 2 := zt_3 zt5
theorem zk5 : zrk 5 = 1 := zt_4 zt5
theorem zm5 : zml 5 = 1 := zt_2 zt5
theorem zt6 : zlk zmt 6 = some (cX0_arity, 2, 2, 0) := rfl
theorem z6 : zcb 6 = cX0_arity := zt_1 zt6
theorem zo6 : zow 6 = 2 := zt_3 zt6
theorem zk6 : zrk 6 = 0 := zt_4 zt6
theorem zm6 : zml 6 = 2 := zt_2 zt6
theorem zt7 : zlk zmt 7 = some (cX0_appendCharacter, 2, 2, 0) := rfl
theorem z7 : zcb 7 = cX0_appendCharacter := zt_1 zt7
theorem zo7 : zow 7 = 2 := zt_3 zt7
theorem zk7 : zrk 7 = 0 := zt_4 zt7
theorem zm7 : zml 7 = 2 := zt_2 zt7
theorem zt8 : zlk zmt 8 = some (cX0_clearText, 2, 2, 0) := rfl
theorem z8 : zcb 8 = cX0_clearText := zt_1 zt8
theorem zo8 : zow 8 = 2 := zt_3 zt8
theorem zk8 : zrk 8 = 0 := zt_4 zt8
theorem zm8 : zml 8 = 2 := zt_2 zt8
theorem zt9 : zlk zmt 9 = some (cX0_textLength, 1, 2, 0) := rfl
theorem z9 : zcb 9 = cX0_textLength := zt_1 zt9
theorem zo9 : zow 9 = 2 := zt_3 zt9
theorem zk9 : zrk 9 = 0 := zt_4 zt9
theorem zm9 : zml 9 = 1 := zt_2 zt9
theorem zt10 : zlk zmt 10 = some (cX0_addRule, 4, 2, 0) := rfl
theorem z10 : zcb 10 = cX0_addRule := zt_1 zt10
theorem zo10 : zow 10 = 2 := zt_3 zt10
theorem zk10 : zrk 10 = 0 := zt_4 zt10
theorem zm10 : zml 10 = 4 := zt_2 zt10
theorem zt11 : zlk zmt 11 = some (cX0_isValid, 5, 2, 1) := rfl
theorem z11 : zcb 11 = cX0_isValid := zt_1 zt11
theorem zo11 : zow 11 = 2 := zt_3 zt11
theorem zk11 : zrk 11 = 1 := zt_4 zt11
theorem zm11 : zml 11 = 5 := zt_2 zt11
theorem zt12 : zlk zmt 12 = some (cX0_invalidate, 1, 2, 4) := rfl
theorem z12 : zcb 12 = cX0_invalidate := zt_1 zt12
theorem zo12 : zow 12 = 2 := zt_3 zt12
theorem zk12 : zrk 12 = 4 := zt_4 zt12
theorem zm12 : zml 12 = 1 := zt_2 zt12
theorem zt13 : zlk zmt 13 = some (cX0_removeRule, 2, 2, 0) := rfl
theorem z13 : zcb 13 = cX0_removeRule := zt_1 zt13
theorem zo13 : zow 13 = 2 := zt_3 zt13
theorem zk13 : zrk 13 = 0 := zt_4 zt13
theorem zm13 : zml 13 = 2 := zt_2 zt13
theorem zt14 : zlk zmt 14 = some (cX0_isRule, 2, 2, 1) := rfl
theorem z14 : zcb 14 = cX0_isRule := zt_1 zt14
theorem zo14 : zow 14 = 2 := zt_3 zt14
theorem zk14 : zrk 14 = 1 := zt_4 zt14
theorem zm14 : zml 14 = 2 := zt_2 zt14
theorem zt15 : zlk zmt 15 = some (cX0_ruleCount, 1, 2, 0) := rfl
theorem z15 : zcb 15 = cX0_ruleCount := zt_1 zt15
theorem zo15 : zow 15 = 2 := zt_3 zt15
theorem zk15 : zrk 15 = 0 := zt_4 zt15
theorem zm15 : zml 15 = 1 := zt_2 zt15
theorem zt16 : zlk zmt 16 = some (cX0_leftSize, 2, 2, 0) := rfl
theorem z16 : zcb 16 = cX0_leftSize := zt_1 zt16
theorem zo16 : zow 16 = 2 := zt_3 zt16
theorem zk16 : zrk 16 = 0 := zt_4 zt16
theorem zm16 : zml 16 = 2 := zt_2 zt16
theorem zt17 : zlk zmt 17 = some (cX0_rightSize, 2, 2, 0) := rfl
theorem z17 : zcb 17 = cX0_rightSize := zt_1 zt17
theorem zo17 : zow 17 = 2 := zt_3 zt17
theorem zk17 : zrk 17 = 0 := zt_4 zt17
theorem zm17 : zml 17 = 2 := zt_2 zt17
theorem zt18 : zlk zmt 18 = some (cX0_pairCount, 1, 2, 0) := rfl
theorem z18 : zcb 18 = cX0_pairCount := zt_1 zt18
theorem zo18 : zow 18 = 2 := zt_3 zt18
theorem zk18 : zrk 18 = 0 := zt_4 zt18
theorem zm18 : zml 18 = 1 := zt_2 zt18
theorem zt19 : zlk zmt 19 = some (cX0_update, 4, 2, 4) := rfl
theorem z19 : zcb 19 = cX0_update := zt_1 zt19
theorem zo19 : zow 19 = 2 := zt_3 zt19
theorem zk19 : zrk 19 = 4 := zt_4 zt19
theorem zm19 : zml 19 = 4 := zt_2 zt19
theorem zt20 : zlk zmt 20 = some (cX0_isEdge, 6, 2, 1) := rfl
theorem z20 : zcb 20 = cX0_isEdge := zt_1 zt20
theorem zo20 : zow 20 = 2 := zt_3 zt20
theorem zk20 : zrk 20 = 1 := zt_4 zt20
theorem zm20 : zml 20 = 6 := zt_2 zt20
theorem zt21 : zlk zmt 21 = some (cX0_isCompatible, 7, 2, 1) := rfl
theorem z21 : zcb 21 = cX0_isCompatible := zt_1 zt21
theorem zo21 : zow 21 = 2 := zt_3 zt21
theorem zk21 : zrk 21 = 1 := zt_4 zt21
theorem zm21 : zml 21 = 7 := zt_2 zt21
theorem zt22 : zlk zmt 22 = some (cX0_findComponents, 5, 2, 4) := rfl
theorem z22 : zcb 22 = cX0_findComponents := zt_1 zt22
theorem zo22 : zow 22 = 2 := zt_3 zt22
theorem zk22 : zrk 22 = 4 := zt_4 zt22
theorem zm22 : zml 22 = 5 := zt_2 zt22
theorem zt23 : zlk zmt 23 = some (cX0_countComponents, 4, 2, 0) := rfl
theorem z23 : zcb 23 = cX0_countComponents := zt_1 zt23
theorem zo23 : zow 23 = 2 := zt_3 zt23
theorem zk23 : zrk 23 = 0 := zt_4 zt23
theorem zm23 : zml 23 = 4 := zt_2 zt23
theorem zt24 : zlk zmt 24 = some (cX0_pairRule, 2, 2, 0) := rfl
theorem z24 : zcb 24 = cX0_pairRule := zt_1 zt24
theorem zo24 : zow 24 = 2 := zt_3 zt24
theorem zk24 : zrk 24 = 0 := zt_4 zt24
theorem zm24 : zml 24 = 2 := zt_2 zt24
theorem zt25 : zlk zmt 25 = some (cX0_isPair, 2, 2, 1) := rfl
theorem z25 : zcb 25 = cX0_isPair := zt_1 zt25
theorem zo25 : zow 25 = 2 := zt_3 zt25
theorem zk25 : zrk 25 = 1 := zt_4 zt25
theorem zm25 : zml 25 = 2 := zt_2 zt25
theorem zt26 : zlk zmt 26 = some (cX0_pairPosition, 2, 2, 0) := rfl
theorem z26 : zcb 26 = cX0_pairPosition := zt_1 zt26
theorem zo26 : zow 26 = 2 := zt_3 zt26
theorem zk26 : zrk 26 = 0 := zt_4 zt26
theorem zm26 : zml 26 = 2 := zt_2 zt26
theorem zt27 : zlk zmt 27 = some (cX0_sourceFunction, 2, 2, 0) := rfl
theorem z27 : zcb 27 = cX0_sourceFunction := zt_1 zt27
theorem zo27 : zow 27 = 2 := zt_3 zt27
theorem zk27 : zrk 27 = 0 := zt_4 zt27
theorem zm27 : zml 27 = 2 := zt_2 zt27
theorem zt28 : zlk zmt 28 = some (cX0_targetFunction, 2, 2, 0) := rfl
theorem z28 : zcb 28 = cX0_targetFunction := zt_1 zt28
theorem zo28 : zow 28 = 2 := zt_3 zt28
theorem zk28 : zrk 28 = 0 := zt_4 zt28
theorem zm28 : zml 28 = 2 := zt_2 zt28
theorem zt29 : zlk zmt 29 = some (cX0_hasEdge, 3, 2, 0) := rfl
theorem z29 : zcb 29 = cX0_hasEdge := zt_1 zt29
theorem zo29 : zow 29 = 2 := zt_3 zt29
theorem zk29 : zrk 29 = 0 := zt_4 zt29
theorem zm29 : zml 29 = 3 := zt_2 zt29
theorem zt30 : zlk zmt 30 = some (cX0_asInt, 1, 2, 0) := rfl
theorem z30 : zcb 30 = cX0_asInt := zt_1 zt30
theorem zo30 : zow 30 = 2 := zt_3 zt30
theorem zk30 : zrk 30 = 0 := zt_4 zt30
theorem zm30 : zml 30 = 1 := zt_2 zt30
theorem zt31 : zlk zmt 31 = some (cX0_edgeCount, 4, 2, 0) := rfl
theorem z31 : zcb 31 = cX0_edgeCount := zt_1 zt31
theorem zo31 : zow 31 = 2 := zt_3 zt31
theorem zk31 : zrk 31 = 0 := zt_4 zt31
theorem zm31 : zml 31 = 4 := zt_2 zt31
theorem zt32 : zlk zmt 32 = some (cX0_componentCount, 1, 2, 0) := rfl
theorem z32 : zcb 32 = cX0_componentCount := zt_1 zt32
theorem zo32 : zow 32 = 2 := zt_3 zt32
theorem zk32 : zrk 32 = 0 := zt_4 zt32
theorem zm32 : zml 32 = 1 := zt_2 zt32
theorem zt33 : zlk zmt 33 = some (cX0_componentOf, 2, 2, 0) := rfl
theorem z33 : zcb 33 = cX0_componentOf := zt_1 zt33
theorem zo33 : zow 33 = 2 := zt_3 zt33
theorem zk33 : zrk 33 = 0 := zt_4 zt33
theorem zm33 : zml 33 = 2 := zt_2 zt33
theorem zt34 : zlk zmt 34 = some (cX0_sizeRelation, 6, 2, 0) := rfl
theorem z34 : zcb 34 = cX0_sizeRelation := zt_1 zt34
theorem zo34 : zow 34 = 2 := zt_3 zt34
theorem zk34 : zrk 34 = 0 := zt_4 zt34
theorem zm34 : zml 34 = 6 := zt_2 zt34
theorem zt35 : zlk zmt 35 = some (cX0_closureSize, 1, 2, 0) := rfl
theorem z35 : zcb 35 = cX0_closureSize := zt_1 zt35
theorem zo35 : zow 35 = 2 := zt_3 zt35
theorem zk35 : zrk 35 = 0 := zt_4 zt35
theorem zm35 : zml 35 = 1 := zt_2 zt35
theorem zt36 : zlk zmt 36 = some (cX0_computeClosure, 4, 2, 1) := rfl
theorem z36 : zcb 36 = cX0_computeClosure := zt_1 zt36
theorem zo36 : zow 36 = 2 := zt_3 zt36
theorem zk36 : zrk 36 = 1 := zt_4 zt36
theorem zm36 : zml 36 = 4 := zt_2 zt36
theorem zt37 : zlk zmt 37 = some (cX0_addToClosure, 3, 2, 0) := rfl
theorem z37 : zcb 37 = cX0_addToClosure := zt_1 zt37
theorem zo37 : zow 37 = 2 := zt_3 zt37
theorem zk37 : zrk 37 = 0 := zt_4 zt37
theorem zm37 : zml 37 = 3 := zt_2 zt37
theorem zt38 : zlk zmt 38 = some (cX0_addComposition, 4, 2, 0) := rfl
theorem z38 : zcb 38 = cX0_addComposition := zt_1 zt38
theorem zo38 : zow 38 = 2 := zt_3 zt38
theorem zk38 : zrk 38 = 0 := zt_4 zt38
theorem zm38 : zml 38 = 4 := zt_2 zt38
theorem zt39 : zlk zmt 39 = some (cX0_idempotentCount, 4, 2, 0) := rfl
theorem z39 : zcb 39 = cX0_idempotentCount := zt_1 zt39
theorem zo39 : zow 39 = 2 := zt_3 zt39
theorem zk39 : zrk 39 = 0 := zt_4 zt39
theorem zm39 : zml 39 = 4 := zt_2 zt39
theorem zt40 : zlk zmt 40 = some (cX0_isIdempotent, 2, 2, 1) := rfl
theorem z40 : zcb 40 = cX0_isIdempotent := zt_1 zt40
theorem zo40 : zow 40 = 2 := zt_3 zt40
theorem zk40 : zrk 40 = 1 := zt_4 zt40
theorem zm40 : zml 40 = 2 := zt_2 zt40
theorem zt41 : zlk zmt 41 = some (cX0_terminatesBySizeChange, 3, 2, 0) := rfl
theorem z41 : zcb 41 = cX0_terminatesBySizeChange := zt_1 zt41
theorem zo41 : zow 41 = 2 := zt_3 zt41
theorem zk41 : zrk 41 = 0 := zt_4 zt41
theorem zm41 : zml 41 = 3 := zt_2 zt41
theorem zt42 : zlk zmt 42 = some (cX0_projection, 2, 2, 0) := rfl
theorem z42 : zcb 42 = cX0_projection := zt_1 zt42
theorem zo42 : zow 42 = 2 := zt_3 zt42
theorem zk42 : zrk 42 = 0 := zt_4 zt42
theorem zm42 : zml 42 = 2 := zt_2 zt42
theorem zt43 : zlk zmt 43 = some (cX0_lowestProjection, 8, 2, 0) := rfl
theorem z43 : zcb 43 = cX0_lowestProjection := zt_1 zt43
theorem zo43 : zow 43 = 2 := zt_3 zt43
theorem zk43 : zrk 43 = 0 := zt_4 zt43
theorem zm43 : zml 43 = 8 := zt_2 zt43
theorem zt44 : zlk zmt 44 = some (cX0_isValidProjection, 6, 2, 1) := rfl
theorem z44 : zcb 44 = cX0_isValidProjection := zt_1 zt44
theorem zo44 : zow 44 = 2 := zt_3 zt44
theorem zk44 : zrk 44 = 1 := zt_4 zt44
theorem zm44 : zml 44 = 6 := zt_2 zt44
theorem zt45 : zlk zmt 45 = some (cX0_chosenRelation, 2, 2, 0) := rfl
theorem z45 : zcb 45 = cX0_chosenRelation := zt_1 zt45
theorem zo45 : zow 45 = 2 := zt_3 zt45
theorem zk45 : zrk 45 = 0 := zt_4 zt45
theorem zm45 : zml 45 = 2 := zt_2 zt45
theorem zt46 : zlk zmt 46 = some (cX0_contains, 5, 2, 1) := rfl
theorem z46 : zcb 46 = cX0_contains := zt_1 zt46
theorem zo46 : zow 46 = 2 := zt_3 zt46
theorem zk46 : zrk 46 = 1 := zt_4 zt46
theorem zm46 : zml 46 = 5 := zt_2 zt46
theorem zt47 : zlk zmt 47 = some (cX0_eliminationRounds, 1, 2, 0) := rfl
theorem z47 : zcb 47 = cX0_eliminationRounds := zt_1 zt47
theorem zo47 : zow 47 = 2 := zt_3 zt47
theorem zk47 : zrk 47 = 0 := zt_4 zt47
theorem zm47 : zml 47 = 1 := zt_2 zt47
theorem zt48 : zlk zmt 48 = some (cX0_eliminate, 5, 2, 0) := rfl
theorem z48 : zcb 48 = cX0_eliminate := zt_1 zt48
theorem zo48 : zow 48 = 2 := zt_3 zt48
theorem zk48 : zrk 48 = 0 := zt_4 zt48
theorem zm48 : zml 48 = 5 := zt_2 zt48
theorem zt49 : zlk zmt 49 = some (cX0_removeDecreasing, 3, 2, 4) := rfl
theorem z49 : zcb 49 = cX0_removeDecreasing := zt_1 zt49
theorem zo49 : zow 49 = 2 := zt_3 zt49
theorem zk49 : zrk 49 = 4 := zt_4 zt49
theorem zm49 : zml 49 = 3 := zt_2 zt49
theorem zt50 : zlk zmt 50 = some (cX0_remainingPairCount, 3, 2, 0) := rfl
theorem z50 : zcb 50 = cX0_remainingPairCount := zt_1 zt50
theorem zo50 : zow 50 = 2 := zt_3 zt50
theorem zk50 : zrk 50 = 0 := zt_4 zt50
theorem zm50 : zml 50 = 3 := zt_2 zt50
theorem zt51 : zlk zmt 51 = some (cX0_remainingComponentCount, 1, 2, 0) := rfl
theorem z51 : zcb 51 = cX0_remainingComponentCount := zt_1 zt51
theorem zo51 : zow 51 = 2 := zt_3 zt51
theorem zk51 : zrk 51 = 0 := zt_4 zt51
theorem zm51 : zml 51 = 1 := zt_2 zt51
theorem zt52 : zlk zmt 52 = some (cX0_terminatesBySubtermCriterion, 1, 2, 0) := rfl
theorem z52 : zcb 52 = cX0_terminatesBySubtermCriterion := zt_1 zt52
theorem zo52 : zow 52 = 2 := zt_3 zt52
theorem zk52 : zrk 52 = 0 := zt_4 zt52
theorem zm52 : zml 52 = 1 := zt_2 zt52
theorem zt53 : zlk zmt 53 = some (cX0_parseTerm, 5, 2, 0) := rfl
theorem z53 : zcb 53 = cX0_parseTerm := zt_1 zt53
theorem zo53 : zow 53 = 2 := zt_3 zt53
theorem zk53 : zrk 53 = 0 := zt_4 zt53
theorem zm53 : zml 53 = 5 := zt_2 zt53
theorem zt54 : zlk zmt 54 = some (cX0_isRegister, 1, 2, 1) := rfl
theorem z54 : zcb 54 = cX0_isRegister := zt_1 zt54
theorem zo54 : zow 54 = 2 := zt_3 zt54
theorem zk54 : zrk 54 = 1 := zt_4 zt54
theorem zm54 : zml 54 = 1 := zt_2 zt54
theorem zt55 : zlk zmt 55 = some (cX0_store, 3, 2, 0) := rfl
theorem z55 : zcb 55 = cX0_store := zt_1 zt55
theorem zo55 : zow 55 = 2 := zt_3 zt55
theorem zk55 : zrk 55 = 0 := zt_4 zt55
theorem zm55 : zml 55 = 3 := zt_2 zt55
theorem zt56 : zlk zmt 56 = some (cX0_termSize, 2, 2, 0) := rfl
theorem z56 : zcb 56 = cX0_termSize := zt_1 zt56
theorem zo56 : zow 56 = 2 := zt_3 zt56
theorem zk56 : zrk 56 = 0 := zt_4 zt56
theorem zm56 : zml 56 = 2 := zt_2 zt56
theorem zt57 : zlk zmt 57 = some (cX0_formattedLength, 2, 2, 0) := rfl
theorem z57 : zcb 57 = cX0_formattedLength := zt_1 zt57
theorem zo57 : zow 57 = 2 := zt_3 zt57
theorem zk57 : zrk 57 = 0 := zt_4 zt57
theorem zm57 : zml 57 = 2 := zt_2 zt57
theorem zt58 : zlk zmt 58 = some (cX0_format, 2, 2, 3) := rfl
theorem z58 : zcb 58 = cX0_format := zt_1 zt58
theorem zo58 : zow 58 = 2 := zt_3 zt58
theorem zk58 : zrk 58 = 3 := zt_4 zt58
theorem zm58 : zml 58 = 2 := zt_2 zt58
theorem zt59 : zlk zmt 59 = some (cX0_formattedCharacter, 4, 2, 0) := rfl
theorem z59 : zcb 59 = cX0_formattedCharacter := zt_1 zt59
theorem zo59 : zow 59 = 2 := zt_3 zt59
theorem zk59 : zrk 59 = 0 := zt_4 zt59
theorem zm59 : zml 59 = 4 := zt_2 zt59
theorem zt60 : zlk zmt 60 = some (cX0_compareTerms, 4, 2, 0) := rfl
theorem z60 : zcb 60 = cX0_compareTerms := zt_1 zt60
theorem zo60 : zow 60 = 2 := zt_3 zt60
theorem zk60 : zrk 60 = 0 := zt_4 zt60
theorem zm60 : zml 60 = 4 := zt_2 zt60
theorem zt61 : zlk zmt 61 = some (cX0_copyTerm, 3, 2, 0) := rfl
theorem z61 : zcb 61 = cX0_copyTerm := zt_1 zt61
theorem zo61 : zow 61 = 2 := zt_3 zt61
theorem zk61 : zrk 61 = 0 := zt_4 zt61
theorem zm61 : zml 61 = 3 := zt_2 zt61
theorem zt62 : zlk zmt 62 = some (cX0_loadLeft, 3, 2, 0) := rfl
theorem z62 : zcb 62 = cX0_loadLeft := zt_1 zt62
theorem zo62 : zow 62 = 2 := zt_3 zt62
theorem zk62 : zrk 62 = 0 := zt_4 zt62
theorem zm62 : zml 62 = 3 := zt_2 zt62
theorem zt63 : zlk zmt 63 = some (cX0_loadRight, 3, 2, 0) := rfl
theorem z63 : zcb 63 = cX0_loadRight := zt_1 zt63
theorem zo63 : zow 63 = 2 := zt_3 zt63
theorem zk63 : zrk 63 = 0 := zt_4 zt63
theorem zm63 : zml 63 = 3 := zt_2 zt63
theorem zt64 : zlk zmt 64 = some (cX0_matches, 4, 2, 0) := rfl
theorem z64 : zcb 64 = cX0_matches := zt_1 zt64
theorem zo64 : zow 64 = 2 := zt_3 zt64
theorem zk64 : zrk 64 = 0 := zt_4 zt64
theorem zm64 : zml 64 = 4 := zt_2 zt64
theorem zt65 : zlk zmt 65 = some (cX0_isPosition, 3, 2, 1) := rfl
theorem z65 : zcb 65 = cX0_isPosition := zt_1 zt65
theorem zo65 : zow 65 = 2 := zt_3 zt65
theorem zk65 : zrk 65 = 1 := zt_4 zt65
theorem zm65 : zml 65 = 3 := zt_2 zt65
theorem zt66 : zlk zmt 66 = some (cX0_isMatch, 9, 2, 1) := rfl
theorem z66 : zcb 66 = cX0_isMatch := zt_1 zt66
theorem zo66 : zow 66 = 2 := zt_3 zt66
theorem zk66 : zrk 66 = 1 := zt_4 zt66
theorem zm66 : zml 66 = 9 := zt_2 zt66
theorem zt67 : zlk zmt 67 = some (cX0_redexCount, 5, 2, 0) := rfl
theorem z67 : zcb 67 = cX0_redexCount := zt_1 zt67
theorem zo67 : zow 67 = 2 := zt_3 zt67
theorem zk67 : zrk 67 = 0 := zt_4 zt67
theorem zm67 : zml 67 = 5 := zt_2 zt67
theorem zt68 : zlk zmt 68 = some (cX0_isRedex, 3, 2, 1) := rfl
theorem z68 : zcb 68 = cX0_isRedex := zt_1 zt68
theorem zo68 : zow 68 = 2 := zt_3 zt68
theorem zk68 : zrk 68 = 1 := zt_4 zt68
theorem zm68 : zml 68 = 3 := zt_2 zt68
theorem zt69 : zlk zmt 69 = some (cX0_matchingRule, 4, 2, 0) := rfl
theorem z69 : zcb 69 = cX0_matchingRule := zt_1 zt69
theorem zo69 : zow 69 = 2 := zt_3 zt69
theorem zk69 : zrk 69 = 0 := zt_4 zt69
theorem zm69 : zml 69 = 4 := zt_2 zt69
theorem zt70 : zlk zmt 70 = some (cX0_redexAt, 6, 2, 0) := rfl
theorem z70 : zcb 70 = cX0_redexAt := zt_1 zt70
theorem zo70 : zow 70 = 2 := zt_3 zt70
theorem zk70 : zrk 70 = 0 := zt_4 zt70
theorem zm70 : zml 70 = 6 := zt_2 zt70
theorem zt71 : zlk zmt 71 = some (cX0_rewriteAt, 4, 2, 0) := rfl
theorem z71 : zcb 71 = cX0_rewriteAt := zt_1 zt71
theorem zo71 : zow 71 = 2 := zt_3 zt71
theorem zk71 : zrk 71 = 0 := zt_4 zt71
theorem zm71 : zml 71 = 4 := zt_2 zt71
theorem zt72 : zlk zmt 72 = some (cX0_rewritten, 6, 2, 3) := rfl
theorem z72 : zcb 72 = cX0_rewritten := zt_1 zt72
theorem zo72 : zow 72 = 2 := zt_3 zt72
theorem zk72 : zrk 72 = 3 := zt_4 zt72
theorem zm72 : zml 72 = 6 := zt_2 zt72
theorem zt73 : zlk zmt 73 = some (cX0_instanceSize, 5, 2, 0) := rfl
theorem z73 : zcb 73 = cX0_instanceSize := zt_1 zt73
theorem zo73 : zow 73 = 2 := zt_3 zt73
theorem zk73 : zrk 73 = 0 := zt_4 zt73
theorem zm73 : zml 73 = 5 := zt_2 zt73
theorem zt74 : zlk zmt 74 = some (cX0_buildRange, 4, 2, 4) := rfl
theorem z74 : zcb 74 = cX0_buildRange := zt_1 zt74
theorem zo74 : zow 74 = 2 := zt_3 zt74
theorem zk74 : zrk 74 = 4 := zt_4 zt74
theorem zm74 : zml 74 = 4 := zt_2 zt74
theorem zt75 : zlk zmt 75 = some (cX0_rewriteOutermost, 5, 2, 0) := rfl
theorem z75 : zcb 75 = cX0_rewriteOutermost := zt_1 zt75
theorem zo75 : zow 75 = 2 := zt_3 zt75
theorem zk75 : zrk 75 = 0 := zt_4 zt75
theorem zm75 : zml 75 = 5 := zt_2 zt75
theorem zt76 : zlk zmt 76 = some (cX0_outermostStep, 3, 2, 3) := rfl
theorem z76 : zcb 76 = cX0_outermostStep := zt_1 zt76
theorem zo76 : zow 76 = 2 := zt_3 zt76
theorem zk76 : zrk 76 = 3 := zt_4 zt76
theorem zm76 : zml 76 = 3 := zt_2 zt76
theorem zt77 : zlk zmt 77 = some (cX0_outermostRedex, 3, 2, 0) := rfl
theorem z77 : zcb 77 = cX0_outermostRedex := zt_1 zt77
theorem zo77 : zow 77 = 2 := zt_3 zt77
theorem zk77 : zrk 77 = 0 := zt_4 zt77
theorem zm77 : zml 77 = 3 := zt_2 zt77
theorem zt78 : zlk zmt 78 = some (cX0_findLoop, 5, 2, 0) := rfl
theorem z78 : zcb 78 = cX0_findLoop := zt_1 zt78
theorem zo78 : zow 78 = 2 := zt_3 zt78
theorem zk78 : zrk 78 = 0 := zt_4 zt78
theorem zm78 : zml 78 = 5 := zt_2 zt78
theorem zt79 : zlk zmt 79 = some (cX0_occurred, 4, 2, 1) := rfl
theorem z79 : zcb 79 = cX0_occurred := zt_1 zt79
theorem zo79 : zow 79 = 2 := zt_3 zt79
theorem zk79 : zrk 79 = 1 := zt_4 zt79
theorem zm79 : zml 79 = 4 := zt_2 zt79
theorem zt80 : zlk zmt 80 = some (cX0_exploredCount, 4, 2, 0) := rfl
theorem z80 : zcb 80 = cX0_exploredCount := zt_1 zt80
theorem zo80 : zow 80 = 2 := zt_3 zt80
theorem zk80 : zrk 80 = 0 := zt_4 zt80
theorem zm80 : zml 80 = 4 := zt_2 zt80
theorem zt81 : zlk zmt 81 = some (cX0_explorationError, 3, 2, 0) := rfl
theorem z81 : zcb 81 = cX0_explorationError := zt_1 zt81
theorem zo81 : zow 81 = 2 := zt_3 zt81
theorem zk81 : zrk 81 = 0 := zt_4 zt81
theorem zm81 : zml 81 = 3 := zt_2 zt81
theorem zt82 : zlk zmt 82 = some (cX0_explore, 9, 2, 0) := rfl
theorem z82 : zcb 82 = cX0_explore := zt_1 zt82
theorem zo82 : zow 82 = 2 := zt_3 zt82
theorem zk82 : zrk 82 = 0 := zt_4 zt82
theorem zm82 : zml 82 = 9 := zt_2 zt82
theorem zt83 : zlk zmt 83 = some (cX0_exploredNormalForms, 7, 2, 0) := rfl
theorem z83 : zcb 83 = cX0_exploredNormalForms := zt_1 zt83
theorem zo83 : zow 83 = 2 := zt_3 zt83
theorem zk83 : zrk 83 = 0 := zt_4 zt83
theorem zm83 : zml 83 = 7 := zt_2 zt83
theorem zt84 : zlk zmt 84 = some (cX0_isNormalForm, 2, 2, 1) := rfl
theorem z84 : zcb 84 = cX0_isNormalForm := zt_1 zt84
theorem zo84 : zow 84 = 2 := zt_3 zt84
theorem zk84 : zrk 84 = 1 := zt_4 zt84
theorem zm84 : zml 84 = 2 := zt_2 zt84
theorem zt85 : zlk zmt 85 = some (cX0_lastExploredSize, 4, 2, 0) := rfl
theorem z85 : zcb 85 = cX0_lastExploredSize := zt_1 zt85
theorem zo85 : zow 85 = 2 := zt_3 zt85
theorem zk85 : zrk 85 = 0 := zt_4 zt85
theorem zm85 : zml 85 = 4 := zt_2 zt85
theorem zt86 : zlk zmt 86 = some (cX0_loadNormalForm, 9, 2, 0) := rfl
theorem z86 : zcb 86 = cX0_loadNormalForm := zt_1 zt86
theorem zo86 : zow 86 = 2 := zt_3 zt86
theorem zk86 : zrk 86 = 0 := zt_4 zt86
theorem zm86 : zml 86 = 9 := zt_2 zt86
theorem zt87 : zlk zmt 87 = some (cX0_normalFormRegisterCount, 6, 2, 0) := rfl
theorem z87 : zcb 87 = cX0_normalFormRegisterCount := zt_1 zt87
theorem zo87 : zow 87 = 2 := zt_3 zt87
theorem zk87 : zrk 87 = 0 := zt_4 zt87
theorem zm87 : zml 87 = 6 := zt_2 zt87
theorem zt88 : zlk zmt 88 = some (cX0_saveSnapshot, 1, 2, 0) := rfl
theorem z88 : zcb 88 = cX0_saveSnapshot := zt_1 zt88
theorem zo88 : zow 88 = 2 := zt_3 zt88
theorem zk88 : zrk 88 = 0 := zt_4 zt88
theorem zm88 : zml 88 = 1 := zt_2 zt88
theorem zt89 : zlk zmt 89 = some (cX0_restoreSnapshot, 1, 2, 0) := rfl
theorem z89 : zcb 89 = cX0_restoreSnapshot := zt_1 zt89
theorem zo89 : zow 89 = 2 := zt_3 zt89
theorem zk89 : zrk 89 = 0 := zt_4 zt89
theorem zm89 : zml 89 = 1 := zt_2 zt89
theorem zt90 : zlk zmt 90 = some (cX1_init, 2, 3, 4) := rfl
theorem z90 : zcb 90 = cX1_init := zt_1 zt90
theorem zo90 : zow 90 = 3 := zt_3 zt90
theorem zk90 : zrk 90 = 4 := zt_4 zt90
theorem zm90 : zml 90 = 2 := zt_2 zt90
theorem zt91 : zlk zmt 91 = some (cX1_rule, 3, 3, 3) := rfl
theorem z91 : zcb 91 = cX1_rule := zt_1 zt91
theorem zo91 : zow 91 = 3 := zt_3 zt91
theorem zk91 : zrk 91 = 3 := zt_4 zt91
theorem zm91 : zml 91 = 3 := zt_2 zt91
theorem zt92 : zlk zmt 92 = some (cX1_builtTerm, 1, 3, 3) := rfl
theorem z92 : zcb 92 = cX1_builtTerm := zt_1 zt92
theorem zo92 : zow 92 = 3 := zt_3 zt92
theorem zk92 : zrk 92 = 3 := zt_4 zt92
theorem zm92 : zml 92 = 1 := zt_2 zt92
theorem zt93 : zlk zmt 93 = some (cX1_term, 3, 3, 4) := rfl
theorem z93 : zcb 93 = cX1_term := zt_1 zt93
theorem zo93 : zow 93 = 3 := zt_3 zt93
theorem zk93 : zrk 93 = 4 := zt_4 zt93
theorem zm93 : zml 93 = 3 := zt_2 zt93
theorem zt94 : zlk zmt 94 = some (cX1_current, 1, 3, 0) := rfl
theorem z94 : zcb 94 = cX1_current := zt_1 zt94
theorem zo94 : zow 94 = 3 := zt_3 zt94
theorem zk94 : zrk 94 = 0 := zt_4 zt94
theorem zm94 : zml 94 = 1 := zt_2 zt94
theorem zt95 : zlk zmt 95 = some (cX1_require, 2, 3, 4) := rfl
theorem z95 : zcb 95 = cX1_require := zt_1 zt95
theorem zo95 : zow 95 = 3 := zt_3 zt95
theorem zk95 : zrk 95 = 4 := zt_4 zt95
theorem zm95 : zml 95 = 2 := zt_2 zt95
theorem zt96 : zlk zmt 96 = some (cX1_take, 2, 3, 4) := rfl
theorem z96 : zcb 96 = cX1_take := zt_1 zt96
theorem zo96 : zow 96 = 3 := zt_3 zt96
theorem zk96 : zrk 96 = 4 := zt_4 zt96
theorem zm96 : zml 96 = 2 := zt_2 zt96
theorem zt97 : zlk zmt 97 = some (cX1_whole, 2, 3, 3) := rfl
theorem z97 : zcb 97 = cX1_whole := zt_1 zt97
theorem zo97 : zow 97 = 3 := zt_3 zt97
theorem zk97 : zrk 97 = 3 := zt_4 zt97
theorem zm97 : zml 97 = 2 := zt_2 zt97
theorem zt98 : zlk zmt 98 = some (cX2_init, 4, 4, 4) := rfl
theorem z98 : zcb 98 = cX2_init := zt_1 zt98
theorem zo98 : zow 98 = 4 := zt_3 zt98
theorem zk98 : zrk 98 = 4 := zt_4 zt98
theorem zm98 : zml 98 = 4 := zt_2 zt98
theorem zt99 : zlk zmt 99 = some (cX2_compareTo, 2, 4, 0) := rfl
theorem z99 : zcb 99 = cX2_compareTo := zt_1 zt99
theorem zo99 : zow 99 = 4 := zt_3 zt99
theorem zk99 : zrk 99 = 0 := zt_4 zt99
theorem zm99 : zml 99 = 2 := zt_2 zt99
theorem zt100 : zlk zmt 100 = some (cX2_compareTo_2, 3, 4, 0) := rfl
theorem z100 : zcb 100 = cX2_compareTo_2 := zt_1 zt100
theorem zo100 : zow 100 = 4 := zt_3 zt100
theorem zk100 : zrk 100 = 0 := zt_4 zt100
theorem zm100 : zml 100 = 3 := zt_2 zt100
theorem zt101 : zlk zmt 101 = some (cX2_copy, 1, 4, 3) := rfl
theorem z101 : zcb 101 = cX2_copy := zt_1 zt101
theorem zo101 : zow 101 = 4 := zt_3 zt101
theorem zk101 : zrk 101 = 3 := zt_4 zt101
theorem zm101 : zml 101 = 1 := zt_2 zt101
theorem zt102 : zlk zmt 102 = some (cX2_compose, 10, 4, 4) := rfl
theorem z102 : zcb 102 = cX2_compose := zt_1 zt102
theorem zo102 : zow 102 = 4 := zt_3 zt102
theorem zk102 : zrk 102 = 4 := zt_4 zt102
theorem zm102 : zml 102 = 10 := zt_2 zt102
theorem zt103 : zlk zmt 103 = some (cX2_decreases, 1, 4, 1) := rfl
theorem z103 : zcb 103 = cX2_decreases := zt_1 zt103
theorem zo103 : zow 103 = 4 := zt_3 zt103
theorem zk103 : zrk 103 = 1 := zt_4 zt103
theorem zm103 : zml 103 = 1 := zt_2 zt103
theorem zt104 : zlk zmt 104 = some (cX3_init, 6, 5, 4) := rfl
theorem z104 : zcb 104 = cX3_init := zt_1 zt104
theorem zo104 : zow 104 = 5 := zt_3 zt104
theorem zk104 : zrk 104 = 4 := zt_4 zt104
theorem zm104 : zml 104 = 6 := zt_2 zt104
theorem zt105 : zlk zmt 105 = some (cX3_argumentCount, 2, 5, 0) := rfl
theorem z105 : zcb 105 = cX3_argumentCount := zt_1 zt105
theorem zo105 : zow 105 = 5 := zt_3 zt105
theorem zk105 : zrk 105 = 0 := zt_4 zt105
theorem zm105 : zml 105 = 2 := zt_2 zt105
theorem zt106 : zlk zmt 106 = some (cX3_isFunctionSymbol, 1, 5, 1) := rfl
theorem z106 : zcb 106 = cX3_isFunctionSymbol := zt_1 zt106
theorem zo106 : zow 106 = 5 := zt_3 zt106
theorem zk106 : zrk 106 = 1 := zt_4 zt106
theorem zm106 : zml 106 = 1 := zt_2 zt106
theorem zt107 : zlk zmt 107 = some (cX3_containsFunction, 4, 5, 1) := rfl
theorem z107 : zcb 107 = cX3_containsFunction := zt_1 zt107
theorem zo107 : zow 107 = 5 := zt_3 zt107
theorem zk107 : zrk 107 = 1 := zt_4 zt107
theorem zm107 : zml 107 = 4 := zt_2 zt107
theorem zt108 : zlk zmt 108 = some (cX3_size, 1, 5, 0) := rfl
theorem z108 : zcb 108 = cX3_size := zt_1 zt108
theorem zo108 : zow 108 = 5 := zt_3 zt108
theorem zk108 : zrk 108 = 0 := zt_4 zt108
theorem zm108 : zml 108 = 1 := zt_2 zt108
theorem zt109 : zlk zmt 109 = some (cX3_isFunction, 2, 5, 1) := rfl
theorem z109 : zcb 109 = cX3_isFunction := zt_1 zt109
theorem zo109 : zow 109 = 5 := zt_3 zt109
theorem zk109 : zrk 109 = 1 := zt_4 zt109
theorem zm109 : zml 109 = 2 := zt_2 zt109
theorem zt110 : zlk zmt 110 = some (cX3_isVariable, 2, 5, 1) := rfl
theorem z110 : zcb 110 = cX3_isVariable := zt_1 zt110
theorem zo110 : zow 110 = 5 := zt_3 zt110
theorem zk110 : zrk 110 = 1 := zt_4 zt110
theorem zm110 : zml 110 = 2 := zt_2 zt110
theorem zt111 : zlk zmt 111 = some (cX3_containsAt, 5, 5, 1) := rfl
theorem z111 : zcb 111 = cX3_containsAt := zt_1 zt111
theorem zo111 : zow 111 = 5 := zt_3 zt111
theorem zk111 : zrk 111 = 1 := zt_4 zt111
theorem zm111 : zml 111 = 5 := zt_2 zt111
theorem zt112 : zlk zmt 112 = some (cX3_isEqualAt, 6, 5, 1) := rfl
theorem z112 : zcb 112 = cX3_isEqualAt := zt_1 zt112
theorem zo112 : zow 112 = 5 := zt_3 zt112
theorem zk112 : zrk 112 = 1 := zt_4 zt112
theorem zm112 : zml 112 = 6 := zt_2 zt112
theorem zt113 : zlk zmt 113 = some (cX3_sizeAt, 2, 5, 0) := rfl
theorem z113 : zcb 113 = cX3_sizeAt := zt_1 zt113
theorem zo113 : zow 113 = 5 := zt_3 zt113
theorem zk113 : zrk 113 = 0 := zt_4 zt113
theorem zm113 : zml 113 = 2 := zt_2 zt113
theorem zt114 : zlk zmt 114 = some (cX3_function, 2, 5, 0) := rfl
theorem z114 : zcb 114 = cX3_function := zt_1 zt114
theorem zo114 : zow 114 = 5 := zt_3 zt114
theorem zk114 : zrk 114 = 0 := zt_4 zt114
theorem zm114 : zml 114 = 2 := zt_2 zt114
theorem zt115 : zlk zmt 115 = some (cX3_compareTo, 2, 5, 0) := rfl
theorem z115 : zcb 115 = cX3_compareTo := zt_1 zt115
theorem zo115 : zow 115 = 5 := zt_3 zt115
theorem zk115 : zrk 115 = 0 := zt_4 zt115
theorem zm115 : zml 115 = 2 := zt_2 zt115
theorem zt116 : zlk zmt 116 = some (cX3_compareTo_2, 3, 5, 0) := rfl
theorem z116 : zcb 116 = cX3_compareTo_2 := zt_1 zt116
theorem zo116 : zow 116 = 5 := zt_3 zt116
theorem zk116 : zrk 116 = 0 := zt_4 zt116
theorem zm116 : zml 116 = 3 := zt_2 zt116
theorem zt117 : zlk zmt 117 = some (cX3_write, 4, 5, 4) := rfl
theorem z117 : zcb 117 = cX3_write := zt_1 zt117
theorem zo117 : zow 117 = 5 := zt_3 zt117
theorem zk117 : zrk 117 = 4 := zt_4 zt117
theorem zm117 : zml 117 = 4 := zt_2 zt117
theorem zt118 : zlk zmt 118 = some (cX3_isEqual, 2, 5, 1) := rfl
theorem z118 : zcb 118 = cX3_isEqual := zt_1 zt118
theorem zo118 : zow 118 = 5 := zt_3 zt118
theorem zk118 : zrk 118 = 1 := zt_4 zt118
theorem zm118 : zml 118 = 2 := zt_2 zt118
theorem zt119 : zlk zmt 119 = some (cX5_init, 2, 6, 4) := rfl
theorem z119 : zcb 119 = cX5_init := zt_1 zt119
theorem zo119 : zow 119 = 6 := zt_3 zt119
theorem zk119 : zrk 119 = 4 := zt_4 zt119
theorem zm119 : zml 119 = 2 := zt_2 zt119
theorem zt120 : zlk zmt 120 = some (cX6_init, 3, 7, 4) := rfl
theorem z120 : zcb 120 = cX6_init := zt_1 zt120
theorem zo120 : zow 120 = 7 := zt_3 zt120
theorem zk120 : zrk 120 = 4 := zt_4 zt120
theorem zm120 : zml 120 = 3 := zt_2 zt120
theorem zt121 : zlk zmt 121 = some (cX7_init, 11, 8, 4) := rfl
theorem z121 : zcb 121 = cX7_init := zt_1 zt121
theorem zo121 : zow 121 = 8 := zt_3 zt121
theorem zk121 : zrk 121 = 4 := zt_4 zt121
theorem zm121 : zml 121 = 11 := zt_2 zt121
theorem zt122 : zlk zmt 122 = some (cX7_relation, 3, 8, 0) := rfl
theorem z122 : zcb 122 = cX7_relation := zt_1 zt122
theorem zo122 : zow 122 = 8 := zt_3 zt122
theorem zk122 : zrk 122 = 0 := zt_4 zt122
theorem zm122 : zml 122 = 3 := zt_2 zt122
theorem zt123 : zlk zmt 123 = some (cX8_compare, 3, 9, 0) := rfl
theorem z123 : zcb 123 = cX8_compare := zt_1 zt123
theorem zo123 : zow 123 = 9 := zt_3 zt123
theorem zk123 : zrk 123 = 0 := zt_4 zt123
theorem zm123 : zml 123 = 3 := zt_2 zt123
theorem zt124 : zlk zmt 124 = some (cX8_compare_2, 3, 9, 0) := rfl
theorem z124 : zcb 124 = cX8_compare_2 := zt_1 zt124
theorem zo124 : zow 124 = 9 := zt_3 zt124
theorem zk124 : zrk 124 = 0 := zt_4 zt124
theorem zm124 : zml 124 = 3 := zt_2 zt124
theorem zt125 : zlk zmt 125 = some (cX8_init, 1, 9, 4) := rfl
theorem z125 : zcb 125 = cX8_init := zt_1 zt125
theorem zo125 : zow 125 = 9 := zt_3 zt125
theorem zk125 : zrk 125 = 4 := zt_4 zt125
theorem zm125 : zml 125 = 1 := zt_2 zt125
theorem zt126 : zlk zmt 126 = some (cX4_init, 2, 10, 4) := rfl
theorem z126 : zcb 126 = cX4_init := zt_1 zt126
theorem zo126 : zow 126 = 10 := zt_3 zt126
theorem zk126 : zrk 126 = 4 := zt_4 zt126
theorem zm126 : zml 126 = 2 := zt_2 zt126
theorem zt127 : zlk zmt 127 = some (cX4_setToZ, 2, 10, 4) := rfl
theorem z127 : zcb 127 = cX4_setToZ := zt_1 zt127
theorem zo127 : zow 127 = 10 := zt_3 zt127
theorem zk127 : zrk 127 = 4 := zt_4 zt127
theorem zm127 : zml 127 = 2 := zt_2 zt127
theorem zt128 : zlk zmt 128 = some (cX4_setArity, 7, 10, 0) := rfl
theorem z128 : zcb 128 = cX4_setArity := zt_1 zt128
theorem zo128 : zow 128 = 10 := zt_3 zt128
theorem zk128 : zrk 128 = 0 := zt_4 zt128
theorem zm128 : zml 128 = 7 := zt_2 zt128
theorem zt129 : zlk zmt 129 = some (cX4_isIn, 3, 10, 1) := rfl
theorem z129 : zcb 129 = cX4_isIn := zt_1 zt129
theorem zo129 : zow 129 = 10 := zt_3 zt129
theorem zk129 : zrk 129 = 1 := zt_4 zt129
theorem zm129 : zml 129 = 3 := zt_2 zt129
theorem zt130 : zlk zmt 130 = some (cX4_arity, 2, 10, 0) := rfl
theorem z130 : zcb 130 = cX4_arity := zt_1 zt130
theorem zo130 : zow 130 = 10 := zt_3 zt130
theorem zk130 : zrk 130 = 0 := zt_4 zt130
theorem zm130 : zml 130 = 2 := zt_2 zt130
theorem zt131 : zlk zmt 131 = some (cX4_addRule, 2, 10, 0) := rfl
theorem z131 : zcb 131 = cX4_addRule := zt_1 zt131
theorem zo131 : zow 131 = 10 := zt_3 zt131
theorem zk131 : zrk 131 = 0 := zt_4 zt131
theorem zm131 : zml 131 = 2 := zt_2 zt131
theorem zt132 : zlk zmt 132 = some (cX4_parsesTerm, 4, 10, 1) := rfl
theorem z132 : zcb 132 = cX4_parsesTerm := zt_1 zt132
theorem zo132 : zow 132 = 10 := zt_3 zt132
theorem zk132 : zrk 132 = 1 := zt_4 zt132
theorem zm132 : zml 132 = 4 := zt_2 zt132
theorem zt133 : zlk zmt 133 = some (cX4_next, 1, 10, 0) := rfl
theorem z133 : zcb 133 = cX4_next := zt_1 zt133
theorem zo133 : zow 133 = 10 := zt_3 zt133
theorem zk133 : zrk 133 = 0 := zt_4 zt133
theorem zm133 : zml 133 = 1 := zt_2 zt133
theorem zt134 : zlk zmt 134 = some (cX4_isFunction, 1, 10, 1) := rfl
theorem z134 : zcb 134 = cX4_isFunction := zt_1 zt134
theorem zo134 : zow 134 = 10 := zt_3 zt134
theorem zk134 : zrk 134 = 1 := zt_4 zt134
theorem zm134 : zml 134 = 1 := zt_2 zt134
theorem zt135 : zlk zmt 135 = some (cX4_isVariable, 1, 10, 1) := rfl
theorem z135 : zcb 135 = cX4_isVariable := zt_1 zt135
theorem zo135 : zow 135 = 10 := zt_3 zt135
theorem zk135 : zrk 135 = 1 := zt_4 zt135
theorem zm135 : zml 135 = 1 := zt_2 zt135
theorem zt136 : zlk zmt 136 = some (cX4_arityOf, 2, 10, 0) := rfl
theorem z136 : zcb 136 = cX4_arityOf := zt_1 zt136
theorem zo136 : zow 136 = 10 := zt_3 zt136
theorem zk136 : zrk 136 = 0 := zt_4 zt136
theorem zm136 : zml 136 = 2 := zt_2 zt136
theorem zt137 : zlk zmt 137 = some (cX4_accepts, 2, 10, 1) := rfl
theorem z137 : zcb 137 = cX4_accepts := zt_1 zt137
theorem zo137 : zow 137 = 10 := zt_3 zt137
theorem zk137 : zrk 137 = 1 := zt_4 zt137
theorem zm137 : zml 137 = 2 := zt_2 zt137
theorem zt138 : zlk zmt 138 = some (cX4_copy, 6, 10, 4) := rfl
theorem z138 : zcb 138 = cX4_copy := zt_1 zt138
theorem zo138 : zow 138 = 10 := zt_3 zt138
theorem zk138 : zrk 138 = 4 := zt_4 zt138
theorem zm138 : zml 138 = 6 := zt_2 zt138
theorem zt139 : zlk zmt 139 = some (cX4_isValidRule, 3, 10, 1) := rfl
theorem z139 : zcb 139 = cX4_isValidRule := zt_1 zt139
theorem zo139 : zow 139 = 10 := zt_3 zt139
theorem zk139 : zrk 139 = 1 := zt_4 zt139
theorem zm139 : zml 139 = 3 := zt_2 zt139
theorem zt140 : zlk zmt 140 = some (cX4_hasSymbol, 4, 10, 1) := rfl
theorem z140 : zcb 140 = cX4_hasSymbol := zt_1 zt140
theorem zo140 : zow 140 = 10 := zt_3 zt140
theorem zk140 : zrk 140 = 1 := zt_4 zt140
theorem zm140 : zml 140 = 4 := zt_2 zt140
theorem zt141 : zlk zmt 141 = some (cX4_left, 1, 10, 0) := rfl
theorem z141 : zcb 141 = cX4_left := zt_1 zt141
theorem zo141 : zow 141 = 10 := zt_3 zt141
theorem zk141 : zrk 141 = 0 := zt_4 zt141
theorem zm141 : zml 141 = 1 := zt_2 zt141
theorem zt142 : zlk zmt 142 = some (cX4_right, 1, 10, 0) := rfl
theorem z142 : zcb 142 = cX4_right := zt_1 zt142
theorem zo142 : zow 142 = 10 := zt_3 zt142
theorem zk142 : zrk 142 = 0 := zt_4 zt142
theorem zm142 : zml 142 = 1 := zt_2 zt142
theorem zt143 : zlk zmt 143 = some (cX4_removeRule, 3, 10, 0) := rfl
theorem z143 : zcb 143 = cX4_removeRule := zt_1 zt143
theorem zo143 : zow 143 = 10 := zt_3 zt143
theorem zk143 : zrk 143 = 0 := zt_4 zt143
theorem zm143 : zml 143 = 3 := zt_2 zt143
theorem zt144 : zlk zmt 144 = some (cX4_isRule, 2, 10, 1) := rfl
theorem z144 : zcb 144 = cX4_isRule := zt_1 zt144
theorem zo144 : zow 144 = 10 := zt_3 zt144
theorem zk144 : zrk 144 = 1 := zt_4 zt144
theorem zm144 : zml 144 = 2 := zt_2 zt144
theorem zt145 : zlk zmt 145 = some (cX4_ruleCount, 1, 10, 0) := rfl
theorem z145 : zcb 145 = cX4_ruleCount := zt_1 zt145
theorem zo145 : zow 145 = 10 := zt_3 zt145
theorem zk145 : zrk 145 = 0 := zt_4 zt145
theorem zm145 : zml 145 = 1 := zt_2 zt145
theorem zt146 : zlk zmt 146 = some (cX4_leftSize, 2, 10, 0) := rfl
theorem z146 : zcb 146 = cX4_leftSize := zt_1 zt146
theorem zo146 : zow 146 = 10 := zt_3 zt146
theorem zk146 : zrk 146 = 0 := zt_4 zt146
theorem zm146 : zml 146 = 2 := zt_2 zt146
theorem zt147 : zlk zmt 147 = some (cX4_rightSize, 2, 10, 0) := rfl
theorem z147 : zcb 147 = cX4_rightSize := zt_1 zt147
theorem zo147 : zow 147 = 10 := zt_3 zt147
theorem zk147 : zrk 147 = 0 := zt_4 zt147
theorem zm147 : zml 147 = 2 := zt_2 zt147
theorem zt148 : zlk zmt 148 = some (cX4_pairCount, 1, 10, 0) := rfl
theorem z148 : zcb 148 = cX4_pairCount := zt_1 zt148
theorem zo148 : zow 148 = 10 := zt_3 zt148
theorem zk148 : zrk 148 = 0 := zt_4 zt148
theorem zm148 : zml 148 = 1 := zt_2 zt148
theorem zt149 : zlk zmt 149 = some (cX4_findPairs, 4, 10, 0) := rfl
theorem z149 : zcb 149 = cX4_findPairs := zt_1 zt149
theorem zo149 : zow 149 = 10 := zt_3 zt149
theorem zk149 : zrk 149 = 0 := zt_4 zt149
theorem zm149 : zml 149 = 4 := zt_2 zt149
theorem zt150 : zlk zmt 150 = some (cX4_pairRule, 2, 10, 0) := rfl
theorem z150 : zcb 150 = cX4_pairRule := zt_1 zt150
theorem zo150 : zow 150 = 10 := zt_3 zt150
theorem zk150 : zrk 150 = 0 := zt_4 zt150
theorem zm150 : zml 150 = 2 := zt_2 zt150
theorem zt151 : zlk zmt 151 = some (cX4_isPair, 2, 10, 1) := rfl
theorem z151 : zcb 151 = cX4_isPair := zt_1 zt151
theorem zo151 : zow 151 = 10 := zt_3 zt151
theorem zk151 : zrk 151 = 1 := zt_4 zt151
theorem zm151 : zml 151 = 2 := zt_2 zt151
theorem zt152 : zlk zmt 152 = some (cX4_pairPosition, 2, 10, 0) := rfl
theorem z152 : zcb 152 = cX4_pairPosition := zt_1 zt152
theorem zo152 : zow 152 = 10 := zt_3 zt152
theorem zk152 : zrk 152 = 0 := zt_4 zt152
theorem zm152 : zml 152 = 2 := zt_2 zt152
theorem zt153 : zlk zmt 153 = some (cX4_sourceFunction, 2, 10, 0) := rfl
theorem z153 : zcb 153 = cX4_sourceFunction := zt_1 zt153
theorem zo153 : zow 153 = 10 := zt_3 zt153
theorem zk153 : zrk 153 = 0 := zt_4 zt153
theorem zm153 : zml 153 = 2 := zt_2 zt153
theorem zt154 : zlk zmt 154 = some (cX4_sourceOf, 2, 10, 0) := rfl
theorem z154 : zcb 154 = cX4_sourceOf := zt_1 zt154
theorem zo154 : zow 154 = 10 := zt_3 zt154
theorem zk154 : zrk 154 = 0 := zt_4 zt154
theorem zm154 : zml 154 = 2 := zt_2 zt154
theorem zt155 : zlk zmt 155 = some (cX4_source, 2, 10, 0) := rfl
theorem z155 : zcb 155 = cX4_source := zt_1 zt155
theorem zo155 : zow 155 = 10 := zt_3 zt155
theorem zk155 : zrk 155 = 0 := zt_4 zt155
theorem zm155 : zml 155 = 2 := zt_2 zt155
theorem zt156 : zlk zmt 156 = some (cX4_targetFunction, 2, 10, 0) := rfl
theorem z156 : zcb 156 = cX4_targetFunction := zt_1 zt156
theorem zo156 : zow 156 = 10 := zt_3 zt156
theorem zk156 : zrk 156 = 0 := zt_4 zt156
theorem zm156 : zml 156 = 2 := zt_2 zt156
theorem zt157 : zlk zmt 157 = some (cX4_targetOf, 2, 10, 0) := rfl
theorem z157 : zcb 157 = cX4_targetOf := zt_1 zt157
theorem zo157 : zow 157 = 10 := zt_3 zt157
theorem zk157 : zrk 157 = 0 := zt_4 zt157
theorem zm157 : zml 157 = 2 := zt_2 zt157
theorem zt158 : zlk zmt 158 = some (cX4_target, 2, 10, 0) := rfl
theorem z158 : zcb 158 = cX4_target := zt_1 zt158
theorem zo158 : zow 158 = 10 := zt_3 zt158
theorem zk158 : zrk 158 = 0 := zt_4 zt158
theorem zm158 : zml 158 = 2 := zt_2 zt158
theorem zt159 : zlk zmt 159 = some (cX4_hasEdge, 3, 10, 0) := rfl
theorem z159 : zcb 159 = cX4_hasEdge := zt_1 zt159
theorem zo159 : zow 159 = 10 := zt_3 zt159
theorem zk159 : zrk 159 = 0 := zt_4 zt159
theorem zm159 : zml 159 = 3 := zt_2 zt159
theorem zt160 : zlk zmt 160 = some (cX4_isEdge, 3, 10, 1) := rfl
theorem z160 : zcb 160 = cX4_isEdge := zt_1 zt160
theorem zo160 : zow 160 = 10 := zt_3 zt160
theorem zk160 : zrk 160 = 1 := zt_4 zt160
theorem zm160 : zml 160 = 3 := zt_2 zt160
theorem zt161 : zlk zmt 161 = some (cX4_areArgumentsCompatible, 5, 10, 1) := rfl
theorem z161 : zcb 161 = cX4_areArgumentsCompatible := zt_1 zt161
theorem zo161 : zow 161 = 10 := zt_3 zt161
theorem zk161 : zrk 161 = 1 := zt_4 zt161
theorem zm161 : zml 161 = 5 := zt_2 zt161
theorem zt162 : zlk zmt 162 = some (cX4_argument, 6, 10, 0) := rfl
theorem z162 : zcb 162 = cX4_argument := zt_1 zt162
theorem zo162 : zow 162 = 10 := zt_3 zt162
theorem zk162 : zrk 162 = 0 := zt_4 zt162
theorem zm162 : zml 162 = 6 := zt_2 zt162
theorem zt163 : zlk zmt 163 = some (cX4_end, 5, 10, 0) := rfl
theorem z163 : zcb 163 = cX4_end := zt_1 zt163
theorem zo163 : zow 163 = 10 := zt_3 zt163
theorem zk163 : zrk 163 = 0 := zt_4 zt163
theorem zm163 : zml 163 = 5 := zt_2 zt163
theorem zt164 : zlk zmt 164 = some (cX4_isCompatible, 5, 10, 1) := rfl
theorem z164 : zcb 164 = cX4_isCompatible := zt_1 zt164
theorem zo164 : zow 164 = 10 := zt_3 zt164
theorem zk164 : zrk 164 = 1 := zt_4 zt164
theorem zm164 : zml 164 = 5 := zt_2 zt164
theorem zt165 : zlk zmt 165 = some (cX4_edgeCount, 5, 10, 0) := rfl
theorem z165 : zcb 165 = cX4_edgeCount := zt_1 zt165
theorem zo165 : zow 165 = 10 := zt_3 zt165
theorem zk165 : zrk 165 = 0 := zt_4 zt165
theorem zm165 : zml 165 = 5 := zt_2 zt165
theorem zt166 : zlk zmt 166 = some (cX4_componentCount, 1, 10, 0) := rfl
theorem z166 : zcb 166 = cX4_componentCount := zt_1 zt166
theorem zo166 : zow 166 = 10 := zt_3 zt166
theorem zk166 : zrk 166 = 0 := zt_4 zt166
theorem zm166 : zml 166 = 1 := zt_2 zt166
theorem zt167 : zlk zmt 167 = some (cX4_findGraph, 3, 10, 4) := rfl
theorem z167 : zcb 167 = cX4_findGraph := zt_1 zt167
theorem zo167 : zow 167 = 10 := zt_3 zt167
theorem zk167 : zrk 167 = 4 := zt_4 zt167
theorem zm167 : zml 167 = 3 := zt_2 zt167
theorem zt168 : zlk zmt 168 = some (cX4_findComponents, 4, 10, 4) := rfl
theorem z168 : zcb 168 = cX4_findComponents := zt_1 zt168
theorem zo168 : zow 168 = 10 := zt_3 zt168
theorem zk168 : zrk 168 = 4 := zt_4 zt168
theorem zm168 : zml 168 = 4 := zt_2 zt168
theorem zt169 : zlk zmt 169 = some (cX4_hasBit, 3, 10, 1) := rfl
theorem z169 : zcb 169 = cX4_hasBit := zt_1 zt169
theorem zo169 : zow 169 = 10 := zt_3 zt169
theorem zk169 : zrk 169 = 1 := zt_4 zt169
theorem zm169 : zml 169 = 3 := zt_2 zt169
theorem zt170 : zlk zmt 170 = some (cX4_componentOf, 2, 10, 0) := rfl
theorem z170 : zcb 170 = cX4_componentOf := zt_1 zt170
theorem zo170 : zow 170 = 10 := zt_3 zt170
theorem zk170 : zrk 170 = 0 := zt_4 zt170
theorem zm170 : zml 170 = 2 := zt_2 zt170
theorem zt171 : zlk zmt 171 = some (cX4_sizeRelation, 4, 10, 0) := rfl
theorem z171 : zcb 171 = cX4_sizeRelation := zt_1 zt171
theorem zo171 : zow 171 = 10 := zt_3 zt171
theorem zk171 : zrk 171 = 0 := zt_4 zt171
theorem zm171 : zml 171 = 4 := zt_2 zt171
theorem zt172 : zlk zmt 172 = some (cX4_relation, 9, 10, 0) := rfl
theorem z172 : zcb 172 = cX4_relation := zt_1 zt172
theorem zo172 : zow 172 = 10 := zt_3 zt172
theorem zk172 : zrk 172 = 0 := zt_4 zt172
theorem zm172 : zml 172 = 9 := zt_2 zt172
theorem zt173 : zlk zmt 173 = some (cX4_areEqual, 7, 10, 1) := rfl
theorem z173 : zcb 173 = cX4_areEqual := zt_1 zt173
theorem zo173 : zow 173 = 10 := zt_3 zt173
theorem zk173 : zrk 173 = 1 := zt_4 zt173
theorem zm173 : zml 173 = 7 := zt_2 zt173
theorem zt174 : zlk zmt 174 = some (cX4_closureSize, 1, 10, 0) := rfl
theorem z174 : zcb 174 = cX4_closureSize := zt_1 zt174
theorem zo174 : zow 174 = 10 := zt_3 zt174
theorem zk174 : zrk 174 = 0 := zt_4 zt174
theorem zm174 : zml 174 = 1 := zt_2 zt174
theorem zt175 : zlk zmt 175 = some (cX4_findClosure, 5, 10, 1) := rfl
theorem z175 : zcb 175 = cX4_findClosure := zt_1 zt175
theorem zo175 : zow 175 = 10 := zt_3 zt175
theorem zk175 : zrk 175 = 1 := zt_4 zt175
theorem zm175 : zml 175 = 5 := zt_2 zt175
theorem zt176 : zlk zmt 176 = some (cX4_encode, 4, 10, 0) := rfl
theorem z176 : zcb 176 = cX4_encode := zt_1 zt176
theorem zo176 : zow 176 = 10 := zt_3 zt176
theorem zk176 : zrk 176 = 0 := zt_4 zt176
theorem zm176 : zml 176 = 4 := zt_2 zt176
theorem zt177 : zlk zmt 177 = some (cX4_addGraph, 2, 10, 4) := rfl
theorem z177 : zcb 177 = cX4_addGraph := zt_1 zt177
theorem zo177 : zow 177 = 10 := zt_3 zt177
theorem zk177 : zrk 177 = 4 := zt_4 zt177
theorem zm177 : zml 177 = 2 := zt_2 zt177
theorem zt178 : zlk zmt 178 = some (cX4_compose, 9, 10, 0) := rfl
theorem z178 : zcb 178 = cX4_compose := zt_1 zt178
theorem zo178 : zow 178 = 10 := zt_3 zt178
theorem zk178 : zrk 178 = 0 := zt_4 zt178
theorem zm178 : zml 178 = 9 := zt_2 zt178
theorem zt179 : zlk zmt 179 = some (cX4_functions, 1, 10, 0) := rfl
theorem z179 : zcb 179 = cX4_functions := zt_1 zt179
theorem zo179 : zow 179 = 10 := zt_3 zt179
theorem zk179 : zrk 179 = 0 := zt_4 zt179
theorem zm179 : zml 179 = 1 := zt_2 zt179
theorem zt180 : zlk zmt 180 = some (cX4_decode, 4, 10, 4) := rfl
theorem z180 : zcb 180 = cX4_decode := zt_1 zt180
theorem zo180 : zow 180 = 10 := zt_3 zt180
theorem zk180 : zrk 180 = 4 := zt_4 zt180
theorem zm180 : zml 180 = 4 := zt_2 zt180
theorem zt181 : zlk zmt 181 = some (cX4_idempotentCount, 3, 10, 0) := rfl
theorem z181 : zcb 181 = cX4_idempotentCount := zt_1 zt181
theorem zo181 : zow 181 = 10 := zt_3 zt181
theorem zk181 : zrk 181 = 0 := zt_4 zt181
theorem zm181 : zml 181 = 3 := zt_2 zt181
theorem zt182 : zlk zmt 182 = some (cX4_terminatesBySizeChange, 3, 10, 0) := rfl
theorem z182 : zcb 182 = cX4_terminatesBySizeChange := zt_1 zt182
theorem zo182 : zow 182 = 10 := zt_3 zt182
theorem zk182 : zrk 182 = 0 := zt_4 zt182
theorem zm182 : zml 182 = 3 := zt_2 zt182
theorem zt183 : zlk zmt 183 = some (cX4_projection, 2, 10, 0) := rfl
theorem z183 : zcb 183 = cX4_projection := zt_1 zt183
theorem zo183 : zow 183 = 10 := zt_3 zt183
theorem zk183 : zrk 183 = 0 := zt_4 zt183
theorem zm183 : zml 183 = 2 := zt_2 zt183
theorem zt184 : zlk zmt 184 = some (cX4_findProjection, 5, 10, 0) := rfl
theorem z184 : zcb 184 = cX4_findProjection := zt_1 zt184
theorem zo184 : zow 184 = 10 := zt_3 zt184
theorem zk184 : zrk 184 = 0 := zt_4 zt184
theorem zm184 : zml 184 = 5 := zt_2 zt184
theorem zt185 : zlk zmt 185 = some (cX4_isValid, 6, 10, 1) := rfl
theorem z185 : zcb 185 = cX4_isValid := zt_1 zt185
theorem zo185 : zow 185 = 10 := zt_3 zt185
theorem zk185 : zrk 185 = 1 := zt_4 zt185
theorem zm185 : zml 185 = 6 := zt_2 zt185
theorem zt186 : zlk zmt 186 = some (cX4_eliminationRounds, 1, 10, 0) := rfl
theorem z186 : zcb 186 = cX4_eliminationRounds := zt_1 zt186
theorem zo186 : zow 186 = 10 := zt_3 zt186
theorem zk186 : zrk 186 = 0 := zt_4 zt186
theorem zm186 : zml 186 = 1 := zt_2 zt186
theorem zt187 : zlk zmt 187 = some (cX4_eliminate, 5, 10, 0) := rfl
theorem z187 : zcb 187 = cX4_eliminate := zt_1 zt187
theorem zo187 : zow 187 = 10 := zt_3 zt187
theorem zk187 : zrk 187 = 0 := zt_4 zt187
theorem zm187 : zml 187 = 5 := zt_2 zt187
theorem zt188 : zlk zmt 188 = some (cX4_remainingPairCount, 4, 10, 0) := rfl
theorem z188 : zcb 188 = cX4_remainingPairCount := zt_1 zt188
theorem zo188 : zow 188 = 10 := zt_3 zt188
theorem zk188 : zrk 188 = 0 := zt_4 zt188
theorem zm188 : zml 188 = 4 := zt_2 zt188
theorem zt189 : zlk zmt 189 = some (cX4_remainingComponentCount, 2, 10, 0) := rfl
theorem z189 : zcb 189 = cX4_remainingComponentCount := zt_1 zt189
theorem zo189 : zow 189 = 10 := zt_3 zt189
theorem zk189 : zrk 189 = 0 := zt_4 zt189
theorem zm189 : zml 189 = 2 := zt_2 zt189
theorem zt190 : zlk zmt 190 = some (cX4_terminatesBySubtermCriterion, 1, 10, 0) := rfl
theorem z190 : zcb 190 = cX4_terminatesBySubtermCriterion := zt_1 zt190
theorem zo190 : zow 190 = 10 := zt_3 zt190
theorem zk190 : zrk 190 = 0 := zt_4 zt190
theorem zm190 : zml 190 = 1 := zt_2 zt190
theorem zt191 : zlk zmt 191 = some (cX4_parseTerm, 3, 10, 0) := rfl
theorem z191 : zcb 191 = cX4_parseTerm := zt_1 zt191
theorem zo191 : zow 191 = 10 := zt_3 zt191
theorem zk191 : zrk 191 = 0 := zt_4 zt191
theorem zm191 : zml 191 = 3 := zt_2 zt191
theorem zt192 : zlk zmt 192 = some (cX4_isRegister, 1, 10, 1) := rfl
theorem z192 : zcb 192 = cX4_isRegister := zt_1 zt192
theorem zo192 : zow 192 = 10 := zt_3 zt192
theorem zk192 : zrk 192 = 1 := zt_4 zt192
theorem zm192 : zml 192 = 1 := zt_2 zt192
theorem zt193 : zlk zmt 193 = some (cX4_termSize, 2, 10, 0) := rfl
theorem z193 : zcb 193 = cX4_termSize := zt_1 zt193
theorem zo193 : zow 193 = 10 := zt_3 zt193
theorem zk193 : zrk 193 = 0 := zt_4 zt193
theorem zm193 : zml 193 = 2 := zt_2 zt193
theorem zt194 : zlk zmt 194 = some (cX4_formattedLength, 3, 10, 0) := rfl
theorem z194 : zcb 194 = cX4_formattedLength := zt_1 zt194
theorem zo194 : zow 194 = 10 := zt_3 zt194
theorem zk194 : zrk 194 = 0 := zt_4 zt194
theorem zm194 : zml 194 = 3 := zt_2 zt194
theorem zt195 : zlk zmt 195 = some (cX4_format, 6, 10, 0) := rfl
theorem z195 : zcb 195 = cX4_format := zt_1 zt195
theorem zo195 : zow 195 = 10 := zt_3 zt195
theorem zk195 : zrk 195 = 0 := zt_4 zt195
theorem zm195 : zml 195 = 6 := zt_2 zt195
theorem zt196 : zlk zmt 196 = some (cX4_put, 2, 10, 4) := rfl
theorem z196 : zcb 196 = cX4_put := zt_1 zt196
theorem zo196 : zow 196 = 10 := zt_3 zt196
theorem zk196 : zrk 196 = 4 := zt_4 zt196
theorem zm196 : zml 196 = 2 := zt_2 zt196
theorem zt197 : zlk zmt 197 = some (cX4_formattedCharacter, 4, 10, 0) := rfl
theorem z197 : zcb 197 = cX4_formattedCharacter := zt_1 zt197
theorem zo197 : zow 197 = 10 := zt_3 zt197
theorem zk197 : zrk 197 = 0 := zt_4 zt197
theorem zm197 : zml 197 = 4 := zt_2 zt197
theorem zt198 : zlk zmt 198 = some (cX4_compareTerms, 4, 10, 0) := rfl
theorem z198 : zcb 198 = cX4_compareTerms := zt_1 zt198
theorem zo198 : zow 198 = 10 := zt_3 zt198
theorem zk198 : zrk 198 = 0 := zt_4 zt198
theorem zm198 : zml 198 = 4 := zt_2 zt198
theorem zt199 : zlk zmt 199 = some (cX4_compare, 5, 10, 0) := rfl
theorem z199 : zcb 199 = cX4_compare := zt_1 zt199
theorem zo199 : zow 199 = 10 := zt_3 zt199
theorem zk199 : zrk 199 = 0 := zt_4 zt199
theorem zm199 : zml 199 = 5 := zt_2 zt199
theorem zt200 : zlk zmt 200 = some (cX4_copyTerm, 3, 10, 0) := rfl
theorem z200 : zcb 200 = cX4_copyTerm := zt_1 zt200
theorem zo200 : zow 200 = 10 := zt_3 zt200
theorem zk200 : zrk 200 = 0 := zt_4 zt200
theorem zm200 : zml 200 = 3 := zt_2 zt200
theorem zt201 : zlk zmt 201 = some (cX4_loadLeft, 3, 10, 0) := rfl
theorem z201 : zcb 201 = cX4_loadLeft := zt_1 zt201
theorem zo201 : zow 201 = 10 := zt_3 zt201
theorem zk201 : zrk 201 = 0 := zt_4 zt201
theorem zm201 : zml 201 = 3 := zt_2 zt201
theorem zt202 : zlk zmt 202 = some (cX4_load, 3, 10, 0) := rfl
theorem z202 : zcb 202 = cX4_load := zt_1 zt202
theorem zo202 : zow 202 = 10 := zt_3 zt202
theorem zk202 : zrk 202 = 0 := zt_4 zt202
theorem zm202 : zml 202 = 3 := zt_2 zt202
theorem zt203 : zlk zmt 203 = some (cX4_loadRight, 3, 10, 0) := rfl
theorem z203 : zcb 203 = cX4_loadRight := zt_1 zt203
theorem zo203 : zow 203 = 10 := zt_3 zt203
theorem zk203 : zrk 203 = 0 := zt_4 zt203
theorem zm203 : zml 203 = 3 := zt_2 zt203
theorem zt204 : zlk zmt 204 = some (cX4_matches, 4, 10, 0) := rfl
theorem z204 : zcb 204 = cX4_matches := zt_1 zt204
theorem zo204 : zow 204 = 10 := zt_3 zt204
theorem zk204 : zrk 204 = 0 := zt_4 zt204
theorem zm204 : zml 204 = 4 := zt_2 zt204
theorem zt205 : zlk zmt 205 = some (cX4_isPosition, 3, 10, 1) := rfl
theorem z205 : zcb 205 = cX4_isPosition := zt_1 zt205
theorem zo205 : zow 205 = 10 := zt_3 zt205
theorem zk205 : zrk 205 = 1 := zt_4 zt205
theorem zm205 : zml 205 = 3 := zt_2 zt205
theorem zt206 : zlk zmt 206 = some (cX4_isMatch, 9, 10, 1) := rfl
theorem z206 : zcb 206 = cX4_isMatch := zt_1 zt206
theorem zo206 : zow 206 = 10 := zt_3 zt206
theorem zk206 : zrk 206 = 1 := zt_4 zt206
theorem zm206 : zml 206 = 9 := zt_2 zt206
theorem zt207 : zlk zmt 207 = some (cX4_variable, 1, 10, 0) := rfl
theorem z207 : zcb 207 = cX4_variable := zt_1 zt207
theorem zo207 : zow 207 = 10 := zt_3 zt207
theorem zk207 : zrk 207 = 0 := zt_4 zt207
theorem zm207 : zml 207 = 1 := zt_2 zt207
theorem zt208 : zlk zmt 208 = some (cX4_redexCount, 2, 10, 0) := rfl
theorem z208 : zcb 208 = cX4_redexCount := zt_1 zt208
theorem zo208 : zow 208 = 10 := zt_3 zt208
theorem zk208 : zrk 208 = 0 := zt_4 zt208
theorem zm208 : zml 208 = 2 := zt_2 zt208
theorem zt209 : zlk zmt 209 = some (cX4_redex, 6, 10, 0) := rfl
theorem z209 : zcb 209 = cX4_redex := zt_1 zt209
theorem zo209 : zow 209 = 10 := zt_3 zt209
theorem zk209 : zrk 209 = 0 := zt_4 zt209
theorem zm209 : zml 209 = 6 := zt_2 zt209
theorem zt210 : zlk zmt 210 = some (cX4_matching, 4, 10, 0) := rfl
theorem z210 : zcb 210 = cX4_matching := zt_1 zt210
theorem zo210 : zow 210 = 10 := zt_3 zt210
theorem zk210 : zrk 210 = 0 := zt_4 zt210
theorem zm210 : zml 210 = 4 := zt_2 zt210
theorem zt211 : zlk zmt 211 = some (cX4_redexAt, 3, 10, 0) := rfl
theorem z211 : zcb 211 = cX4_redexAt := zt_1 zt211
theorem zo211 : zow 211 = 10 := zt_3 zt211
theorem zk211 : zrk 211 = 0 := zt_4 zt211
theorem zm211 : zml 211 = 3 := zt_2 zt211
theorem zt212 : zlk zmt 212 = some (cX4_rewriteAt, 4, 10, 0) := rfl
theorem z212 : zcb 212 = cX4_rewriteAt := zt_1 zt212
theorem zo212 : zow 212 = 10 := zt_3 zt212
theorem zk212 : zrk 212 = 0 := zt_4 zt212
theorem zm212 : zml 212 = 4 := zt_2 zt212
theorem zt213 : zlk zmt 213 = some (cX4_rewrite, 14, 10, 0) := rfl
theorem z213 : zcb 213 = cX4_rewrite := zt_1 zt213
theorem zo213 : zow 213 = 10 := zt_3 zt213
theorem zk213 : zrk 213 = 0 := zt_4 zt213
theorem zm213 : zml 213 = 14 := zt_2 zt213
theorem zt214 : zlk zmt 214 = some (cX4_rewriteOutermost, 6, 10, 0) := rfl
theorem z214 : zcb 214 = cX4_rewriteOutermost := zt_1 zt214
theorem zo214 : zow 214 = 10 := zt_3 zt214
theorem zk214 : zrk 214 = 0 := zt_4 zt214
theorem zm214 : zml 214 = 6 := zt_2 zt214
theorem zt215 : zlk zmt 215 = some (cX4_findLoop, 6, 10, 0) := rfl
theorem z215 : zcb 215 = cX4_findLoop := zt_1 zt215
theorem zo215 : zow 215 = 10 := zt_3 zt215
theorem zk215 : zrk 215 = 0 := zt_4 zt215
theorem zm215 : zml 215 = 6 := zt_2 zt215
theorem zt216 : zlk zmt 216 = some (cX4_meet, 3, 10, 4) := rfl
theorem z216 : zcb 216 = cX4_meet := zt_1 zt216
theorem zo216 : zow 216 = 10 := zt_3 zt216
theorem zk216 : zrk 216 = 4 := zt_4 zt216
theorem zm216 : zml 216 = 3 := zt_2 zt216
theorem zt217 : zlk zmt 217 = some (cX4_isMet, 3, 10, 1) := rfl
theorem z217 : zcb 217 = cX4_isMet := zt_1 zt217
theorem zo217 : zow 217 = 10 := zt_3 zt217
theorem zk217 : zrk 217 = 1 := zt_4 zt217
theorem zm217 : zml 217 = 3 := zt_2 zt217
theorem zt218 : zlk zmt 218 = some (cX4_exploredCount, 4, 10, 0) := rfl
theorem z218 : zcb 218 = cX4_exploredCount := zt_1 zt218
theorem zo218 : zow 218 = 10 := zt_3 zt218
theorem zk218 : zrk 218 = 0 := zt_4 zt218
theorem zm218 : zml 218 = 4 := zt_2 zt218
theorem zt219 : zlk zmt 219 = some (cX4_wrongExploration, 3, 10, 0) := rfl
theorem z219 : zcb 219 = cX4_wrongExploration := zt_1 zt219
theorem zo219 : zow 219 = 10 := zt_3 zt219
theorem zk219 : zrk 219 = 0 := zt_4 zt219
theorem zm219 : zml 219 = 3 := zt_2 zt219
theorem zt220 : zlk zmt 220 = some (cX4_explore, 5, 10, 4) := rfl
theorem z220 : zcb 220 = cX4_explore := zt_1 zt220
theorem zo220 : zow 220 = 10 := zt_3 zt220
theorem zk220 : zrk 220 = 4 := zt_4 zt220
theorem zm220 : zml 220 = 5 := zt_2 zt220
theorem zt221 : zlk zmt 221 = some (cX4_lowestUnexpanded, 3, 10, 0) := rfl
theorem z221 : zcb 221 = cX4_lowestUnexpanded := zt_1 zt221
theorem zo221 : zow 221 = 10 := zt_3 zt221
theorem zk221 : zrk 221 = 0 := zt_4 zt221
theorem zm221 : zml 221 = 3 := zt_2 zt221
theorem zt222 : zlk zmt 222 = some (cX4_exploredNormalForms, 6, 10, 0) := rfl
theorem z222 : zcb 222 = cX4_exploredNormalForms := zt_1 zt222
theorem zo222 : zow 222 = 10 := zt_3 zt222
theorem zk222 : zrk 222 = 0 := zt_4 zt222
theorem zm222 : zml 222 = 6 := zt_2 zt222
theorem zt223 : zlk zmt 223 = some (cX4_isNormalForm, 3, 10, 1) := rfl
theorem z223 : zcb 223 = cX4_isNormalForm := zt_1 zt223
theorem zo223 : zow 223 = 10 := zt_3 zt223
theorem zk223 : zrk 223 = 1 := zt_4 zt223
theorem zm223 : zml 223 = 3 := zt_2 zt223
theorem zt224 : zlk zmt 224 = some (cX4_lastExploredSize, 4, 10, 0) := rfl
theorem z224 : zcb 224 = cX4_lastExploredSize := zt_1 zt224
theorem zo224 : zow 224 = 10 := zt_3 zt224
theorem zk224 : zrk 224 = 0 := zt_4 zt224
theorem zm224 : zml 224 = 4 := zt_2 zt224
theorem zt225 : zlk zmt 225 = some (cX4_loadNormalForm, 8, 10, 0) := rfl
theorem z225 : zcb 225 = cX4_loadNormalForm := zt_1 zt225
theorem zo225 : zow 225 = 10 := zt_3 zt225
theorem zk225 : zrk 225 = 0 := zt_4 zt225
theorem zm225 : zml 225 = 8 := zt_2 zt225
theorem zt226 : zlk zmt 226 = some (cX4_normalFormRegisterCount, 3, 10, 0) := rfl
theorem z226 : zcb 226 = cX4_normalFormRegisterCount := zt_1 zt226
theorem zo226 : zow 226 = 10 := zt_3 zt226
theorem zk226 : zrk 226 = 0 := zt_4 zt226
theorem zm226 : zml 226 = 3 := zt_2 zt226
theorem zt227 : zlk zmt 227 = some (cX4_appendCharacter, 2, 10, 0) := rfl
theorem z227 : zcb 227 = cX4_appendCharacter := zt_1 zt227
theorem zo227 : zow 227 = 10 := zt_3 zt227
theorem zk227 : zrk 227 = 0 := zt_4 zt227
theorem zm227 : zml 227 = 2 := zt_2 zt227
theorem zt228 : zlk zmt 228 = some (cX4_clearText, 2, 10, 0) := rfl
theorem z228 : zcb 228 = cX4_clearText := zt_1 zt228
theorem zo228 : zow 228 = 10 := zt_3 zt228
theorem zk228 : zrk 228 = 0 := zt_4 zt228
theorem zm228 : zml 228 = 2 := zt_2 zt228
theorem zt229 : zlk zmt 229 = some (cX4_textLength, 1, 10, 0) := rfl
theorem z229 : zcb 229 = cX4_textLength := zt_1 zt229
theorem zo229 : zow 229 = 10 := zt_3 zt229
theorem zk229 : zrk 229 = 0 := zt_4 zt229
theorem zm229 : zml 229 = 1 := zt_2 zt229
theorem zt230 : zlk zmt 230 = some (cX4_saveSnapshot, 1, 10, 0) := rfl
theorem z230 : zcb 230 = cX4_saveSnapshot := zt_1 zt230
theorem zo230 : zow 230 = 10 := zt_3 zt230
theorem zk230 : zrk 230 = 0 := zt_4 zt230
theorem zm230 : zml 230 = 1 := zt_2 zt230
theorem zt231 : zlk zmt 231 = some (cX4_restoreSnapshot, 1, 10, 0) := rfl
theorem z231 : zcb 231 = cX4_restoreSnapshot := zt_1 zt231
theorem zo231 : zow 231 = 10 := zt_3 zt231
theorem zk231 : zrk 231 = 0 := zt_4 zt231
theorem zm231 : zml 231 = 1 := zt_2 zt231
theorem zt232 : zlk zmt 232 = some (cJ0_init, 1, 11, 4) := rfl
theorem z232 : zcb 232 = cJ0_init := zt_1 zt232
theorem zo232 : zow 232 = 11 := zt_3 zt232
theorem zk232 : zrk 232 = 4 := zt_4 zt232
theorem zm232 : zml 232 = 1 := zt_2 zt232
theorem zt233 : zlk zmt 233 = some (cJ1_init, 1, 12, 4) := rfl
theorem z233 : zcb 233 = cJ1_init := zt_1 zt233
theorem zo233 : zow 233 = 12 := zt_3 zt233
theorem zk233 : zrk 233 = 4 := zt_4 zt233
theorem zm233 : zml 233 = 1 := zt_2 zt233
theorem zt234 : zlk zmt 234 = some (cJ1_clear, 1, 12, 4) := rfl
theorem z234 : zcb 234 = cJ1_clear := zt_1 zt234
theorem zo234 : zow 234 = 12 := zt_3 zt234
theorem zk234 : zrk 234 = 4 := zt_4 zt234
theorem zm234 : zml 234 = 1 := zt_2 zt234
theorem zt235 : zlk zmt 235 = some (cJ1_size, 1, 12, 0) := rfl
theorem z235 : zcb 235 = cJ1_size := zt_1 zt235
theorem zo235 : zow 235 = 12 := zt_3 zt235
theorem zk235 : zrk 235 = 0 := zt_4 zt235
theorem zm235 : zml 235 = 1 := zt_2 zt235
theorem zt236 : zlk zmt 236 = some (cJ1_put, 3, 12, 3) := rfl
theorem z236 : zcb 236 = cJ1_put := zt_1 zt236
theorem zo236 : zow 236 = 12 := zt_3 zt236
theorem zk236 : zrk 236 = 3 := zt_4 zt236
theorem zm236 : zml 236 = 3 := zt_2 zt236
theorem zt237 : zlk zmt 237 = some (cJ1_put_2, 10, 12, 3) := rfl
theorem z237 : zcb 237 = cJ1_put_2 := zt_1 zt237
theorem zo237 : zow 237 = 12 := zt_3 zt237
theorem zk237 : zrk 237 = 3 := zt_4 zt237
theorem zm237 : zml 237 = 10 := zt_2 zt237
theorem zt238 : zlk zmt 238 = some (cJ1_addEntryToEmptyMap, 3, 12, 4) := rfl
theorem z238 : zcb 238 = cJ1_addEntryToEmptyMap := zt_1 zt238
theorem zo238 : zow 238 = 12 := zt_3 zt238
theorem zk238 : zrk 238 = 4 := zt_4 zt238
theorem zm238 : zml 238 = 3 := zt_2 zt238
theorem zt239 : zlk zmt 239 = some (cJ1_compare, 3, 12, 0) := rfl
theorem z239 : zcb 239 = cJ1_compare := zt_1 zt239
theorem zo239 : zow 239 = 12 := zt_3 zt239
theorem zk239 : zrk 239 = 0 := zt_4 zt239
theorem zm239 : zml 239 = 3 := zt_2 zt239
theorem zt240 : zlk zmt 240 = some (cJ1_addEntry, 6, 12, 4) := rfl
theorem z240 : zcb 240 = cJ1_addEntry := zt_1 zt240
theorem zo240 : zow 240 = 12 := zt_3 zt240
theorem zk240 : zrk 240 = 4 := zt_4 zt240
theorem zm240 : zml 240 = 6 := zt_2 zt240
theorem zt241 : zlk zmt 241 = some (cJ1_fixAfterInsertion, 3, 12, 4) := rfl
theorem z241 : zcb 241 = cJ1_fixAfterInsertion := zt_1 zt241
theorem zo241 : zow 241 = 12 := zt_3 zt241
theorem zk241 : zrk 241 = 4 := zt_4 zt241
theorem zm241 : zml 241 = 3 := zt_2 zt241
theorem zt242 : zlk zmt 242 = some (cJ1_parentOf, 1, 12, 3) := rfl
theorem z242 : zcb 242 = cJ1_parentOf := zt_1 zt242
theorem zo242 : zow 242 = 12 := zt_3 zt242
theorem zk242 : zrk 242 = 3 := zt_4 zt242
theorem zm242 : zml 242 = 1 := zt_2 zt242
theorem zt243 : zlk zmt 243 = some (cJ1_leftOf, 1, 12, 3) := rfl
theorem z243 : zcb 243 = cJ1_leftOf := zt_1 zt243
theorem zo243 : zow 243 = 12 := zt_3 zt243
theorem zk243 : zrk 243 = 3 := zt_4 zt243
theorem zm243 : zml 243 = 1 := zt_2 zt243
theorem zt244 : zlk zmt 244 = some (cJ1_rightOf, 1, 12, 3) := rfl
theorem z244 : zcb 244 = cJ1_rightOf := zt_1 zt244
theorem zo244 : zow 244 = 12 := zt_3 zt244
theorem zk244 : zrk 244 = 3 := zt_4 zt244
theorem zm244 : zml 244 = 1 := zt_2 zt244
theorem zt245 : zlk zmt 245 = some (cJ1_colorOf, 1, 12, 1) := rfl
theorem z245 : zcb 245 = cJ1_colorOf := zt_1 zt245
theorem zo245 : zow 245 = 12 := zt_3 zt245
theorem zk245 : zrk 245 = 1 := zt_4 zt245
theorem zm245 : zml 245 = 1 := zt_2 zt245
theorem zt246 : zlk zmt 246 = some (cJ1_setColor, 2, 12, 4) := rfl
theorem z246 : zcb 246 = cJ1_setColor := zt_1 zt246
theorem zo246 : zow 246 = 12 := zt_3 zt246
theorem zk246 : zrk 246 = 4 := zt_4 zt246
theorem zm246 : zml 246 = 2 := zt_2 zt246
theorem zt247 : zlk zmt 247 = some (cJ1_rotateLeft, 3, 12, 4) := rfl
theorem z247 : zcb 247 = cJ1_rotateLeft := zt_1 zt247
theorem zo247 : zow 247 = 12 := zt_3 zt247
theorem zk247 : zrk 247 = 4 := zt_4 zt247
theorem zm247 : zml 247 = 3 := zt_2 zt247
theorem zt248 : zlk zmt 248 = some (cJ1_rotateRight, 3, 12, 4) := rfl
theorem z248 : zcb 248 = cJ1_rotateRight := zt_1 zt248
theorem zo248 : zow 248 = 12 := zt_3 zt248
theorem zk248 : zrk 248 = 4 := zt_4 zt248
theorem zm248 : zml 248 = 3 := zt_2 zt248
theorem zt249 : zlk zmt 249 = some (cJ1_get, 3, 12, 3) := rfl
theorem z249 : zcb 249 = cJ1_get := zt_1 zt249
theorem zo249 : zow 249 = 12 := zt_3 zt249
theorem zk249 : zrk 249 = 3 := zt_4 zt249
theorem zm249 : zml 249 = 3 := zt_2 zt249
theorem zt250 : zlk zmt 250 = some (cJ1_getEntry, 5, 12, 3) := rfl
theorem z250 : zcb 250 = cJ1_getEntry := zt_1 zt250
theorem zo250 : zow 250 = 12 := zt_3 zt250
theorem zk250 : zrk 250 = 3 := zt_4 zt250
theorem zm250 : zml 250 = 5 := zt_2 zt250
theorem zt251 : zlk zmt 251 = some (cJ1_containsKey, 2, 12, 1) := rfl
theorem z251 : zcb 251 = cJ1_containsKey := zt_1 zt251
theorem zo251 : zow 251 = 12 := zt_3 zt251
theorem zk251 : zrk 251 = 1 := zt_4 zt251
theorem zm251 : zml 251 = 2 := zt_2 zt251
theorem zt252 : zlk zmt 252 = some (cJ1_navigableKeySet, 2, 12, 3) := rfl
theorem z252 : zcb 252 = cJ1_navigableKeySet := zt_1 zt252
theorem zo252 : zow 252 = 12 := zt_3 zt252
theorem zk252 : zrk 252 = 3 := zt_4 zt252
theorem zm252 : zml 252 = 2 := zt_2 zt252
theorem zt253 : zlk zmt 253 = some (cJ1_keyIterator, 1, 12, 3) := rfl
theorem z253 : zcb 253 = cJ1_keyIterator := zt_1 zt253
theorem zo253 : zow 253 = 12 := zt_3 zt253
theorem zk253 : zrk 253 = 3 := zt_4 zt253
theorem zm253 : zml 253 = 1 := zt_2 zt253
theorem zt254 : zlk zmt 254 = some (cJ1_getFirstEntry, 2, 12, 3) := rfl
theorem z254 : zcb 254 = cJ1_getFirstEntry := zt_1 zt254
theorem zo254 : zow 254 = 12 := zt_3 zt254
theorem zk254 : zrk 254 = 3 := zt_4 zt254
theorem zm254 : zml 254 = 2 := zt_2 zt254
theorem zt255 : zlk zmt 255 = some (cJ1_successor, 3, 12, 3) := rfl
theorem z255 : zcb 255 = cJ1_successor := zt_1 zt255
theorem zo255 : zow 255 = 12 := zt_3 zt255
theorem zk255 : zrk 255 = 3 := zt_4 zt255
theorem zm255 : zml 255 = 3 := zt_2 zt255
theorem zt256 : zlk zmt 256 = some (cJ2_init, 1, 13, 4) := rfl
theorem z256 : zcb 256 = cJ2_init := zt_1 zt256
theorem zo256 : zow 256 = 13 := zt_3 zt256
theorem zk256 : zrk 256 = 4 := zt_4 zt256
theorem zm256 : zml 256 = 1 := zt_2 zt256
theorem zt257 : zlk zmt 257 = some (cJ2_isEmpty, 1, 13, 1) := rfl
theorem z257 : zcb 257 = cJ2_isEmpty := zt_1 zt257
theorem zo257 : zow 257 = 13 := zt_3 zt257
theorem zk257 : zrk 257 = 1 := zt_4 zt257
theorem zm257 : zml 257 = 1 := zt_2 zt257
theorem zt258 : zlk zmt 258 = some (cJ3_init, 1, 14, 4) := rfl
theorem z258 : zcb 258 = cJ3_init := zt_1 zt258
theorem zo258 : zow 258 = 14 := zt_3 zt258
theorem zk258 : zrk 258 = 4 := zt_4 zt258
theorem zm258 : zml 258 = 1 := zt_2 zt258
theorem zt259 : zlk zmt 259 = some (cJ4_init, 1, 15, 4) := rfl
theorem z259 : zcb 259 = cJ4_init := zt_1 zt259
theorem zo259 : zow 259 = 15 := zt_3 zt259
theorem zk259 : zrk 259 = 4 := zt_4 zt259
theorem zm259 : zml 259 = 1 := zt_2 zt259
theorem zt260 : zlk zmt 260 = some (cJ4_init_2, 2, 15, 4) := rfl
theorem z260 : zcb 260 = cJ4_init_2 := zt_1 zt260
theorem zo260 : zow 260 = 15 := zt_3 zt260
theorem zk260 : zrk 260 = 4 := zt_4 zt260
theorem zm260 : zml 260 = 2 := zt_2 zt260
theorem zt261 : zlk zmt 261 = some (cJ4_clear, 1, 15, 4) := rfl
theorem z261 : zcb 261 = cJ4_clear := zt_1 zt261
theorem zo261 : zow 261 = 15 := zt_3 zt261
theorem zk261 : zrk 261 = 4 := zt_4 zt261
theorem zm261 : zml 261 = 1 := zt_2 zt261
theorem zt262 : zlk zmt 262 = some (cJ4_contains, 2, 15, 1) := rfl
theorem z262 : zcb 262 = cJ4_contains := zt_1 zt262
theorem zo262 : zow 262 = 15 := zt_3 zt262
theorem zk262 : zrk 262 = 1 := zt_4 zt262
theorem zm262 : zml 262 = 2 := zt_2 zt262
theorem zt263 : zlk zmt 263 = some (cJ4_add, 2, 15, 1) := rfl
theorem z263 : zcb 263 = cJ4_add := zt_1 zt263
theorem zo263 : zow 263 = 15 := zt_3 zt263
theorem zk263 : zrk 263 = 1 := zt_4 zt263
theorem zm263 : zml 263 = 2 := zt_2 zt263
theorem zt264 : zlk zmt 264 = some (cJ4_size, 1, 15, 0) := rfl
theorem z264 : zcb 264 = cJ4_size := zt_1 zt264
theorem zo264 : zow 264 = 15 := zt_3 zt264
theorem zk264 : zrk 264 = 0 := zt_4 zt264
theorem zm264 : zml 264 = 1 := zt_2 zt264
theorem zt265 : zlk zmt 265 = some (cJ4_iterator, 1, 15, 3) := rfl
theorem z265 : zcb 265 = cJ4_iterator := zt_1 zt265
theorem zo265 : zow 265 = 15 := zt_3 zt265
theorem zk265 : zrk 265 = 3 := zt_4 zt265
theorem zm265 : zml 265 = 1 := zt_2 zt265
theorem zt266 : zlk zmt 266 = some (cJ5_init, 1, 16, 4) := rfl
theorem z266 : zcb 266 = cJ5_init := zt_1 zt266
theorem zo266 : zow 266 = 16 := zt_3 zt266
theorem zk266 : zrk 266 = 4 := zt_4 zt266
theorem zm266 : zml 266 = 1 := zt_2 zt266
theorem zt267 : zlk zmt 267 = some (cJ5_init_2, 5, 16, 4) := rfl
theorem z267 : zcb 267 = cJ5_init_2 := zt_1 zt267
theorem zo267 : zow 267 = 16 := zt_3 zt267
theorem zk267 : zrk 267 = 4 := zt_4 zt267
theorem zm267 : zml 267 = 5 := zt_2 zt267
theorem zt268 : zlk zmt 268 = some (cJ6_init, 5, 17, 4) := rfl
theorem z268 : zcb 268 = cJ6_init := zt_1 zt268
theorem zo268 : zow 268 = 17 := zt_3 zt268
theorem zk268 : zrk 268 = 4 := zt_4 zt268
theorem zm268 : zml 268 = 5 := zt_2 zt268
theorem zt269 : zlk zmt 269 = some (cJ8_valueOf, 1, 18, 3) := rfl
theorem z269 : zcb 269 = cJ8_valueOf := zt_1 zt269
theorem zo269 : zow 269 = 18 := zt_3 zt269
theorem zk269 : zrk 269 = 3 := zt_4 zt269
theorem zm269 : zml 269 = 1 := zt_2 zt269
theorem zt270 : zlk zmt 270 = some (cJ8_compareTo, 2, 18, 0) := rfl
theorem z270 : zcb 270 = cJ8_compareTo := zt_1 zt270
theorem zo270 : zow 270 = 18 := zt_3 zt270
theorem zk270 : zrk 270 = 0 := zt_4 zt270
theorem zm270 : zml 270 = 2 := zt_2 zt270
theorem zt271 : zlk zmt 271 = some (cJ8_compareTo_2, 2, 18, 0) := rfl
theorem z271 : zcb 271 = cJ8_compareTo_2 := zt_1 zt271
theorem zo271 : zow 271 = 18 := zt_3 zt271
theorem zk271 : zrk 271 = 0 := zt_4 zt271
theorem zm271 : zml 271 = 2 := zt_2 zt271
theorem zt272 : zlk zmt 272 = some (cJ8_compare, 2, 18, 0) := rfl
theorem z272 : zcb 272 = cJ8_compare := zt_1 zt272
theorem zo272 : zow 272 = 18 := zt_3 zt272
theorem zk272 : zrk 272 = 0 := zt_4 zt272
theorem zm272 : zml 272 = 2 := zt_2 zt272
theorem zt273 : zlk zmt 273 = some (cJ8_intValue, 1, 18, 0) := rfl
theorem z273 : zcb 273 = cJ8_intValue := zt_1 zt273
theorem zo273 : zow 273 = 18 := zt_3 zt273
theorem zk273 : zrk 273 = 0 := zt_4 zt273
theorem zm273 : zml 273 = 1 := zt_2 zt273
theorem zt274 : zlk zmt 274 = some (cJ9_checkIndex, 2, 19, 4) := rfl
theorem z274 : zcb 274 = cJ9_checkIndex := zt_1 zt274
theorem zo274 : zow 274 = 19 := zt_3 zt274
theorem zk274 : zrk 274 = 4 := zt_4 zt274
theorem zm274 : zml 274 = 2 := zt_2 zt274
theorem zt275 : zlk zmt 275 = some (cJ10_canEncode, 1, 20, 1) := rfl
theorem z275 : zcb 275 = cJ10_canEncode := zt_1 zt275
theorem zo275 : zow 275 = 20 := zt_3 zt275
theorem zk275 : zrk 275 = 1 := zt_4 zt275
theorem zm275 : zml 275 = 1 := zt_2 zt275
theorem zt276 : zlk zmt 276 = some (cJ11_min, 2, 21, 0) := rfl
theorem z276 : zcb 276 = cJ11_min := zt_1 zt276
theorem zo276 : zow 276 = 21 := zt_3 zt276
theorem zk276 : zrk 276 = 0 := zt_4 zt276
theorem zm276 : zml 276 = 2 := zt_2 zt276
theorem zt277 : zlk zmt 277 = some (cJ11_max, 2, 21, 0) := rfl
theorem z277 : zcb 277 = cJ11_max := zt_1 zt277
theorem zo277 : zow 277 = 21 := zt_3 zt277
theorem zk277 : zrk 277 = 0 := zt_4 zt277
theorem zm277 : zml 277 = 2 := zt_2 zt277
theorem zt278 : zlk zmt 278 = some (cJ12_newLength, 4, 22, 0) := rfl
theorem z278 : zcb 278 = cJ12_newLength := zt_1 zt278
theorem zo278 : zow 278 = 22 := zt_3 zt278
theorem zk278 : zrk 278 = 0 := zt_4 zt278
theorem zm278 : zml 278 = 4 := zt_2 zt278
theorem zt279 : zlk zmt 279 = some (cJ16_checkIndex, 3, 23, 0) := rfl
theorem z279 : zcb 279 = cJ16_checkIndex := zt_1 zt279
theorem zo279 : zow 279 = 23 := zt_3 zt279
theorem zk279 : zrk 279 = 0 := zt_4 zt279
theorem zm279 : zml 279 = 3 := zt_2 zt279
theorem zt280 : zlk zmt 280 = some (cJ17_init, 4, 24, 4) := rfl
theorem z280 : zcb 280 = cJ17_init := zt_1 zt280
theorem zo280 : zow 280 = 24 := zt_3 zt280
theorem zk280 : zrk 280 = 4 := zt_4 zt280
theorem zm280 : zml 280 = 4 := zt_2 zt280
theorem zt281 : zlk zmt 281 = some (cJ18_requireNonNull, 1, 25, 3) := rfl
theorem z281 : zcb 281 = cJ18_requireNonNull := zt_1 zt281
theorem zo281 : zow 281 = 25 := zt_3 zt281
theorem zk281 : zrk 281 = 3 := zt_4 zt281
theorem zm281 : zml 281 = 1 := zt_2 zt281
theorem zt282 : zlk zmt 282 = some (cJ19_init, 2, 26, 4) := rfl
theorem z282 : zcb 282 = cJ19_init := zt_1 zt282
theorem zo282 : zow 282 = 26 := zt_3 zt282
theorem zk282 : zrk 282 = 4 := zt_4 zt282
theorem zm282 : zml 282 = 2 := zt_2 zt282
theorem zt283 : zlk zmt 283 = some (cJ19_iterator, 1, 26, 3) := rfl
theorem z283 : zcb 283 = cJ19_iterator := zt_1 zt283
theorem zo283 : zow 283 = 26 := zt_3 zt283
theorem zk283 : zrk 283 = 3 := zt_4 zt283
theorem zm283 : zml 283 = 1 := zt_2 zt283
theorem zt284 : zlk zmt 284 = some (cJ20_init, 3, 27, 4) := rfl
theorem z284 : zcb 284 = cJ20_init := zt_1 zt284
theorem zo284 : zow 284 = 27 := zt_3 zt284
theorem zk284 : zrk 284 = 4 := zt_4 zt284
theorem zm284 : zml 284 = 3 := zt_2 zt284
theorem zt285 : zlk zmt 285 = some (cJ20_hasNext, 1, 27, 1) := rfl
theorem z285 : zcb 285 = cJ20_hasNext := zt_1 zt285
theorem zo285 : zow 285 = 27 := zt_3 zt285
theorem zk285 : zrk 285 = 1 := zt_4 zt285
theorem zm285 : zml 285 = 1 := zt_2 zt285
theorem zt286 : zlk zmt 286 = some (cJ20_nextEntry, 2, 27, 3) := rfl
theorem z286 : zcb 286 = cJ20_nextEntry := zt_1 zt286
theorem zo286 : zow 286 = 27 := zt_3 zt286
theorem zk286 : zrk 286 = 3 := zt_4 zt286
theorem zm286 : zml 286 = 2 := zt_2 zt286
theorem zt287 : zlk zmt 287 = some (cJ21_init, 3, 28, 4) := rfl
theorem z287 : zcb 287 = cJ21_init := zt_1 zt287
theorem zo287 : zow 287 = 28 := zt_3 zt287
theorem zk287 : zrk 287 = 4 := zt_4 zt287
theorem zm287 : zml 287 = 3 := zt_2 zt287
theorem zt288 : zlk zmt 288 = some (cJ21_next, 1, 28, 3) := rfl
theorem z288 : zcb 288 = cJ21_next := zt_1 zt288
theorem zo288 : zow 288 = 28 := zt_3 zt288
theorem zk288 : zrk 288 = 3 := zt_4 zt288
theorem zm288 : zml 288 = 1 := zt_2 zt288
theorem zt289 : zlk zmt 289 = some (cJ22_isLatin1, 1, 29, 1) := rfl
theorem z289 : zcb 289 = cJ22_isLatin1 := zt_1 zt289
theorem zo289 : zow 289 = 29 := zt_3 zt289
theorem zk289 : zrk 289 = 1 := zt_4 zt289
theorem zm289 : zml 289 = 1 := zt_2 zt289
theorem zt290 : zlk zmt 290 = some (cJ22_init, 2, 29, 4) := rfl
theorem z290 : zcb 290 = cJ22_init := zt_1 zt290
theorem zo290 : zow 290 = 29 := zt_3 zt290
theorem zk290 : zrk 290 = 4 := zt_4 zt290
theorem zm290 : zml 290 = 2 := zt_2 zt290
theorem zt291 : zlk zmt 291 = some (cJ22_append, 2, 29, 3) := rfl
theorem z291 : zcb 291 = cJ22_append := zt_1 zt291
theorem zo291 : zow 291 = 29 := zt_3 zt291
theorem zk291 : zrk 291 = 3 := zt_4 zt291
theorem zm291 : zml 291 = 2 := zt_2 zt291
theorem zt292 : zlk zmt 292 = some (cJ22_ensureCapacityInternal, 3, 29, 4) := rfl
theorem z292 : zcb 292 = cJ22_ensureCapacityInternal := zt_1 zt292
theorem zo292 : zow 292 = 29 := zt_3 zt292
theorem zk292 : zrk 292 = 4 := zt_4 zt292
theorem zm292 : zml 292 = 3 := zt_2 zt292
theorem zt293 : zlk zmt 293 = some (cJ22_newCapacity, 6, 29, 0) := rfl
theorem z293 : zcb 293 = cJ22_newCapacity := zt_1 zt293
theorem zo293 : zow 293 = 29 := zt_3 zt293
theorem zk293 : zrk 293 = 0 := zt_4 zt293
theorem zm293 : zml 293 = 6 := zt_2 zt293
theorem zt294 : zlk zmt 294 = some (cJ22_length, 1, 29, 0) := rfl
theorem z294 : zcb 294 = cJ22_length := zt_1 zt294
theorem zo294 : zow 294 = 29 := zt_3 zt294
theorem zk294 : zrk 294 = 0 := zt_4 zt294
theorem zm294 : zml 294 = 1 := zt_2 zt294
theorem zt295 : zlk zmt 295 = some (cJ22_charAt, 5, 29, 2) := rfl
theorem z295 : zcb 295 = cJ22_charAt := zt_1 zt295
theorem zo295 : zow 295 = 29 := zt_3 zt295
theorem zk295 : zrk 295 = 2 := zt_4 zt295
theorem zm295 : zml 295 = 5 := zt_2 zt295
theorem zt296 : zlk zmt 296 = some (cJ23_init, 1, 30, 4) := rfl
theorem z296 : zcb 296 = cJ23_init := zt_1 zt296
theorem zo296 : zow 296 = 30 := zt_3 zt296
theorem zk296 : zrk 296 = 4 := zt_4 zt296
theorem zm296 : zml 296 = 1 := zt_2 zt296
theorem zt297 : zlk zmt 297 = some (cJ23_append, 2, 30, 3) := rfl
theorem z297 : zcb 297 = cJ23_append := zt_1 zt297
theorem zo297 : zow 297 = 30 := zt_3 zt297
theorem zk297 : zrk 297 = 3 := zt_4 zt297
theorem zm297 : zml 297 = 2 := zt_2 zt297
theorem zt298 : zlk zmt 298 = some (cJ23_length, 1, 30, 0) := rfl
theorem z298 : zcb 298 = cJ23_length := zt_1 zt298
theorem zo298 : zow 298 = 30 := zt_3 zt298
theorem zk298 : zrk 298 = 0 := zt_4 zt298
theorem zm298 : zml 298 = 1 := zt_2 zt298
theorem zt299 : zlk zmt 299 = some (cJ23_charAt, 2, 30, 2) := rfl
theorem z299 : zcb 299 = cJ23_charAt := zt_1 zt299
theorem zo299 : zow 299 = 30 := zt_3 zt299
theorem zk299 : zrk 299 = 2 := zt_4 zt299
theorem zm299 : zml 299 = 2 := zt_2 zt299
theorem zt300 : zlk zmt 300 = some (cJ24_copyOf, 3, 31, 3) := rfl
theorem z300 : zcb 300 = cJ24_copyOf := zt_1 zt300
theorem zo300 : zow 300 = 31 := zt_3 zt300
theorem zk300 : zrk 300 = 3 := zt_4 zt300
theorem zm300 : zml 300 = 3 := zt_2 zt300
theorem zt301 : zlk zmt 301 = some (cJ24_copyOf_2, 2, 31, 3) := rfl
theorem z301 : zcb 301 = cJ24_copyOf_2 := zt_1 zt301
theorem zo301 : zow 301 = 31 := zt_3 zt301
theorem zk301 : zrk 301 = 3 := zt_4 zt301
theorem zm301 : zml 301 = 2 := zt_2 zt301
theorem zt302 : zlk zmt 302 = some (cJ24_copyOf_3, 4, 31, 3) := rfl
theorem z302 : zcb 302 = cJ24_copyOf_3 := zt_1 zt302
theorem zo302 : zow 302 = 31 := zt_3 zt302
theorem zk302 : zrk 302 = 3 := zt_4 zt302
theorem zm302 : zml 302 = 4 := zt_2 zt302
theorem zt303 : zlk zmt 303 = some (cJ25_init, 1, 32, 4) := rfl
theorem z303 : zcb 303 = cJ25_init := zt_1 zt303
theorem zo303 : zow 303 = 32 := zt_3 zt303
theorem zk303 : zrk 303 = 4 := zt_4 zt303
theorem zm303 : zml 303 = 1 := zt_2 zt303
theorem zt304 : zlk zmt 304 = some (cJ26_init, 3, 33, 4) := rfl
theorem z304 : zcb 304 = cJ26_init := zt_1 zt304
theorem zo304 : zow 304 = 33 := zt_3 zt304
theorem zk304 : zrk 304 = 4 := zt_4 zt304
theorem zm304 : zml 304 = 3 := zt_2 zt304
theorem zt305 : zlk zmt 305 = some (cJ26_add, 2, 33, 1) := rfl
theorem z305 : zcb 305 = cJ26_add := zt_1 zt305
theorem zo305 : zow 305 = 33 := zt_3 zt305
theorem zk305 : zrk 305 = 1 := zt_4 zt305
theorem zm305 : zml 305 = 2 := zt_2 zt305
theorem zt306 : zlk zmt 306 = some (cJ26_offer, 3, 33, 1) := rfl
theorem z306 : zcb 306 = cJ26_offer := zt_1 zt306
theorem zo306 : zow 306 = 33 := zt_3 zt306
theorem zk306 : zrk 306 = 1 := zt_4 zt306
theorem zm306 : zml 306 = 3 := zt_2 zt306
theorem zt307 : zlk zmt 307 = some (cJ26_grow, 4, 33, 4) := rfl
theorem z307 : zcb 307 = cJ26_grow := zt_1 zt307
theorem zo307 : zow 307 = 33 := zt_3 zt307
theorem zk307 : zrk 307 = 4 := zt_4 zt307
theorem zm307 : zml 307 = 4 := zt_2 zt307
theorem zt308 : zlk zmt 308 = some (cJ26_siftUp, 3, 33, 4) := rfl
theorem z308 : zcb 308 = cJ26_siftUp := zt_1 zt308
theorem zo308 : zow 308 = 33 := zt_3 zt308
theorem zk308 : zrk 308 = 4 := zt_4 zt308
theorem zm308 : zml 308 = 3 := zt_2 zt308
theorem zt309 : zlk zmt 309 = some (cJ26_siftUpUsingComparator, 6, 33, 4) := rfl
theorem z309 : zcb 309 = cJ26_siftUpUsingComparator := zt_1 zt309
theorem zo309 : zow 309 = 33 := zt_3 zt309
theorem zk309 : zrk 309 = 4 := zt_4 zt309
theorem zm309 : zml 309 = 6 := zt_2 zt309
theorem zt310 : zlk zmt 310 = some (cJ26_size, 1, 33, 0) := rfl
theorem z310 : zcb 310 = cJ26_size := zt_1 zt310
theorem zo310 : zow 310 = 33 := zt_3 zt310
theorem zk310 : zrk 310 = 0 := zt_4 zt310
theorem zm310 : zml 310 = 1 := zt_2 zt310
theorem zt311 : zlk zmt 311 = some (cJ26_poll, 6, 33, 3) := rfl
theorem z311 : zcb 311 = cJ26_poll := zt_1 zt311
theorem zo311 : zow 311 = 33 := zt_3 zt311
theorem zk311 : zrk 311 = 3 := zt_4 zt311
theorem zm311 : zml 311 = 6 := zt_2 zt311
theorem zt312 : zlk zmt 312 = some (cJ26_siftDownUsingComparator, 9, 33, 4) := rfl
theorem z312 : zcb 312 = cJ26_siftDownUsingComparator := zt_1 zt312
theorem zo312 : zow 312 = 33 := zt_3 zt312
theorem zk312 : zrk 312 = 4 := zt_4 zt312
theorem zm312 : zml 312 = 9 := zt_2 zt312
theorem F2_7 : zFT 2 7 = some (1, 0) := rfl
theorem F2_15 : zFT 2 15 = some (1, 1) := rfl
theorem F2_21 : zFT 2 21 = some (1, 3) := rfl
theorem F2_25 : zFT 2 25 = some (1, 4) := rfl
theorem F2_29 : zFT 2 29 = some (1, 6) := rfl
theorem F2_37 : zFT 2 37 = some (1, 8) := rfl
theorem F2_41 : zFT 2 41 = some (1, 9) := rfl
theorem F2_47 : zFT 2 47 = some (1, 10) := rfl
theorem F2_53 : zFT 2 53 = some (1, 12) := rfl
theorem F2_56 : zFT 2 56 = some (1, 13) := rfl
theorem F2_59 : zFT 2 59 = some (1, 15) := rfl
theorem F2_63 : zFT 2 63 = some (1, 16) := rfl
theorem F2_69 : zFT 2 69 = some (1, 17) := rfl
theorem F2_76 : zFT 2 76 = some (1, 18) := rfl
theorem F2_82 : zFT 2 82 = some (1, 19) := rfl
theorem F2_89 : zFT 2 89 = some (1, 20) := rfl
theorem F2_93 : zFT 2 93 = some (1, 23) := rfl
theorem F2_96 : zFT 2 96 = some (1, 24) := rfl
theorem F2_99 : zFT 2 99 = some (1, 25) := rfl
theorem F2_102 : zFT 2 102 = some (1, 26) := rfl
theorem F2_105 : zFT 2 105 = some (1, 27) := rfl
theorem F2_108 : zFT 2 108 = some (1, 29) := rfl
theorem F2_111 : zFT 2 111 = some (1, 30) := rfl
theorem F2_114 : zFT 2 114 = some (1, 32) := rfl
theorem F2_121 : zFT 2 121 = some (1, 5) := rfl
theorem F2_138 : zFT 2 138 = some (1, 2) := rfl
theorem F2_154 : zFT 2 154 = some (1, 7) := rfl
theorem F2_189 : zFT 2 189 = some (5, 6) := rfl
theorem F2_157 : zFT 2 157 = some (6, 0) := rfl
theorem F2_161 : zFT 2 161 = some (6, 1) := rfl
theorem F2_219 : zFT 2 219 = some (1, 11) := rfl
theorem F2_216 : zFT 2 216 = some (1, 21) := rfl
theorem F2_237 : zFT 2 237 = some (1, 14) := rfl
theorem F2_207 : zFT 2 207 = some (7, 3) := rfl
theorem F2_204 : zFT 2 204 = some (4, 0) := rfl
theorem F2_208 : zFT 2 208 = some (7, 1) := rfl
theorem F2_209 : zFT 2 209 = some (7, 2) := rfl
theorem F2_201 : zFT 2 201 = some (4, 1) := rfl
theorem F2_246 : zFT 2 246 = some (7, 0) := rfl
theorem F2_283 : zFT 2 283 = some (7, 4) := rfl
theorem F2_286 : zFT 2 286 = some (3, 0) := rfl
theorem F2_289 : zFT 2 289 = some (3, 1) := rfl
theorem F2_318 : zFT 2 318 = some (1, 22) := rfl
theorem F2_479 : zFT 2 479 = some (1, 28) := rfl
theorem F2_482 : zFT 2 482 = some (1, 31) := rfl
theorem F3_1 : zFT 3 1 = some (2, 1) := rfl
theorem F3_13 : zFT 3 13 = some (2, 0) := rfl
theorem F3_17 : zFT 3 17 = some (1, 7) := rfl
theorem F3_58 : zFT 3 58 = some (1, 5) := rfl
theorem F3_61 : zFT 3 61 = some (1, 4) := rfl
theorem F3_39 : zFT 3 39 = some (1, 0) := rfl
theorem F3_22 : zFT 3 22 = some (1, 6) := rfl
theorem F4_9 : zFT 4 9 = some (3, 0) := rfl
theorem F4_15 : zFT 4 15 = some (3, 1) := rfl
theorem F4_18 : zFT 4 18 = some (3, 2) := rfl
theorem F5_9 : zFT 5 9 = some (4, 0) := rfl
theorem F5_15 : zFT 5 15 = some (4, 1) := rfl
theorem F6_7 : zFT 6 7 = some (5, 6) := rfl
theorem F7_7 : zFT 7 7 = some (6, 0) := rfl
theorem F7_13 : zFT 7 13 = some (6, 1) := rfl
theorem F8_9 : zFT 8 9 = some (7, 0) := rfl
theorem F8_15 : zFT 8 15 = some (7, 1) := rfl
theorem F8_18 : zFT 8 18 = some (7, 2) := rfl
theorem F8_22 : zFT 8 22 = some (7, 3) := rfl
theorem F8_31 : zFT 8 31 = some (4, 1) := rfl
theorem F8_51 : zFT 8 51 = some (7, 4) := rfl
theorem F8_55 : zFT 8 55 = some (3, 2) := rfl
theorem F10_9 : zFT 10 9 = some (9, 0) := rfl
theorem F10_13 : zFT 10 13 = some (9, 1) := rfl
theorem F10_16 : zFT 10 16 = some (9, 2) := rfl
theorem F10_19 : zFT 10 19 = some (9, 3) := rfl
theorem F10_22 : zFT 10 22 = some (9, 4) := rfl
theorem F10_25 : zFT 10 25 = some (9, 5) := rfl
theorem F10_28 : zFT 10 28 = some (9, 9) := rfl
theorem F10_31 : zFT 10 31 = some (9, 10) := rfl
theorem F10_34 : zFT 10 34 = some (9, 11) := rfl
theorem F10_37 : zFT 10 37 = some (9, 12) := rfl
theorem F10_40 : zFT 10 40 = some (9, 13) := rfl
theorem F10_43 : zFT 10 43 = some (9, 14) := rfl
theorem F10_46 : zFT 10 46 = some (9, 17) := rfl
theorem F10_49 : zFT 10 49 = some (9, 18) := rfl
theorem F10_52 : zFT 10 52 = some (9, 19) := rfl
theorem F10_56 : zFT 10 56 = some (9, 20) := rfl
theorem F10_59 : zFT 10 59 = some (9, 21) := rfl
theorem F10_63 : zFT 10 63 = some (9, 22) := rfl
theorem F10_66 : zFT 10 66 = some (9, 25) := rfl
theorem F10_69 : zFT 10 69 = some (9, 26) := rfl
theorem F10_72 : zFT 10 72 = some (9, 27) := rfl
theorem F10_76 : zFT 10 76 = some (9, 28) := rfl
theorem F10_79 : zFT 10 79 = some (9, 30) := rfl
theorem F10_82 : zFT 10 82 = some (9, 31) := rfl
theorem F10_85 : zFT 10 85 = some (9, 32) := rfl
theorem F10_88 : zFT 10 88 = some (9, 33) := rfl
theorem F10_91 : zFT 10 91 = some (9, 34) := rfl
theorem F10_95 : zFT 10 95 = some (9, 36) := rfl
theorem F10_98 : zFT 10 98 = some (9, 37) := rfl
theorem F10_121 : zFT 10 121 = some (9, 6) := rfl
theorem F10_148 : zFT 10 148 = some (9, 16) := rfl
theorem F10_151 : zFT 10 151 = some (9, 15) := rfl
theorem F10_220 : zFT 10 220 = some (9, 24) := rfl
theorem F10_211 : zFT 10 211 = some (9, 23) := rfl
theorem F10_250 : zFT 10 250 = some (9, 29) := rfl
theorem F10_277 : zFT 10 277 = some (9, 35) := rfl
theorem F10_307 : zFT 10 307 = some (9, 38) := rfl
theorem F10_317 : zFT 10 317 = some (9, 39) := rfl
theorem F10_320 : zFT 10 320 = some (9, 40) := rfl
theorem F10_336 : zFT 10 336 = some (9, 7) := rfl
theorem F10_339 : zFT 10 339 = some (9, 8) := rfl
theorem F12_7 : zFT 12 7 = some (10, 4) := rfl
theorem F12_13 : zFT 12 13 = some (10, 5) := rfl
theorem F12_16 : zFT 12 16 = some (10, 2) := rfl
theorem F12_101 : zFT 12 101 = some (10, 3) := rfl
theorem F12_105 : zFT 12 105 = some (11, 0) := rfl
theorem F12_111 : zFT 12 111 = some (11, 2) := rfl
theorem F12_114 : zFT 12 114 = some (11, 3) := rfl
theorem F12_58 : zFT 12 58 = some (11, 1) := rfl
theorem F12_290 : zFT 12 290 = some (11, 5) := rfl
theorem F12_124 : zFT 12 124 = some (11, 4) := rfl
theorem F12_191 : zFT 12 191 = some (10, 7) := rfl
theorem F15_7 : zFT 15 7 = some (14, 0) := rfl
theorem F16_7 : zFT 16 7 = some (5, 0) := rfl
theorem F16_17 : zFT 16 17 = some (5, 1) := rfl
theorem F16_24 : zFT 16 24 = some (5, 2) := rfl
theorem F16_31 : zFT 16 31 = some (5, 3) := rfl
theorem F18_205 : zFT 18 205 = some (32, 0) := rfl
theorem F24_9 : zFT 24 9 = some (11, 5) := rfl
theorem F24_15 : zFT 24 15 = some (11, 0) := rfl
theorem F24_19 : zFT 24 19 = some (11, 1) := rfl
theorem F24_22 : zFT 24 22 = some (11, 4) := rfl
theorem F26_7 : zFT 26 7 = some (12, 0) := rfl
theorem F27_1 : zFT 27 1 = some (13, 3) := rfl
theorem F27_13 : zFT 27 13 = some (10, 5) := rfl
theorem F27_19 : zFT 27 19 = some (13, 2) := rfl
theorem F27_22 : zFT 27 22 = some (13, 1) := rfl
theorem F27_26 : zFT 27 26 = some (13, 0) := rfl
theorem F28_13 : zFT 28 13 = some (11, 0) := rfl
theorem F29_22 : zFT 29 22 = some (16, 1) := rfl
theorem F29_15 : zFT 29 15 = some (16, 0) := rfl
theorem F29_79 : zFT 29 79 = some (16, 3) := rfl
theorem F33_17 : zFT 33 17 = some (15, 0) := rfl
theorem F33_21 : zFT 33 21 = some (15, 2) := rfl
theorem F33_93 : zFT 33 93 = some (15, 3) := rfl
theorem F33_58 : zFT 33 58 = some (15, 1) := rfl
theorem C1_9 : zCT 1 9 = some (1, [(1000, 1)]) := rfl
theorem C1_12 : zCT 1 12 = some (1, [(1000, 126)]) := rfl
theorem C1_13 : zCT 1 13 = some (3, [(1, 4)]) := rfl
theorem C1_17 : zCT 1 17 = some (3, [(9, 128)]) := rfl
theorem C1_18 : zCT 1 18 = some (2, [(1, 6)]) := rfl
theorem C1_22 : zCT 1 22 = some (2, [(9, 130)]) := rfl
theorem C1_23 : zCT 1 23 = some (1, [(1, 10)]) := rfl
theorem C1_27 : zCT 1 27 = some (1, [(9, 131)]) := rfl
theorem C1_28 : zCT 1 28 = some (2, [(1, 13)]) := rfl
theorem C1_31 : zCT 1 31 = some (2, [(9, 143)]) := rfl
theorem C1_32 : zCT 1 32 = some (1, [(1, 15)]) := rfl
theorem C1_35 : zCT 1 35 = some (1, [(9, 145)]) := rfl
theorem C1_36 : zCT 1 36 = some (2, [(1, 16)]) := rfl
theorem C1_39 : zCT 1 39 = some (2, [(9, 146)]) := rfl
theorem C1_40 : zCT 1 40 = some (2, [(1, 17)]) := rfl
theorem C1_43 : zCT 1 43 = some (2, [(9, 147)]) := rfl
theorem C1_44 : zCT 1 44 = some (1, [(1, 18)]) := rfl
theorem C1_47 : zCT 1 47 = some (1, [(9, 148)]) := rfl
theorem C1_48 : zCT 1 48 = some (2, [(1, 24)]) := rfl
theorem C1_51 : zCT 1 51 = some (2, [(9, 150)]) := rfl
theorem C1_52 : zCT 1 52 = some (2, [(1, 26)]) := rfl
theorem C1_55 : zCT 1 55 = some (2, [(9, 152)]) := rfl
theorem C1_56 : zCT 1 56 = some (2, [(1, 27)]) := rfl
theorem C1_59 : zCT 1 59 = some (2, [(9, 153)]) := rfl
theorem C1_60 : zCT 1 60 = some (2, [(1, 28)]) := rfl
theorem C1_63 : zCT 1 63 = some (2, [(9, 156)]) := rfl
theorem C1_64 : zCT 1 64 = some (3, [(1, 29)]) := rfl
theorem C1_67 : zCT 1 67 = some (3, [(9, 159)]) := rfl
theorem C1_68 : zCT 1 68 = some (1, [(1, 31)]) := rfl
theorem C1_71 : zCT 1 71 = some (1, [(9, 165)]) := rfl
theorem C1_72 : zCT 1 72 = some (1, [(1, 32)]) := rfl
theorem C1_75 : zCT 1 75 = some (1, [(9, 166)]) := rfl
theorem C1_76 : zCT 1 76 = some (2, [(1, 33)]) := rfl
theorem C1_79 : zCT 1 79 = some (2, [(9, 170)]) := rfl
theorem C1_80 : zCT 1 80 = some (4, [(1, 34)]) := rfl
theorem C1_84 : zCT 1 84 = some (4, [(9, 171)]) := rfl
theorem C1_85 : zCT 1 85 = some (1, [(1, 35)]) := rfl
theorem C1_88 : zCT 1 88 = some (1, [(9, 174)]) := rfl
theorem C1_89 : zCT 1 89 = some (1, [(1, 39)]) := rfl
theorem C1_92 : zCT 1 92 = some (1, [(9, 181)]) := rfl
theorem C1_93 : zCT 1 93 = some (1, [(1, 41)]) := rfl
theorem C1_96 : zCT 1 96 = some (1, [(9, 182)]) := rfl
theorem C1_97 : zCT 1 97 = some (2, [(1, 42)]) := rfl
theorem C1_100 : zCT 1 100 = some (2, [(9, 183)]) := rfl
theorem C1_101 : zCT 1 101 = some (1, [(1, 47)]) := rfl
theorem C1_104 : zCT 1 104 = some (1, [(9, 186)]) := rfl
theorem C1_105 : zCT 1 105 = some (1, [(1, 50)]) := rfl
theorem C1_108 : zCT 1 108 = some (1, [(9, 188)]) := rfl
theorem C1_109 : zCT 1 109 = some (1, [(1, 51)]) := rfl
theorem C1_112 : zCT 1 112 = some (1, [(9, 189)]) := rfl
theorem C1_113 : zCT 1 113 = some (1, [(1, 52)]) := rfl
theorem C1_116 : zCT 1 116 = some (1, [(9, 190)]) := rfl
theorem C1_117 : zCT 1 117 = some (2, [(1, 53)]) := rfl
theorem C1_120 : zCT 1 120 = some (2, [(9, 191)]) := rfl
theorem C1_121 : zCT 1 121 = some (2, [(1, 56)]) := rfl
theorem C1_124 : zCT 1 124 = some (2, [(9, 193)]) := rfl
theorem C1_125 : zCT 1 125 = some (2, [(1, 57)]) := rfl
theorem C1_128 : zCT 1 128 = some (2, [(9, 194)]) := rfl
theorem C1_129 : zCT 1 129 = some (3, [(1, 59)]) := rfl
theorem C1_132 : zCT 1 132 = some (3, [(9, 197)]) := rfl
theorem C1_133 : zCT 1 133 = some (3, [(1, 60)]) := rfl
theorem C1_136 : zCT 1 136 = some (3, [(9, 198)]) := rfl
theorem C1_137 : zCT 1 137 = some (3, [(1, 61)]) := rfl
theorem C1_140 : zCT 1 140 = some (3, [(9, 200)]) := rfl
theorem C1_141 : zCT 1 141 = some (3, [(1, 62)]) := rfl
theorem C1_144 : zCT 1 144 = some (3, [(9, 201)]) := rfl
theorem C1_145 : zCT 1 145 = some (3, [(1, 63)]) := rfl
theorem C1_148 : zCT 1 148 = some (3, [(9, 203)]) := rfl
theorem C1_149 : zCT 1 149 = some (4, [(1, 64)]) := rfl
theorem C1_152 : zCT 1 152 = some (4, [(9, 204)]) := rfl
theorem C1_153 : zCT 1 153 = some (2, [(1, 67)]) := rfl
theorem C1_156 : zCT 1 156 = some (2, [(9, 208)]) := rfl
theorem C1_157 : zCT 1 157 = some (3, [(1, 70)]) := rfl
theorem C1_160 : zCT 1 160 = some (3, [(9, 211)]) := rfl
theorem C1_161 : zCT 1 161 = some (3, [(1, 71)]) := rfl
theorem C1_164 : zCT 1 164 = some (3, [(9, 212)]) := rfl
theorem C1_165 : zCT 1 165 = some (3, [(1, 75)]) := rfl
theorem C1_168 : zCT 1 168 = some (3, [(9, 214)]) := rfl
theorem C1_169 : zCT 1 169 = some (3, [(1, 78)]) := rfl
theorem C1_172 : zCT 1 172 = some (3, [(9, 215)]) := rfl
theorem C1_173 : zCT 1 173 = some (3, [(1, 80)]) := rfl
theorem C1_176 : zCT 1 176 = some (3, [(9, 218)]) := rfl
theorem C1_177 : zCT 1 177 = some (3, [(1, 83)]) := rfl
theorem C1_180 : zCT 1 180 = some (3, [(9, 222)]) := rfl
theorem C1_181 : zCT 1 181 = some (3, [(1, 85)]) := rfl
theorem C1_184 : zCT 1 184 = some (3, [(9, 224)]) := rfl
theorem C1_185 : zCT 1 185 = some (4, [(1, 86)]) := rfl
theorem C1_188 : zCT 1 188 = some (4, [(9, 225)]) := rfl
theorem C1_189 : zCT 1 189 = some (1, [(1, 87)]) := rfl
theorem C1_192 : zCT 1 192 = some (1, [(9, 226)]) := rfl
theorem C1_193 : zCT 1 193 = some (2, [(1, 7)]) := rfl
theorem C1_196 : zCT 1 196 = some (2, [(9, 227)]) := rfl
theorem C1_197 : zCT 1 197 = some (1, [(1, 8)]) := rfl
theorem C1_200 : zCT 1 200 = some (1, [(9, 228)]) := rfl
theorem C1_201 : zCT 1 201 = some (1, [(1, 9)]) := rfl
theorem C1_204 : zCT 1 204 = some (1, [(9, 229)]) := rfl
theorem C1_205 : zCT 1 205 = some (1, [(1, 88)]) := rfl
theorem C1_208 : zCT 1 208 = some (1, [(9, 230)]) := rfl
theorem C1_209 : zCT 1 209 = some (1, [(1, 89)]) := rfl
theorem C1_212 : zCT 1 212 = some (1, [(9, 231)]) := rfl
theorem C2_34 : zCT 2 34 = some (2, [(1000, 90)]) := rfl
theorem C2_68 : zCT 2 68 = some (1, [(1000, 233)]) := rfl
theorem C2_75 : zCT 2 75 = some (1, [(1000, 259)]) := rfl
theorem C2_86 : zCT 2 86 = some (4, [(1000, 98)]) := rfl
theorem C2_117 : zCT 2 117 = some (1, [(1, 2)]) := rfl
theorem C2_125 : zCT 2 125 = some (2, [(1, 3)]) := rfl
theorem C2_129 : zCT 2 129 = some (4, [(1000, 104)]) := rfl
theorem C2_143 : zCT 2 143 = some (1, [(999, 5)]) := rfl
theorem C2_147 : zCT 2 147 = some (2, [(4, 107)]) := rfl
theorem C2_176 : zCT 2 176 = some (1, [(2, 91)]) := rfl
theorem C2_180 : zCT 2 180 = some (1, [(999, 11)]) := rfl
theorem C2_184 : zCT 2 184 = some (1, [(1, 12)]) := rfl
theorem C2_164 : zCT 2 164 = some (2, [(4, 109)]) := rfl
theorem C2_165 : zCT 2 165 = some (1, [(4, 108)]) := rfl
theorem C2_169 : zCT 2 169 = some (2, [(4, 110)]) := rfl
theorem C2_172 : zCT 2 172 = some (4, [(4, 111)]) := rfl
theorem C2_192 : zCT 2 192 = some (2, [(1, 14)]) := rfl
theorem C2_240 : zCT 2 240 = some (1, [(1, 19)]) := rfl
theorem C2_222 : zCT 2 222 = some (5, [(1000, 121)]) := rfl
theorem C2_225 : zCT 2 225 = some (2, [(999, 20)]) := rfl
theorem C2_229 : zCT 2 229 = some (2, [(1, 22)]) := rfl
theorem C2_233 : zCT 2 233 = some (2, [(1, 23)]) := rfl
theorem C2_212 : zCT 2 212 = some (4, [(999, 21)]) := rfl
theorem C2_256 : zCT 2 256 = some (1, [(10, 234)]) := rfl
theorem C2_259 : zCT 2 259 = some (1, [(999, 269)]) := rfl
theorem C2_265 : zCT 2 265 = some (1, [(10, 235)]) := rfl
theorem C2_266 : zCT 2 266 = some (3, [(10, 236)]) := rfl
theorem C2_270 : zCT 2 270 = some (2, [(10, 249)]) := rfl
theorem C2_274 : zCT 2 274 = some (1, [(32, 273)]) := rfl
theorem C2_277 : zCT 2 277 = some (2, [(999, 277)]) := rfl
theorem C2_243 : zCT 2 243 = some (2, [(1, 25)]) := rfl
theorem C2_248 : zCT 2 248 = some (2, [(4, 114)]) := rfl
theorem C2_252 : zCT 2 252 = some (1, [(999, 30)]) := rfl
theorem C2_292 : zCT 2 292 = some (3, [(7, 122)]) := rfl
theorem C2_326 : zCT 2 326 = some (1, [(1, 36)]) := rfl
theorem C2_330 : zCT 2 330 = some (1, [(14, 264)]) := rfl
theorem C2_321 : zCT 2 321 = some (1, [(14, 261)]) := rfl
theorem C2_310 : zCT 2 310 = some (3, [(1, 37)]) := rfl
theorem C2_322 : zCT 2 322 = some (4, [(1, 38)]) := rfl
theorem C2_295 : zCT 2 295 = some (2, [(14, 262)]) := rfl
theorem C2_299 : zCT 2 299 = some (1, [(3, 101)]) := rfl
theorem C2_303 : zCT 2 303 = some (2, [(14, 263)]) := rfl
theorem C2_306 : zCT 2 306 = some (3, [(3, 102)]) := rfl
theorem C2_331 : zCT 2 331 = some (1, [(14, 265)]) := rfl
theorem C2_335 : zCT 2 335 = some (1, [(2013, 285)]) := rfl
theorem C2_340 : zCT 2 340 = some (1, [(2013, 288)]) := rfl
theorem C2_344 : zCT 2 344 = some (2, [(1, 40)]) := rfl
theorem C2_314 : zCT 2 314 = some (2, [(3, 100)]) := rfl
theorem C2_348 : zCT 2 348 = some (1, [(3, 103)]) := rfl
theorem C2_362 : zCT 2 362 = some (5, [(1, 43)]) := rfl
theorem C2_355 : zCT 2 355 = some (3, [(1, 44)]) := rfl
theorem C2_359 : zCT 2 359 = some (4, [(1, 46)]) := rfl
theorem C2_351 : zCT 2 351 = some (2, [(1, 45)]) := rfl
theorem C2_369 : zCT 2 369 = some (1, [(1, 48)]) := rfl
theorem C2_366 : zCT 2 366 = some (2, [(1, 49)]) := rfl
theorem C2_372 : zCT 2 372 = some (1, [(1, 51)]) := rfl
theorem C2_408 : zCT 2 408 = some (1, [(999, 54)]) := rfl
theorem C2_411 : zCT 2 411 = some (1, [(2, 97)]) := rfl
theorem C2_414 : zCT 2 414 = some (3, [(1, 55)]) := rfl
theorem C2_424 : zCT 2 424 = some (1, [(999, 58)]) := rfl
theorem C2_428 : zCT 2 428 = some (1, [(16, 298)]) := rfl
theorem C2_419 : zCT 2 419 = some (1, [(1000, 296)]) := rfl
theorem C2_420 : zCT 2 420 = some (3, [(4, 117)]) := rfl
theorem C2_430 : zCT 2 430 = some (2, [(16, 299)]) := rfl
theorem C2_434 : zCT 2 434 = some (2, [(4, 116)]) := rfl
theorem C2_436 : zCT 2 436 = some (3, [(1, 65)]) := rfl
theorem C2_378 : zCT 2 378 = some (4, [(1, 66)]) := rfl
theorem C2_375 : zCT 2 375 = some (4, [(4, 112)]) := rfl
theorem C2_385 : zCT 2 385 = some (3, [(1, 68)]) := rfl
theorem C2_381 : zCT 2 381 = some (3, [(1, 69)]) := rfl
theorem C2_404 : zCT 2 404 = some (3, [(1, 72)]) := rfl
theorem C2_393 : zCT 2 393 = some (2, [(4, 113)]) := rfl
theorem C2_396 : zCT 2 396 = some (3, [(1, 73)]) := rfl
theorem C2_400 : zCT 2 400 = some (4, [(1, 74)]) := rfl
theorem C2_442 : zCT 2 442 = some (2, [(1, 76)]) := rfl
theorem C2_389 : zCT 2 389 = some (2, [(1, 77)]) := rfl
theorem C2_450 : zCT 2 450 = some (3, [(1, 79)]) := rfl
theorem C2_446 : zCT 2 446 = some (2, [(4, 118)]) := rfl
theorem C2_470 : zCT 2 470 = some (3, [(1, 81)]) := rfl
theorem C2_473 : zCT 2 473 = some (3, [(1, 82)]) := rfl
theorem C2_457 : zCT 2 457 = some (1, [(1000, 125)]) := rfl
theorem C2_458 : zCT 2 458 = some (3, [(1000, 304)]) := rfl
theorem C2_461 : zCT 2 461 = some (2, [(15, 305)]) := rfl
theorem C2_462 : zCT 2 462 = some (1, [(15, 257)]) := rfl
theorem C2_465 : zCT 2 465 = some (1, [(15, 311)]) := rfl
theorem C2_476 : zCT 2 476 = some (2, [(1, 84)]) := rfl
theorem C3_67 : zCT 3 67 = some (1, [(2, 92)]) := rfl
theorem C3_52 : zCT 3 52 = some (2, [(2, 96)]) := rfl
theorem C3_35 : zCT 3 35 = some (2, [(2, 95)]) := rfl
theorem C3_73 : zCT 3 73 = some (3, [(1000, 120)]) := rfl
theorem C3_55 : zCT 3 55 = some (1, [(2, 93)]) := rfl
theorem C3_64 : zCT 3 64 = some (4, [(1000, 104)]) := rfl
theorem C3_31 : zCT 3 31 = some (1, [(2, 94)]) := rfl
theorem C3_43 : zCT 3 43 = some (2, [(999, 105)]) := rfl
theorem C3_49 : zCT 3 49 = some (2, [(1, 3)]) := rfl
theorem C3_28 : zCT 3 28 = some (2, [(1000, 119)]) := rfl
theorem C4_36 : zCT 4 36 = some (2, [(3, 100)]) := rfl
theorem C4_27 : zCT 4 27 = some (4, [(1000, 98)]) := rfl
theorem C4_30 : zCT 4 30 = some (2, [(999, 277)]) := rfl
theorem C5_25 : zCT 5 25 = some (2, [(999, 105)]) := rfl
theorem C5_29 : zCT 5 29 = some (1, [(999, 106)]) := rfl
theorem C5_53 : zCT 5 53 = some (1, [(4, 108)]) := rfl
theorem C5_49 : zCT 5 49 = some (4, [(4, 112)]) := rfl
theorem C5_45 : zCT 5 45 = some (2, [(4, 113)]) := rfl
theorem C5_67 : zCT 5 67 = some (2, [(4, 116)]) := rfl
theorem C5_57 : zCT 5 57 = some (2, [(16, 297)]) := rfl
theorem C5_63 : zCT 5 63 = some (3, [(4, 117)]) := rfl
theorem C6_1 : zCT 6 1 = some (5, [(1000, 268)]) := rfl
theorem C8_25 : zCT 8 25 = some (1, [(4, 108)]) := rfl
theorem C8_35 : zCT 8 35 = some (4, [(4, 112)]) := rfl
theorem C8_39 : zCT 8 39 = some (4, [(4, 111)]) := rfl
theorem C8_44 : zCT 8 44 = some (2, [(4, 114)]) := rfl
theorem C8_48 : zCT 8 48 = some (4, [(1000, 98)]) := rfl
theorem C9_13 : zCT 9 13 = some (3, [(8, 124)]) := rfl
theorem C9_7 : zCT 9 7 = some (2, [(4, 116)]) := rfl
theorem C10_101 : zCT 10 101 = some (2, [(9, 127)]) := rfl
theorem C10_105 : zCT 10 105 = some (3, [(999, 129)]) := rfl
theorem C10_161 : zCT 10 161 = some (1, [(9, 132)]) := rfl
theorem C10_158 : zCT 10 158 = some (2, [(9, 137)]) := rfl
theorem C10_169 : zCT 10 169 = some (5, [(999, 138)]) := rfl
theorem C10_173 : zCT 10 173 = some (1, [(9, 139)]) := rfl
theorem C10_125 : zCT 10 125 = some (1, [(999, 141)]) := rfl
theorem C10_145 : zCT 10 145 = some (1, [(999, 142)]) := rfl
theorem C10_154 : zCT 10 154 = some (1, [(9, 133)]) := rfl
theorem C10_109 : zCT 10 109 = some (1, [(999, 134)]) := rfl
theorem C10_128 : zCT 10 128 = some (1, [(999, 135)]) := rfl
theorem C10_113 : zCT 10 113 = some (2, [(9, 136)]) := rfl
theorem C10_165 : zCT 10 165 = some (2, [(999, 140)]) := rfl
theorem C10_176 : zCT 10 176 = some (2, [(9, 144)]) := rfl
theorem C10_185 : zCT 10 185 = some (1, [(9, 149)]) := rfl
theorem C10_188 : zCT 10 188 = some (2, [(9, 151)]) := rfl
theorem C10_191 : zCT 10 191 = some (2, [(9, 154)]) := rfl
theorem C10_179 : zCT 10 179 = some (2, [(9, 155)]) := rfl
theorem C10_194 : zCT 10 194 = some (2, [(9, 157)]) := rfl
theorem C10_182 : zCT 10 182 = some (2, [(9, 158)]) := rfl
theorem C10_208 : zCT 10 208 = some (3, [(9, 160)]) := rfl
theorem C10_197 : zCT 10 197 = some (3, [(9, 161)]) := rfl
theorem C10_201 : zCT 10 201 = some (4, [(9, 162)]) := rfl
theorem C10_205 : zCT 10 205 = some (3, [(9, 164)]) := rfl
theorem C10_117 : zCT 10 117 = some (3, [(9, 163)]) := rfl
theorem C10_223 : zCT 10 223 = some (1, [(9, 167)]) := rfl
theorem C10_226 : zCT 10 226 = some (1, [(9, 168)]) := rfl
theorem C10_216 : zCT 10 216 = some (3, [(999, 169)]) := rfl
theorem C10_229 : zCT 10 229 = some (4, [(9, 172)]) := rfl
theorem C10_134 : zCT 10 134 = some (5, [(999, 173)]) := rfl
theorem C10_259 : zCT 10 259 = some (1, [(9, 175)]) := rfl
theorem C10_246 : zCT 10 246 = some (2, [(999, 176)]) := rfl
theorem C10_253 : zCT 10 253 = some (2, [(9, 177)]) := rfl
theorem C10_256 : zCT 10 256 = some (3, [(9, 178)]) := rfl
theorem C10_233 : zCT 10 233 = some (1, [(999, 179)]) := rfl
theorem C10_236 : zCT 10 236 = some (2, [(999, 180)]) := rfl
theorem C10_240 : zCT 10 240 = some (2, [(999, 277)]) := rfl
theorem C10_265 : zCT 10 265 = some (2, [(9, 184)]) := rfl
theorem C10_262 : zCT 10 262 = some (2, [(9, 185)]) := rfl
theorem C10_268 : zCT 10 268 = some (1, [(9, 187)]) := rfl
theorem C10_271 : zCT 10 271 = some (1, [(9, 189)]) := rfl
theorem C10_274 : zCT 10 274 = some (1, [(999, 192)]) := rfl
theorem C10_283 : zCT 10 283 = some (2, [(9, 195)]) := rfl
theorem C10_280 : zCT 10 280 = some (2, [(9, 196)]) := rfl
theorem C10_286 : zCT 10 286 = some (2, [(9, 194)]) := rfl
theorem C10_288 : zCT 10 288 = some (4, [(999, 199)]) := rfl
theorem C10_292 : zCT 10 292 = some (3, [(9, 202)]) := rfl
theorem C10_295 : zCT 10 295 = some (3, [(9, 205)]) := rfl
theorem C10_138 : zCT 10 138 = some (4, [(9, 206)]) := rfl
theorem C10_131 : zCT 10 131 = some (1, [(999, 207)]) := rfl
theorem C10_298 : zCT 10 298 = some (4, [(9, 209)]) := rfl
theorem C10_142 : zCT 10 142 = some (3, [(9, 210)]) := rfl
theorem C10_301 : zCT 10 301 = some (4, [(9, 213)]) := rfl
theorem C10_304 : zCT 10 304 = some (3, [(9, 212)]) := rfl
theorem C10_310 : zCT 10 310 = some (3, [(9, 216)]) := rfl
theorem C10_314 : zCT 10 314 = some (1, [(9, 217)]) := rfl
theorem C10_326 : zCT 10 326 = some (3, [(9, 219)]) := rfl
theorem C10_329 : zCT 10 329 = some (3, [(9, 220)]) := rfl
theorem C10_323 : zCT 10 323 = some (1, [(9, 221)]) := rfl
theorem C10_333 : zCT 10 333 = some (3, [(9, 223)]) := rfl
theorem C12_1 : zCT 12 1 = some (1, [(1000, 232)]) := rfl
theorem C12_127 : zCT 12 127 = some (4, [(10, 237)]) := rfl
theorem C12_135 : zCT 12 135 = some (3, [(10, 238)]) := rfl
theorem C12_117 : zCT 12 117 = some (3, [(2008, 123)]) := rfl
theorem C12_95 : zCT 12 95 = some (1, [(999, 281)]) := rfl
theorem C12_107 : zCT 12 107 = some (2, [(2003, 99), (2004, 115), (2032, 270)]) := rfl
theorem C12_139 : zCT 12 139 = some (5, [(10, 240)]) := rfl
theorem C12_123 : zCT 12 123 = some (3, [(10, 239)]) := rfl
theorem C12_167 : zCT 12 167 = some (4, [(1000, 280)]) := rfl
theorem C12_170 : zCT 12 170 = some (2, [(10, 241)]) := rfl
theorem C12_294 : zCT 12 294 = some (1, [(999, 242)]) := rfl
theorem C12_297 : zCT 12 297 = some (1, [(999, 243)]) := rfl
theorem C12_300 : zCT 12 300 = some (1, [(999, 244)]) := rfl
theorem C12_303 : zCT 12 303 = some (1, [(999, 245)]) := rfl
theorem C12_307 : zCT 12 307 = some (2, [(999, 246)]) := rfl
theorem C12_311 : zCT 12 311 = some (2, [(10, 247)]) := rfl
theorem C12_314 : zCT 12 314 = some (2, [(10, 248)]) := rfl
theorem C12_50 : zCT 12 50 = some (2, [(10, 250)]) := rfl
theorem C12_224 : zCT 12 224 = some (2, [(1000, 282)]) := rfl
theorem C12_54 : zCT 12 54 = some (1, [(10, 254)]) := rfl
theorem C12_271 : zCT 12 271 = some (3, [(1000, 287)]) := rfl
theorem C13_7 : zCT 13 7 = some (1, [(15, 310)]) := rfl
theorem C14_1 : zCT 14 1 = some (1, [(1000, 256)]) := rfl
theorem C15_15 : zCT 15 15 = some (1, [(1000, 233)]) := rfl
theorem C15_16 : zCT 15 16 = some (2, [(1000, 260)]) := rfl
theorem C15_1 : zCT 15 1 = some (1, [(1000, 258)]) := rfl
theorem C15_77 : zCT 15 77 = some (1, [(2010, 234)]) := rfl
theorem C15_61 : zCT 15 61 = some (2, [(2010, 251)]) := rfl
theorem C15_69 : zCT 15 69 = some (3, [(2010, 236)]) := rfl
theorem C15_53 : zCT 15 53 = some (1, [(2010, 235)]) := rfl
theorem C15_34 : zCT 15 34 = some (1, [(2010, 252)]) := rfl
theorem C15_40 : zCT 15 40 = some (1, [(2012, 283)]) := rfl
theorem C17_16 : zCT 17 16 = some (5, [(1000, 267)]) := rfl
theorem C18_284 : zCT 18 284 = some (2, [(32, 271)]) := rfl
theorem C18_259 : zCT 18 259 = some (2, [(999, 272)]) := rfl
theorem C19_1059 : zCT 19 1059 = some (3, [(999, 279)]) := rfl
theorem C22_194 : zCT 22 194 = some (2, [(999, 277)]) := rfl
theorem C26_1 : zCT 26 1 = some (1, [(1000, 258)]) := rfl
theorem C26_15 : zCT 26 15 = some (1, [(10, 253)]) := rfl
theorem C27_35 : zCT 27 35 = some (1, [(999, 255)]) := rfl
theorem C28_1 : zCT 28 1 = some (3, [(1000, 284)]) := rfl
theorem C28_7 : zCT 28 7 = some (1, [(13, 286)]) := rfl
theorem C29_100 : zCT 29 100 = some (2, [(16, 292)]) := rfl
theorem C29_83 : zCT 29 83 = some (1, [(16, 289)]) := rfl
theorem C29_191 : zCT 29 191 = some (1, [(999, 275)]) := rfl
theorem C29_104 : zCT 29 104 = some (2, [(16, 293)]) := rfl
theorem C29_108 : zCT 29 108 = some (2, [(999, 300)]) := rfl
theorem C29_114 : zCT 29 114 = some (3, [(999, 278)]) := rfl
theorem C29_138 : zCT 29 138 = some (2, [(999, 276)]) := rfl
theorem C29_144 : zCT 29 144 = some (2, [(999, 274)]) := rfl
theorem C30_1 : zCT 30 1 = some (2, [(1000, 290)]) := rfl
theorem C30_50 : zCT 30 50 = some (2, [(1016, 291)]) := rfl
theorem C30_343 : zCT 30 343 = some (1, [(1016, 294)]) := rfl
theorem C30_329 : zCT 30 329 = some (2, [(1016, 295)]) := rfl
theorem C31_304 : zCT 31 304 = some (2, [(999, 276)]) := rfl
theorem C31_300 : zCT 31 300 = some (3, [(999, 302)]) := rfl
theorem C32_1 : zCT 32 1 = some (1, [(1000, 256)]) := rfl
theorem C33_7 : zCT 33 7 = some (1, [(1000, 303)]) := rfl
theorem C33_89 : zCT 33 89 = some (2, [(15, 306)]) := rfl
theorem C33_96 : zCT 33 96 = some (2, [(15, 307)]) := rfl
theorem C33_100 : zCT 33 100 = some (3, [(15, 308)]) := rfl
theorem C33_80 : zCT 33 80 = some (3, [(999, 278)]) := rfl
theorem C33_86 : zCT 33 86 = some (2, [(999, 301)]) := rfl
theorem C33_136 : zCT 33 136 = some (4, [(999, 309)]) := rfl
theorem C33_149 : zCT 33 149 = some (3, [(2008, 123)]) := rfl
theorem C33_129 : zCT 33 129 = some (5, [(999, 312)]) := rfl
