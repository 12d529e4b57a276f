set_option maxRecDepth 100000
def wX_stop : List Nat × List Nat × List Nat := ([1006], [], [])
def wX_within : List Nat × List Nat × List Nat := ([], [], [])
def wX_feed : List Nat × List Nat × List Nat := ([2], [], [0])
def wX_end : List Nat × List Nat × List Nat := ([2], [], [])
def wX_takeTape : List Nat × List Nat × List Nat := ([2, 4, 17, 18, 19, 20], [], [1])
def wX_isSpecial : List Nat × List Nat × List Nat := ([], [], [])
def wX_isBlank : List Nat × List Nat × List Nat := ([], [], [])
def wX_isStar : List Nat × List Nat × List Nat := ([], [], [])
def wX_isText : List Nat × List Nat × List Nat := ([], [], [])
def wX_reservedOf : List Nat × List Nat × List Nat := ([], [], [])
def wX_idOf : List Nat × List Nat × List Nat := ([11, 12], [], [6, 7, 8])
def wX_cutWords : List Nat × List Nat × List Nat := ([5, 11, 12, 21], [], [2, 3, 4, 5, 6, 7, 8])
def wX_lineOf : List Nat × List Nat × List Nat := ([], [], [])
def wX_wrongAt : List Nat × List Nat × List Nat := ([18, 19, 20], [], [])
def wX_wrong : List Nat × List Nat × List Nat := ([18, 19, 20], [], [])
def wX_isReserved : List Nat × List Nat × List Nat := ([], [], [])
def wX_step : List Nat × List Nat × List Nat := ([17, 18, 19, 20], [], [])
def wX_take : List Nat × List Nat × List Nat := ([17, 18, 19, 20], [], [])
def wX_isWord : List Nat × List Nat × List Nat := ([], [], [])
def wX_isWordText : List Nat × List Nat × List Nat := ([], [], [])
def wX_isSign : List Nat × List Nat × List Nat := ([], [], [])
def wX_expect : List Nat × List Nat × List Nat := ([17, 18, 19, 20], [], [])
def wX_clearHash : List Nat × List Nat × List Nat := ([], [], [72])
def wX_clear : List Nat × List Nat × List Nat := ([11, 12, 15, 16, 22, 24, 29, 39, 42, 43, 44, 58, 61, 63, 93, 94, 102, 103, 111, 151, 152, 153, 162], [], [72])
def wX_passTerm : List Nat × List Nat × List Nat := ([17, 18, 19, 20], [], [])
def wX_readCondition : List Nat × List Nat × List Nat := ([17, 18, 19, 20], [], [32, 33, 34, 35, 36, 37])
def wX_readSides : List Nat × List Nat × List Nat := ([17, 18, 19, 20], [], [28, 29, 30, 31, 32, 33, 34, 35, 36, 37])
def wX_readEquation : List Nat × List Nat × List Nat := ([17, 18, 19, 20, 42, 44], [], [25, 26, 27, 28, 29, 30, 31, 32, 33, 34, 35, 36, 37])
def wX_isLess : List Nat × List Nat × List Nat := ([], [], [])
def wX_readNames : List Nat × List Nat × List Nat := ([17, 18, 19, 20], [], [])
def wX_readLess : List Nat × List Nat × List Nat := ([17, 18, 19, 20, 24], [], [10, 11, 12, 13])
def wX_isDigit : List Nat × List Nat × List Nat := ([], [], [])
def wX_mark : List Nat × List Nat × List Nat := ([], [], [18])
def wX_readAttribute : List Nat × List Nat × List Nat := ([17, 18, 19, 20], [], [18, 19, 20, 21, 22])
def wX_readRow : List Nat × List Nat × List Nat := ([17, 18, 19, 20, 29], [], [14, 15, 16, 17, 18, 19, 20, 21, 22])
def wX_readRule : List Nat × List Nat × List Nat := ([17, 18, 19, 20, 43, 44], [], [25, 27, 28, 29, 30, 31, 32, 33, 34, 35, 36, 37])
def wX_readSorts : List Nat × List Nat × List Nat := ([17, 18, 19, 20, 22], [], [9])
def wX_readVariables : List Nat × List Nat × List Nat := ([17, 18, 19, 20, 39], [], [23, 24])
def wX_readStatement : List Nat × List Nat × List Nat := ([17, 18, 19, 20, 22, 24, 29, 39, 42, 43, 44], [], [9, 10, 11, 12, 13, 14, 15, 16, 17, 18, 19, 20, 21, 22, 23, 24, 25, 26, 27, 28, 29, 30, 31, 32, 33, 34, 35, 36, 37])
def wX_readText : List Nat × List Nat × List Nat := ([17, 18, 19, 20, 22, 24, 29, 39, 42, 43, 44], [], [9, 10, 11, 12, 13, 14, 15, 16, 17, 18, 19, 20, 21, 22, 23, 24, 25, 26, 27, 28, 29, 30, 31, 32, 33, 34, 35, 36, 37])
def wX_sortBy : List Nat × List Nat × List Nat := ([], [], [])
def wX_sortAt : List Nat × List Nat × List Nat := ([18, 19, 20], [], [])
def wX_isBelow : List Nat × List Nat × List Nat := ([], [], [])
def wX_laySorts : List Nat × List Nat × List Nat := ([18, 19, 20], [], [38, 39, 40])
def wX_layBelow : List Nat × List Nat × List Nat := ([], [], [39, 40])
def wX_layLess : List Nat × List Nat × List Nat := ([18, 19, 20], [], [39, 40])
def wX_layKinds : List Nat × List Nat × List Nat := ([61], [], [40])
def wX_addPart : List Nat × List Nat × List Nat := ([], [], [45, 46])
def wX_signId : List Nat × List Nat × List Nat := ([11, 12], [], [6, 7, 8, 56])
def wX_layPrefix : List Nat × List Nat × List Nat := ([11, 12], [], [6, 7, 8, 45, 46, 56])
def wX_layForm : List Nat × List Nat × List Nat := ([11, 12], [], [6, 7, 8, 45, 46, 56])
def wX_isSameForm : List Nat × List Nat × List Nat := ([], [], [])
def wX_layRow : List Nat × List Nat × List Nat := ([11, 12, 18, 19, 20], [], [6, 7, 8, 42, 43, 44, 45, 46, 47, 56])
def wX_isSameAttribute : List Nat × List Nat × List Nat := ([], [], [])
def wX_checkLater : List Nat × List Nat × List Nat := ([18, 19, 20], [], [])
def wX_isSameKinds : List Nat × List Nat × List Nat := ([], [], [])
def wX_isEnd : List Nat × List Nat × List Nat := ([], [], [])
def wX_layFirst : List Nat × List Nat × List Nat := ([18, 19, 20], [], [49, 50, 51, 52, 53, 54, 55])
def wX_layUnit : List Nat × List Nat × List Nat := ([18, 19, 20], [], [54])
def wX_layOperators : List Nat × List Nat × List Nat := ([18, 19, 20, 63], [], [41, 48, 49, 50, 51, 52, 53, 54, 55])
def wX_layVariables : List Nat × List Nat × List Nat := ([18, 19, 20], [], [57, 58])
def wX_addReading : List Nat × List Nat × List Nat := ([82], [], [59, 60, 61, 62, 63, 64])
def wX_cellOf : List Nat × List Nat × List Nat := ([], [], [])
def wX_fit : List Nat × List Nat × List Nat := ([82, 92], [], [59, 60, 61, 62, 63, 64, 65])
def wX_addBracket : List Nat × List Nat × List Nat := ([82], [], [59, 60, 61, 62, 63, 64, 65])
def wX_layCell : List Nat × List Nat × List Nat := ([82, 92], [], [59, 60, 61, 62, 63, 64, 65])
def wX_layReadings : List Nat × List Nat × List Nat := ([82, 89, 90, 92], [], [59, 60, 61, 62, 63, 64, 65])
def wX_readingOf : List Nat × List Nat × List Nat := ([82, 89, 90, 92], [], [59, 60, 61, 62, 63, 64, 65])
def wX_slotOf : List Nat × List Nat × List Nat := ([], [], [])
def wX_at : List Nat × List Nat × List Nat := ([], [], [])
def wX_isRowAbove : List Nat × List Nat × List Nat := ([], [], [])
def wX_leastBy : List Nat × List Nat × List Nat := ([], [], [])
def wX_leastOf : List Nat × List Nat × List Nat := ([], [], [76])
def wX_sortOfVariable : List Nat × List Nat × List Nat := ([], [], [])
def wX_nodeOf : List Nat × List Nat × List Nat := ([93, 102, 1006], [], [66, 67, 68, 69, 70, 71, 72, 73, 75, 76])
def wX_dropNodes : List Nat × List Nat × List Nat := ([93, 102, 106], [], [72, 74, 75])
def wX_variableNode : List Nat × List Nat × List Nat := ([93, 102, 1006], [], [66, 67, 68, 69, 70, 71, 72, 73, 75, 76])
def wX_unitNode : List Nat × List Nat × List Nat := ([93, 102, 1006], [], [66, 67, 68, 69, 70, 71, 72, 73, 75, 76])
def wX_push : List Nat × List Nat × List Nat := ([106], [], [74])
def wX_compare : List Nat × List Nat × List Nat := ([], [], [])
def wX_arrange : List Nat × List Nat × List Nat := ([], [], [74])
def wX_flatten : List Nat × List Nat × List Nat := ([106], [], [74])
def wX_make : List Nat × List Nat × List Nat := ([93, 102, 106, 1006], [], [66, 67, 68, 69, 70, 71, 72, 73, 74, 75, 76])
def wX_makeSome : List Nat × List Nat × List Nat := ([93, 102, 106, 1006], [], [66, 67, 68, 69, 70, 71, 72, 73, 74, 75, 76])
def wX_termOf : List Nat × List Nat × List Nat := ([93, 102, 106, 1006], [], [66, 67, 68, 69, 70, 71, 72, 73, 74, 75, 76])
def wX_save (v2 : Nat) : List Nat × List Nat × List Nat := ([109], [], [v2])
def wX_saveTo (v2 : Nat) : List Nat × List Nat × List Nat := ([109], [], [v2])
def wX_load : List Nat × List Nat × List Nat := ([93, 102, 106, 110, 1006], [], [66, 67, 68, 69, 70, 71, 72, 73, 74, 75, 76])
def wX_loadFrom : List Nat × List Nat × List Nat := ([93, 102, 106, 110, 1006], [], [66, 67, 68, 69, 70, 71, 72, 73, 74, 75, 76])
def wX_newHandle : List Nat × List Nat × List Nat := ([109, 111], [], [77])
def wX_termAt : List Nat × List Nat × List Nat := ([93, 102, 106, 110, 1006], [], [66, 67, 68, 69, 70, 71, 72, 73, 74, 75, 76])
def wX_isHandle : List Nat × List Nat × List Nat := ([], [], [])
def wX_readTerm : List Nat × List Nat × List Nat := ([18, 19, 20, 82, 89, 90, 92, 93, 102, 106, 1006], [], [59, 60, 61, 62, 63, 64, 65, 66, 67, 68, 69, 70, 71, 72, 73, 74, 75, 76])
def wX_kindAt : List Nat × List Nat × List Nat := ([], [], [])
def wX_know : List Nat × List Nat × List Nat := ([], [], [82])
def wX_hasUnknown : List Nat × List Nat × List Nat := ([], [], [])
def wX_needs : List Nat × List Nat × List Nat := ([18, 19, 20], [], [])
def wX_layCondition : List Nat × List Nat × List Nat := ([18, 19, 20, 82, 89, 90, 92, 93, 102, 106, 1006], [], [59, 60, 61, 62, 63, 64, 65, 66, 67, 68, 69, 70, 71, 72, 73, 74, 75, 76, 80, 81, 82])
def wX_layStatement : List Nat × List Nat × List Nat := ([18, 19, 20, 82, 89, 90, 92, 93, 102, 106, 1006], [], [59, 60, 61, 62, 63, 64, 65, 66, 67, 68, 69, 70, 71, 72, 73, 74, 75, 76, 78, 79, 80, 81, 82])
def wX_layDeclared : List Nat × List Nat × List Nat := ([11, 12, 18, 19, 20, 61, 63], [], [6, 7, 8, 38, 39, 40, 41, 42, 43, 44, 45, 46, 47, 48, 49, 50, 51, 52, 53, 54, 55, 56, 57, 58])
def wX_module : List Nat × List Nat × List Nat := ([2, 4, 5, 11, 12, 15, 16, 17, 18, 19, 20, 21, 22, 24, 29, 39, 42, 43, 44, 58, 61, 63, 82, 89, 90, 92, 93, 94, 102, 103, 106, 111, 151, 152, 153, 162, 1006], [], [1, 2, 3, 4, 5, 6, 7, 8, 9, 10, 11, 12, 13, 14, 15, 16, 17, 18, 19, 20, 21, 22, 23, 24, 25, 26, 27, 28, 29, 30, 31, 32, 33, 34, 35, 36, 37, 38, 39, 40, 41, 42, 43, 44, 45, 46, 47, 48, 49, 50, 51, 52, 53, 54, 55, 56, 57, 58, 59, 60, 61, 62, 63, 64, 65, 66, 67, 68, 69, 70, 71, 72, 73, 74, 75, 76, 78, 79, 80, 81, 82])
def wX_hasAssoc : List Nat × List Nat × List Nat := ([], [], [])
def wX_isWide : List Nat × List Nat × List Nat := ([], [], [])
def wX_longest : List Nat × List Nat × List Nat := ([], [], [])
def wX_waysToDeal : List Nat × List Nat × List Nat := ([], [], [])
def wX_deals : List Nat × List Nat × List Nat := ([], [], [])
def wX_goal : List Nat × List Nat × List Nat := ([121], [], [84, 85])
def wX_restAt : List Nat × List Nat × List Nat := ([], [], [])
def wX_restMany : List Nat × List Nat × List Nat := ([], [], [])
def wX_compareRest : List Nat × List Nat × List Nat := ([], [], [])
def wX_compareMatchers : List Nat × List Nat × List Nat := ([], [], [])
def wX_list : List Nat × List Nat × List Nat := ([124, 1006], [], [86])
def wX_newShare : List Nat × List Nat × List Nat := ([138], [], [88, 89, 90])
def wX_solve : List Nat × List Nat × List Nat := ([93, 102, 106, 121, 124, 134, 138, 1006], [], [66, 67, 68, 69, 70, 71, 72, 73, 74, 75, 76, 83, 84, 85, 86, 87, 88, 89, 90])
def wX_solveVariable : List Nat × List Nat × List Nat := ([93, 102, 106, 121, 124, 134, 138, 1006], [], [66, 67, 68, 69, 70, 71, 72, 73, 74, 75, 76, 83, 84, 85, 86, 87, 88, 89, 90])
def wX_solvePair : List Nat × List Nat × List Nat := ([93, 102, 106, 121, 124, 134, 138, 1006], [], [66, 67, 68, 69, 70, 71, 72, 73, 74, 75, 76, 83, 84, 85, 86, 87, 88, 89, 90])
def wX_solveTwo : List Nat × List Nat × List Nat := ([93, 102, 106, 121, 124, 134, 138, 1006], [], [66, 67, 68, 69, 70, 71, 72, 73, 74, 75, 76, 83, 84, 85, 86, 87, 88, 89, 90])
def wX_solveAssoc : List Nat × List Nat × List Nat := ([93, 102, 106, 121, 124, 134, 138, 1006], [], [66, 67, 68, 69, 70, 71, 72, 73, 74, 75, 76, 83, 84, 85, 86, 87, 88, 89, 90])
def wX_share : List Nat × List Nat × List Nat := ([93, 102, 106, 121, 124, 134, 138, 1006], [], [66, 67, 68, 69, 70, 71, 72, 73, 74, 75, 76, 83, 84, 85, 86, 87, 88, 89, 90])
def wX_shareOne : List Nat × List Nat × List Nat := ([93, 102, 106, 121, 124, 134, 138, 1006], [], [66, 67, 68, 69, 70, 71, 72, 73, 74, 75, 76, 83, 84, 85, 86, 87, 88, 89, 90])
def wX_matchPart : List Nat × List Nat × List Nat := ([93, 102, 106, 121, 124, 134, 138, 1006], [], [66, 67, 68, 69, 70, 71, 72, 73, 74, 75, 76, 83, 84, 85, 86, 87, 88, 89, 90])
def wX_some : List Nat × List Nat × List Nat := ([93, 102, 106, 1006], [], [66, 67, 68, 69, 70, 71, 72, 73, 74, 75, 76])
def wX_matchBag : List Nat × List Nat × List Nat := ([93, 102, 106, 121, 124, 126, 134, 138, 1006], [], [66, 67, 68, 69, 70, 71, 72, 73, 74, 75, 76, 83, 84, 85, 86, 87, 88, 89, 90])
def wX_span : List Nat × List Nat × List Nat := ([93, 102, 106, 1006], [], [66, 67, 68, 69, 70, 71, 72, 73, 74, 75, 76])
def wX_matchRow : List Nat × List Nat × List Nat := ([93, 102, 106, 121, 124, 125, 126, 134, 138, 1006], [], [66, 67, 68, 69, 70, 71, 72, 73, 74, 75, 76, 83, 84, 85, 86, 87, 88, 89, 90])
def wX_matchers : List Nat × List Nat × List Nat := ([93, 102, 106, 121, 124, 125, 126, 127, 128, 134, 138, 1006], [129], [66, 67, 68, 69, 70, 71, 72, 73, 74, 75, 76, 83, 84, 85, 86, 87, 88, 89, 90])
def wX_takeRow : List Nat × List Nat × List Nat := ([], [], [83])
def wX_unbind : List Nat × List Nat × List Nat := ([], [], [83])
def wX_filled : List Nat × List Nat × List Nat := ([93, 102, 106, 1006], [], [66, 67, 68, 69, 70, 71, 72, 73, 74, 75, 76])
def wX_came : List Nat × List Nat × List Nat := ([], [], [])
def wX_countStep : List Nat × List Nat × List Nat := ([131, 1006], [], [])
def wX_beside : List Nat × List Nat × List Nat := ([93, 102, 106, 1006], [], [66, 67, 68, 69, 70, 71, 72, 73, 74, 75, 76])
def wX_countFilled : List Nat × List Nat × List Nat := ([132, 1006], [], [])
def wX_keepBound : List Nat × List Nat × List Nat := ([143], [], [92])
def wX_takeBound : List Nat × List Nat × List Nat := ([143], [], [83])
def wX_toRest : List Nat × List Nat × List Nat := ([93, 102, 106, 121, 123, 124, 125, 126, 127, 128, 131, 132, 134, 138, 139, 141, 143, 1006], [129], [66, 67, 68, 69, 70, 71, 72, 73, 74, 75, 76, 83, 84, 85, 86, 87, 88, 89, 90, 91, 92])
def wX_reduceRow : List Nat × List Nat × List Nat := ([93, 102, 106, 121, 123, 124, 125, 126, 127, 128, 131, 132, 134, 138, 139, 141, 143, 1006], [129], [66, 67, 68, 69, 70, 71, 72, 73, 74, 75, 76, 83, 84, 85, 86, 87, 88, 89, 90, 91, 92])
def wX_tryEquations : List Nat × List Nat × List Nat := ([93, 102, 106, 121, 123, 124, 125, 126, 127, 128, 131, 132, 134, 138, 139, 141, 143, 1006], [129], [66, 67, 68, 69, 70, 71, 72, 73, 74, 75, 76, 83, 84, 85, 86, 87, 88, 89, 90, 91, 92])
def wX_tryOne : List Nat × List Nat × List Nat := ([93, 102, 106, 121, 123, 124, 125, 126, 127, 128, 131, 132, 134, 138, 139, 141, 143, 1006], [129], [66, 67, 68, 69, 70, 71, 72, 73, 74, 75, 76, 83, 84, 85, 86, 87, 88, 89, 90, 91, 92])
def wX_holds : List Nat × List Nat × List Nat := ([93, 102, 106, 121, 123, 124, 125, 126, 127, 128, 131, 132, 134, 138, 139, 141, 143, 1006], [129], [66, 67, 68, 69, 70, 71, 72, 73, 74, 75, 76, 83, 84, 85, 86, 87, 88, 89, 90, 91, 92])
def wX_reduced : List Nat × List Nat × List Nat := ([93, 102, 106, 121, 123, 124, 125, 126, 127, 128, 131, 132, 134, 138, 139, 141, 143, 1006], [129], [66, 67, 68, 69, 70, 71, 72, 73, 74, 75, 76, 83, 84, 85, 86, 87, 88, 89, 90, 91, 92])
def wX_isTrue : List Nat × List Nat × List Nat := ([93, 102, 106, 121, 123, 124, 125, 126, 127, 128, 131, 132, 134, 138, 139, 141, 143, 1006], [129], [66, 67, 68, 69, 70, 71, 72, 73, 74, 75, 76, 83, 84, 85, 86, 87, 88, 89, 90, 91, 92])
def wX_matchCondition : List Nat × List Nat × List Nat := ([93, 102, 106, 121, 123, 124, 125, 126, 127, 128, 131, 132, 134, 138, 139, 141, 143, 1006], [129], [66, 67, 68, 69, 70, 71, 72, 73, 74, 75, 76, 83, 84, 85, 86, 87, 88, 89, 90, 91, 92])
def wX_found : List Nat × List Nat × List Nat := ([93, 102, 106, 121, 123, 124, 125, 126, 127, 128, 131, 132, 134, 138, 139, 141, 143, 146, 1006], [129], [66, 67, 68, 69, 70, 71, 72, 73, 74, 75, 76, 83, 84, 85, 86, 87, 88, 89, 90, 91, 92, 93, 94])
def wX_allWays : List Nat × List Nat × List Nat := ([93, 102, 106, 121, 123, 124, 125, 126, 127, 128, 131, 132, 134, 138, 139, 141, 143, 146, 1006], [129], [66, 67, 68, 69, 70, 71, 72, 73, 74, 75, 76, 83, 84, 85, 86, 87, 88, 89, 90, 91, 92, 93, 94])
def wX_applyRule : List Nat × List Nat × List Nat := ([93, 102, 106, 121, 123, 124, 125, 126, 127, 128, 131, 132, 134, 138, 139, 141, 143, 146, 1006], [129], [66, 67, 68, 69, 70, 71, 72, 73, 74, 75, 76, 83, 84, 85, 86, 87, 88, 89, 90, 91, 92, 93, 94])
def wX_rulesAt : List Nat × List Nat × List Nat := ([93, 102, 106, 121, 123, 124, 125, 126, 127, 128, 131, 132, 134, 138, 139, 141, 143, 146, 149, 1006], [129], [66, 67, 68, 69, 70, 71, 72, 73, 74, 75, 76, 83, 84, 85, 86, 87, 88, 89, 90, 91, 92, 93, 94, 95, 96])
def wX_rulesOf : List Nat × List Nat × List Nat := ([93, 102, 106, 121, 123, 124, 125, 126, 127, 128, 131, 132, 134, 138, 139, 141, 143, 146, 149, 150, 1006], [129], [66, 67, 68, 69, 70, 71, 72, 73, 74, 75, 76, 83, 84, 85, 86, 87, 88, 89, 90, 91, 92, 93, 94, 95, 96])
def wX_begin : List Nat × List Nat × List Nat := ([93, 102, 106, 121, 123, 128, 131, 132, 134, 138, 139, 141, 143], [129, 130], [72, 74, 75, 83])
def wX_stopped : List Nat × List Nat × List Nat := ([151], [], [])
def wX_madeOf : List Nat × List Nat × List Nat := ([93, 102, 106, 1006], [], [66, 67, 68, 69, 70, 71, 72, 73, 74, 75, 76])
def wX_term : List Nat × List Nat × List Nat := ([2, 4, 5, 11, 12, 17, 18, 19, 20, 21, 82, 89, 90, 92, 93, 102, 106, 109, 111, 121, 123, 128, 131, 132, 134, 138, 139, 141, 143, 1006], [129, 130], [1, 2, 3, 4, 5, 6, 7, 8, 59, 60, 61, 62, 63, 64, 65, 66, 67, 68, 69, 70, 71, 72, 73, 74, 75, 76, 77, 83])
def wX_fault : List Nat × List Nat × List Nat := ([], [], [])
def wX_count : List Nat × List Nat × List Nat := ([], [], [])
def wX_about : List Nat × List Nat × List Nat := ([93, 102, 106, 110, 121, 123, 128, 131, 132, 134, 138, 139, 141, 143, 1006], [129, 130], [66, 67, 68, 69, 70, 71, 72, 73, 74, 75, 76, 83])
def wX_part : List Nat × List Nat × List Nat := ([93, 102, 106, 109, 110, 111, 121, 123, 128, 131, 132, 134, 138, 139, 141, 143, 1006], [129, 130], [66, 67, 68, 69, 70, 71, 72, 73, 74, 75, 76, 77, 83])
def wX_order : List Nat × List Nat × List Nat := ([93, 102, 106, 110, 121, 123, 128, 131, 132, 134, 138, 139, 141, 143, 1006], [129, 130], [66, 67, 68, 69, 70, 71, 72, 73, 74, 75, 76, 83])
def wX_forget : List Nat × List Nat × List Nat := ([111], [], [])
def wX_printByte : List Nat × List Nat × List Nat := ([163, 165], [], [])
def wX_printWord : List Nat × List Nat × List Nat := ([163, 165], [], [])
def wX_printSign : List Nat × List Nat × List Nat := ([163, 165], [], [])
def wX_printTerm : List Nat × List Nat × List Nat := ([163, 165], [], [])
def wX_print : List Nat × List Nat × List Nat := ([93, 102, 106, 110, 121, 123, 128, 131, 132, 134, 138, 139, 141, 143, 163, 164, 165, 1006], [129, 130], [66, 67, 68, 69, 70, 71, 72, 73, 74, 75, 76, 83])
def wX_isSort : List Nat × List Nat × List Nat := ([], [], [])
def wX_below : List Nat × List Nat × List Nat := ([], [], [])
def wX_kind : List Nat × List Nat × List Nat := ([], [], [])
def wX_rowsOf : List Nat × List Nat × List Nat := ([], [], [])
def wX_operator : List Nat × List Nat × List Nat := ([], [], [])
def wX_match : List Nat × List Nat × List Nat := ([93, 102, 106, 109, 110, 121, 123, 124, 125, 126, 127, 128, 131, 132, 134, 138, 139, 141, 143, 151, 152, 153, 161, 1006], [129, 130], [66, 67, 68, 69, 70, 71, 72, 73, 74, 75, 76, 83, 84, 85, 86, 87, 88, 89, 90, 103])
def wX_bound : List Nat × List Nat × List Nat := ([93, 102, 106, 109, 110, 111, 121, 123, 124, 125, 126, 127, 128, 131, 132, 134, 138, 139, 141, 143, 1006], [129, 130], [66, 67, 68, 69, 70, 71, 72, 73, 74, 75, 76, 77, 83, 84, 85, 86, 87, 88, 89, 90])
def wX_tellSteps : List Nat × List Nat × List Nat := ([162], [], [])
def wX_reduce : List Nat × List Nat × List Nat := ([93, 102, 106, 109, 110, 111, 121, 123, 124, 125, 126, 127, 128, 131, 132, 134, 138, 139, 141, 143, 151, 162, 1006], [129, 130], [66, 67, 68, 69, 70, 71, 72, 73, 74, 75, 76, 77, 83, 84, 85, 86, 87, 88, 89, 90, 91, 92])
def wX_keepResults : List Nat × List Nat × List Nat := ([152, 153], [], [])
def wX_steps : List Nat × List Nat × List Nat := ([93, 102, 106, 109, 110, 121, 123, 124, 125, 126, 127, 128, 131, 132, 134, 138, 139, 141, 143, 146, 149, 150, 151, 152, 153, 162, 166, 1006], [129, 130], [66, 67, 68, 69, 70, 71, 72, 73, 74, 75, 76, 83, 84, 85, 86, 87, 88, 89, 90, 91, 92, 93, 94, 95, 96, 97, 99])
def wX_result : List Nat × List Nat × List Nat := ([93, 102, 106, 109, 110, 111, 121, 123, 128, 131, 132, 134, 138, 139, 141, 143, 1006], [129, 130], [66, 67, 68, 69, 70, 71, 72, 73, 74, 75, 76, 77, 83])
def wX_way : List Nat × List Nat × List Nat := ([], [], [])
def wX_findStates : List Nat × List Nat × List Nat := ([93, 102, 106, 121, 123, 124, 125, 126, 127, 128, 131, 132, 134, 138, 139, 141, 143, 146, 149, 150, 1006], [129], [66, 67, 68, 69, 70, 71, 72, 73, 74, 75, 76, 83, 84, 85, 86, 87, 88, 89, 90, 91, 92, 93, 94, 95, 96, 104, 105, 106, 107, 108, 109])
def wX_states : List Nat × List Nat × List Nat := ([93, 102, 106, 109, 110, 121, 123, 124, 125, 126, 127, 128, 131, 132, 134, 138, 139, 141, 143, 146, 149, 150, 151, 152, 153, 162, 1006], [129, 130], [66, 67, 68, 69, 70, 71, 72, 73, 74, 75, 76, 83, 84, 85, 86, 87, 88, 89, 90, 91, 92, 93, 94, 95, 96, 97, 98, 99, 100, 101, 102, 104, 105, 106, 107, 108, 109])
def wX_isPattern : List Nat × List Nat × List Nat := ([93, 102, 106, 110, 121, 124, 125, 126, 127, 128, 134, 138, 1006], [129], [66, 67, 68, 69, 70, 71, 72, 73, 74, 75, 76, 83, 84, 85, 86, 87, 88, 89, 90])
def wX_search : List Nat × List Nat × List Nat := ([93, 102, 106, 110, 121, 123, 124, 125, 126, 127, 128, 131, 132, 134, 138, 139, 141, 143, 151, 1006], [129, 130], [66, 67, 68, 69, 70, 71, 72, 73, 74, 75, 76, 83, 84, 85, 86, 87, 88, 89, 90])
def wX_escapes : List Nat × List Nat × List Nat := ([], [], [112, 113, 114])
def wX_law : List Nat × List Nat × List Nat := ([93, 102, 106, 110, 121, 123, 124, 125, 126, 127, 128, 131, 132, 134, 138, 139, 141, 143, 151, 1006], [129, 130], [66, 67, 68, 69, 70, 71, 72, 73, 74, 75, 76, 83, 84, 85, 86, 87, 88, 89, 90, 110, 111, 112, 113, 114])
def wX_zNode : List Nat × List Nat × List Nat := ([181], [], [115, 116, 117])
def wX_bad : List Nat × List Nat × List Nat := ([18, 19, 20], [], [])
def wX_readChoice : List Nat × List Nat × List Nat := ([17, 18, 19, 20, 181], [], [115, 116, 117])
def wX_readThen : List Nat × List Nat × List Nat := ([17, 18, 19, 20, 181], [], [115, 116, 117])
def wX_readMany : List Nat × List Nat × List Nat := ([17, 18, 19, 20, 181], [], [115, 116, 117])
def wX_readOne : List Nat × List Nat × List Nat := ([17, 18, 19, 20, 181], [], [115, 116, 117])
def wX_readBracket : List Nat × List Nat × List Nat := ([17, 18, 19, 20, 181], [], [115, 116, 117])
def wX_addAnswer : List Nat × List Nat × List Nat := ([1006], [], [118])
def wX_join : List Nat × List Nat × List Nat := ([1006], [], [118])
def wX_answers : List Nat × List Nat × List Nat := ([93, 102, 106, 121, 123, 124, 125, 126, 127, 128, 131, 132, 134, 138, 139, 141, 143, 146, 149, 150, 1006], [129], [66, 67, 68, 69, 70, 71, 72, 73, 74, 75, 76, 83, 84, 85, 86, 87, 88, 89, 90, 91, 92, 93, 94, 95, 96, 118])
def wX_answersThen : List Nat × List Nat × List Nat := ([93, 102, 106, 121, 123, 124, 125, 126, 127, 128, 131, 132, 134, 138, 139, 141, 143, 146, 149, 150, 1006], [129], [66, 67, 68, 69, 70, 71, 72, 73, 74, 75, 76, 83, 84, 85, 86, 87, 88, 89, 90, 91, 92, 93, 94, 95, 96, 118])
def wX_answersMany : List Nat × List Nat × List Nat := ([93, 102, 106, 121, 123, 124, 125, 126, 127, 128, 131, 132, 134, 138, 139, 141, 143, 146, 149, 150, 1006], [129], [66, 67, 68, 69, 70, 71, 72, 73, 74, 75, 76, 83, 84, 85, 86, 87, 88, 89, 90, 91, 92, 93, 94, 95, 96, 118])
def wX_strategy : List Nat × List Nat × List Nat := ([2, 4, 5, 11, 12, 17, 18, 19, 20, 21, 93, 102, 106, 109, 110, 121, 123, 124, 125, 126, 127, 128, 131, 132, 134, 138, 139, 141, 143, 146, 149, 150, 151, 152, 153, 162, 166, 181, 1006], [129, 130], [1, 2, 3, 4, 5, 6, 7, 8, 66, 67, 68, 69, 70, 71, 72, 73, 74, 75, 76, 83, 84, 85, 86, 87, 88, 89, 90, 91, 92, 93, 94, 95, 96, 97, 115, 116, 117, 118])
def wX_hasRow : List Nat × List Nat × List Nat := ([], [], [])
def wX_joined : List Nat × List Nat × List Nat := ([], [], [76])
def wX_isOneJoined : List Nat × List Nat × List Nat := ([184], [], [76, 119])
def wX_nextSort : List Nat × List Nat × List Nat := ([], [], [])
def wX_isOneLeast : List Nat × List Nat × List Nat := ([184], [], [76, 119])
def wX_allOneLeast : List Nat × List Nat × List Nat := ([184], [], [76, 119])
def wX_countIn : List Nat × List Nat × List Nat := ([], [], [])
def wX_isLeft : List Nat × List Nat × List Nat := ([], [], [])
def wX_isAbove : List Nat × List Nat × List Nat := ([188], [], [120, 121, 122])
def wX_isAboveRow : List Nat × List Nat × List Nat := ([188], [], [120, 121, 122])
def wX_isAboveBag : List Nat × List Nat × List Nat := ([188], [], [120, 121, 122])
def wX_isAboveAnew : List Nat × List Nat × List Nat := ([188], [], [120, 121, 122])
def wX_falls : List Nat × List Nat × List Nat := ([188], [], [120, 121, 122])
def wX_firstNotFalling : List Nat × List Nat × List Nat := ([188], [], [120, 121, 122])
def wX_check : List Nat × List Nat × List Nat := ([93, 102, 106, 121, 123, 128, 131, 132, 134, 138, 139, 141, 143, 184, 188], [129, 130], [72, 74, 75, 76, 83, 119, 120, 121, 122])
def wX_witness : List Nat × List Nat × List Nat := ([93, 102, 106, 121, 123, 128, 131, 132, 134, 138, 139, 141, 143, 184, 188], [129, 130], [72, 74, 75, 76, 83, 119, 120, 121, 122])
def wX_countWay : List Nat × List Nat × List Nat := ([1006], [], [])
def wX_open : List Nat × List Nat × List Nat := ([192, 1006], [], [])
def wX_dropTo : List Nat × List Nat × List Nat := ([93, 102], [], [72, 74])
def wX_apart : List Nat × List Nat × List Nat := ([93, 102, 106, 1006], [], [66, 67, 68, 69, 70, 71, 72, 73, 74, 75, 76])
def wX_walk : List Nat × List Nat × List Nat := ([], [], [])
def wX_given : List Nat × List Nat × List Nat := ([93, 102, 106, 1006], [], [66, 67, 68, 69, 70, 71, 72, 73, 74, 75, 76])
def wX_occurs : List Nat × List Nat × List Nat := ([], [], [])
def wX_hasRowBelow : List Nat × List Nat × List Nat := ([], [], [])
def wX_hasSortBelow : List Nat × List Nat × List Nat := ([], [], [])
def wX_leftWith : List Nat × List Nat × List Nat := ([93, 102, 106, 1006], [], [66, 67, 68, 69, 70, 71, 72, 73, 74, 75, 76])
def wX_meet : List Nat × List Nat × List Nat := ([93, 102, 106, 109, 121, 123, 124, 125, 126, 127, 128, 131, 132, 134, 138, 139, 141, 143, 190, 191, 195, 196, 1006], [129], [66, 67, 68, 69, 70, 71, 72, 73, 74, 75, 76, 83, 84, 85, 86, 87, 88, 89, 90, 91, 92, 124])
def wX_unify : List Nat × List Nat × List Nat := ([93, 102, 106, 109, 121, 123, 124, 125, 126, 127, 128, 131, 132, 134, 138, 139, 141, 143, 190, 191, 192, 195, 196, 199, 1006], [129], [66, 67, 68, 69, 70, 71, 72, 73, 74, 75, 76, 83, 84, 85, 86, 87, 88, 89, 90, 91, 92, 123, 124])
def wX_unifyRows : List Nat × List Nat × List Nat := ([93, 102, 106, 109, 121, 123, 124, 125, 126, 127, 128, 131, 132, 134, 138, 139, 141, 143, 190, 191, 192, 195, 196, 199, 1006], [129], [66, 67, 68, 69, 70, 71, 72, 73, 74, 75, 76, 83, 84, 85, 86, 87, 88, 89, 90, 91, 92, 123, 124])
def wX_give : List Nat × List Nat × List Nat := ([93, 102, 106, 109, 121, 123, 124, 125, 126, 127, 128, 131, 132, 134, 138, 139, 141, 143, 190, 191, 192, 195, 196, 199, 1006], [129], [66, 67, 68, 69, 70, 71, 72, 73, 74, 75, 76, 83, 84, 85, 86, 87, 88, 89, 90, 91, 92, 123, 124])
def wX_unifyVariables : List Nat × List Nat × List Nat := ([93, 102, 106, 109, 121, 123, 124, 125, 126, 127, 128, 131, 132, 134, 138, 139, 141, 143, 190, 191, 192, 195, 196, 199, 1006], [129], [66, 67, 68, 69, 70, 71, 72, 73, 74, 75, 76, 83, 84, 85, 86, 87, 88, 89, 90, 91, 92, 123, 124])
def wX_unifyVariable : List Nat × List Nat × List Nat := ([93, 102, 106, 109, 121, 123, 124, 125, 126, 127, 128, 131, 132, 134, 138, 139, 141, 143, 190, 191, 192, 195, 196, 199, 1006], [129], [66, 67, 68, 69, 70, 71, 72, 73, 74, 75, 76, 83, 84, 85, 86, 87, 88, 89, 90, 91, 92, 123, 124])
def wX_hasAxiom : List Nat × List Nat × List Nat := ([], [], [])
def wX_mayPair : List Nat × List Nat × List Nat := ([], [], [])
def wX_hasComm : List Nat × List Nat × List Nat := ([], [], [])
def wX_layPairsAt : List Nat × List Nat × List Nat := ([93, 102, 106, 109, 121, 123, 124, 125, 126, 127, 128, 131, 132, 134, 138, 139, 141, 143, 149, 190, 191, 192, 195, 196, 197, 199, 1006], [129], [66, 67, 68, 69, 70, 71, 72, 73, 74, 75, 76, 83, 84, 85, 86, 87, 88, 89, 90, 91, 92, 95, 96, 123, 124])
def wX_layPairs : List Nat × List Nat × List Nat := ([93, 102, 106, 109, 121, 123, 124, 125, 126, 127, 128, 131, 132, 134, 138, 139, 141, 143, 149, 190, 191, 192, 193, 195, 196, 197, 198, 199, 200, 201, 1006], [129, 130], [66, 67, 68, 69, 70, 71, 72, 73, 74, 75, 76, 83, 84, 85, 86, 87, 88, 89, 90, 91, 92, 95, 96, 123, 124])
def wX_pairs : List Nat × List Nat × List Nat := ([93, 102, 106, 109, 121, 123, 124, 125, 126, 127, 128, 131, 132, 134, 138, 139, 141, 143, 149, 151, 190, 191, 192, 193, 195, 196, 197, 198, 199, 200, 201, 1006], [129, 130], [66, 67, 68, 69, 70, 71, 72, 73, 74, 75, 76, 83, 84, 85, 86, 87, 88, 89, 90, 91, 92, 95, 96, 123, 124])
def wX_pair : List Nat × List Nat × List Nat := ([93, 102, 106, 109, 110, 111, 121, 123, 124, 125, 126, 127, 128, 131, 132, 134, 138, 139, 141, 143, 149, 151, 190, 191, 192, 193, 195, 196, 197, 198, 199, 200, 201, 1006], [129, 130], [66, 67, 68, 69, 70, 71, 72, 73, 74, 75, 76, 77, 83, 84, 85, 86, 87, 88, 89, 90, 91, 92, 95, 96, 123, 124])
theorem fm_x_stop {v1 : Int} {σ0 : S} {Q Q2 : Int → S → Prop} (h : x_stop v1 σ0 Q) (kQ : ∀ r s, Fr wX_stop σ0 s → Q r s → Q2 r s) : x_stop v1 σ0 Q2 := by
  have fr : Fr wX_stop σ0 σ0 := Fr.rf
  unfold x_stop at h ⊢
  exact fun σ_1 e0 => (have f0 : Fr wX_stop σ0 σ_1 := Fr.putI fr e0 rfl; kQ _ _ f0 (h σ_1 e0))
theorem fm_x_within {v0 : Int} {v1 : Int} {v2 : Int} {σ0 : S} {Q Q2 : Int → S → Prop} (h : x_within v0 v1 v2 σ0 Q) (kQ : ∀ r s, Fr wX_within σ0 s → Q r s → Q2 r s) : x_within v0 v1 v2 σ0 Q2 := by
  have fr : Fr wX_within σ0 σ0 := Fr.rf
  unfold x_within at h ⊢
  exact kQ _ _ fr h
theorem fx_feed_L19_b {v1 : Int} {v2 : Int} {v3 : Int} {v4 : Int} {v5 : Int} {v6 : Int} {σ0 σ : S} {Q Q2 : Int → S → Prop} {X19 X192 : Int → S → Prop} (fr : Fr wX_feed σ0 σ) (h : (if v6 < 20 then ∀ σ_15, σ_15 = pI σ 2 (w32 (gI σ 2 + 1)) → inb (gI σ 2) 6000 ∧ ∀ σ_17, σ_17 = pA σ_15 0 (gI σ 2) (b8 (bShr (if v6 < 4 then v1 else (if v6 < 8 then v2 else (if v6 < 12 then v3 else (if v6 < 16 then v4 else v5)))) (w32 (24 - (w32 (8 * (Int.tmod v6 4))))))) → X19 (w32 (v6 + 1)) σ_17 else Q (gI σ 2) σ)) (kQ : ∀ r s, Fr wX_feed σ0 s → Q r s → Q2 r s) (kX19 : ∀ v6 s, Fr wX_feed σ0 s → X19 v6 s → X192 v6 s) : (if v6 < 20 then ∀ σ_15, σ_15 = pI σ 2 (w32 (gI σ 2 + 1)) → inb (gI σ 2) 6000 ∧ ∀ σ_17, σ_17 = pA σ_15 0 (gI σ 2) (b8 (bShr (if v6 < 4 then v1 else (if v6 < 8 then v2 else (if v6 < 12 then v3 else (if v6 < 16 then v4 else v5)))) (w32 (24 - (w32 (8 * (Int.tmod v6 4))))))) → X192 (w32 (v6 + 1)) σ_17 else Q2 (gI σ 2) σ) :=
  ite_m (fun _ h0 => fun σ_15 e1 => (have f1 : Fr wX_feed σ0 σ_15 := Fr.putI fr e1 rfl; ⟨(h0 σ_15 e1).1, fun σ_17 e3 => (have f3 : Fr wX_feed σ0 σ_17 := Fr.putA f1 e3 rfl; kX19 _ _ f3 ((h0 σ_15 e1).2 σ_17 e3))⟩)) (fun _ h0 => kQ _ _ fr h0) h
theorem fx_feed_L19 {v1 : Int} {v2 : Int} {v3 : Int} {v4 : Int} {v5 : Int} {v6 : Int} {σ0 σ : S} {Q Q2 : Int → S → Prop} (fr : Fr wX_feed σ0 σ) (h : x_feed_L19 v1 v2 v3 v4 v5 v6 σ Q) (kQ : ∀ r s, Fr wX_feed σ0 s → Q r s → Q2 r s) : x_feed_L19 v1 v2 v3 v4 v5 v6 σ Q2 := by
  unfold x_feed_L19 at h ⊢
  intro Y hY
  exact h (fun v6 s => Fr wX_feed σ0 s → Y v6 s) (fun v6 s h f => hY v6 s (fx_feed_L19_b (v1 := v1) (v2 := v2) (v3 := v3) (v4 := v4) (v5 := v5) (v6 := v6) (Q := Q) (Q2 := Q2) (X19 := fun v6 s => Fr wX_feed σ0 s → Y v6 s) (X192 := Y) f h kQ (fun v6 s f h => h f))) fr
theorem lx_feed_L19 {v1 : Int} {v2 : Int} {v3 : Int} {v4 : Int} {v5 : Int} {v6 : Int} {σ0 : S} {Q : Int → S → Prop} (I : Int → S → Prop) (me : Int → S → Nat) (h0 : I v6 σ0) (step : ∀ (v6 : Int) (s : S), Fr wX_feed σ0 s → I v6 s → (fun (Y0 : Int → S → Prop) => (if v6 < 20 then ∀ σ_15, σ_15 = pI s 2 (w32 (gI s 2 + 1)) → inb (gI s 2) 6000 ∧ ∀ σ_17, σ_17 = pA σ_15 0 (gI s 2) (b8 (bShr (if v6 < 4 then v1 else (if v6 < 8 then v2 else (if v6 < 12 then v3 else (if v6 < 16 then v4 else v5)))) (w32 (24 - (w32 (8 * (Int.tmod v6 4))))))) → Y0 (w32 (v6 + 1)) σ_17 else Q (gI s 2) s)) (fun v6' s' => I v6' s' ∧ me v6' s' < me v6 s)) : x_feed_L19 v1 v2 v3 v4 v5 v6 σ0 Q := by
  unfold x_feed_L19
  intro Y hY
  have key : ∀ (n : Nat) (v6 : Int) (s : S), me v6 s < n → Fr wX_feed σ0 s → I v6 s → Y v6 s := by
    intro n
    induction n with
    | zero => intro v6 s h; exact absurd h (Nat.not_lt_zero _)
    | succ n ih =>
      intro v6 s hm fr hi
      exact hY v6 s (fx_feed_L19_b (v1 := v1) (v2 := v2) (v3 := v3) (v4 := v4) (v5 := v5) (v6 := v6) (Q := Q) (Q2 := Q) (X19 := (fun v6' s' => I v6' s' ∧ me v6' s' < me v6 s)) (X192 := Y) fr (step v6 s fr hi) (fun _ _ _ h => h) (fun v6 s f h => ih v6 s (by omega) f h.1))
  exact key _ v6 σ0 (Nat.lt_succ_self _) Fr.rf h0
theorem fm_x_feed {v1 : Int} {v2 : Int} {v3 : Int} {v4 : Int} {v5 : Int} {σ0 : S} {Q Q2 : Int → S → Prop} (h : x_feed v1 v2 v3 v4 v5 σ0 Q) (kQ : ∀ r s, Fr wX_feed σ0 s → Q r s → Q2 r s) : x_feed v1 v2 v3 v4 v5 σ0 Q2 := by
  have fr : Fr wX_feed σ0 σ0 := Fr.rf
  unfold x_feed at h ⊢
  exact ite_m (fun _ h0 => fx_feed_L19 fr h0 kQ) (fun _ h0 => kQ _ _ fr h0) h
theorem fm_x_end {v1 : Int} {σ0 : S} {Q Q2 : Int → S → Prop} (h : x_end v1 σ0 Q) (kQ : ∀ r s, Fr wX_end σ0 s → Q r s → Q2 r s) : x_end v1 σ0 Q2 := by
  have fr : Fr wX_end σ0 σ0 := Fr.rf
  unfold x_end at h ⊢
  exact fm_x_within h (fun r_2 σ_1 f h0 => (have f0 : Fr wX_end σ0 σ_1 := (fr.trans (f.weak (by decide +kernel))); ite_m (fun _ h1 => kQ _ _ f0 h1) (fun _ h1 => fun σ_7 e2 => (have f2 : Fr wX_end σ0 σ_7 := Fr.putI f0 e2 rfl; kQ _ _ f2 (h1 σ_7 e2))) h0))
theorem fx_takeTape_j36 {σ0 σ : S} {Q Q2 : Int → S → Prop} (fr : Fr wX_takeTape σ0 σ) (h : x_takeTape_j36  σ Q) (kQ : ∀ r s, Fr wX_takeTape σ0 s → Q r s → Q2 r s) : x_takeTape_j36  σ Q2 := by
  unfold x_takeTape_j36 at h ⊢
  exact fun σ_7 e0 => (have f0 : Fr wX_takeTape σ0 σ_7 := Fr.putI fr e0 rfl; fun σ_9 e1 => (have f1 : Fr wX_takeTape σ0 σ_9 := Fr.putI f0 e1 rfl; fun σ_11 e2 => (have f2 : Fr wX_takeTape σ0 σ_11 := Fr.putI f1 e2 rfl; fun σ_13 e3 => (have f3 : Fr wX_takeTape σ0 σ_13 := Fr.putI f2 e3 rfl; fun σ_15 e4 => (have f4 : Fr wX_takeTape σ0 σ_15 := Fr.putI f3 e4 rfl; kQ _ _ f4 (((((h σ_7 e0) σ_9 e1) σ_11 e2) σ_13 e3) σ_15 e4))))))
theorem fx_takeTape_L10_b {v1 : Int} {σ0 σ : S} {Q Q2 : Int → S → Prop} {X10 X102 : Int → S → Prop} (fr : Fr wX_takeTape σ0 σ) (h : (if v1 < gI σ 4 then inb v1 6000 ∧ inb v1 6000 ∧ ∀ σ_19, σ_19 = pA σ 1 v1 (gA σ 0 v1) → X10 (w32 (v1 + 1)) σ_19 else x_takeTape_j36 σ Q)) (kQ : ∀ r s, Fr wX_takeTape σ0 s → Q r s → Q2 r s) (kX10 : ∀ v1 s, Fr wX_takeTape σ0 s → X10 v1 s → X102 v1 s) : (if v1 < gI σ 4 then inb v1 6000 ∧ inb v1 6000 ∧ ∀ σ_19, σ_19 = pA σ 1 v1 (gA σ 0 v1) → X102 (w32 (v1 + 1)) σ_19 else x_takeTape_j36 σ Q2) :=
  ite_m (fun _ h0 => ⟨h0.1, ⟨h0.2.1, fun σ_19 e3 => (have f3 : Fr wX_takeTape σ0 σ_19 := Fr.putA fr e3 rfl; kX10 _ _ f3 (h0.2.2 σ_19 e3))⟩⟩) (fun _ h0 => fx_takeTape_j36 fr h0 kQ) h
theorem fx_takeTape_L10 {v1 : Int} {σ0 σ : S} {Q Q2 : Int → S → Prop} (fr : Fr wX_takeTape σ0 σ) (h : x_takeTape_L10 v1 σ Q) (kQ : ∀ r s, Fr wX_takeTape σ0 s → Q r s → Q2 r s) : x_takeTape_L10 v1 σ Q2 := by
  unfold x_takeTape_L10 at h ⊢
  intro Y hY
  exact h (fun v1 s => Fr wX_takeTape σ0 s → Y v1 s) (fun v1 s h f => hY v1 s (fx_takeTape_L10_b (v1 := v1) (Q := Q) (Q2 := Q2) (X10 := fun v1 s => Fr wX_takeTape σ0 s → Y v1 s) (X102 := Y) f h kQ (fun v1 s f h => h f))) fr
theorem lx_takeTape_L10 {v1 : Int} {σ0 : S} {Q : Int → S → Prop} (I : Int → S → Prop) (me : Int → S → Nat) (h0 : I v1 σ0) (step : ∀ (v1 : Int) (s : S), Fr wX_takeTape σ0 s → I v1 s → (fun (Y0 : Int → S → Prop) => (if v1 < gI s 4 then inb v1 6000 ∧ inb v1 6000 ∧ ∀ σ_19, σ_19 = pA s 1 v1 (gA s 0 v1) → Y0 (w32 (v1 + 1)) σ_19 else x_takeTape_j36 s Q)) (fun v1' s' => I v1' s' ∧ me v1' s' < me v1 s)) : x_takeTape_L10 v1 σ0 Q := by
  unfold x_takeTape_L10
  intro Y hY
  have key : ∀ (n : Nat) (v1 : Int) (s : S), me v1 s < n → Fr wX_takeTape σ0 s → I v1 s → Y v1 s := by
    intro n
    induction n with
    | zero => intro v1 s h; exact absurd h (Nat.not_lt_zero _)
    | succ n ih =>
      intro v1 s hm fr hi
      exact hY v1 s (fx_takeTape_L10_b (v1 := v1) (Q := Q) (Q2 := Q) (X10 := (fun v1' s' => I v1' s' ∧ me v1' s' < me v1 s)) (X102 := Y) fr (step v1 s fr hi) (fun _ _ _ h => h) (fun v1 s f h => ih v1 s (by omega) f h.1))
  exact key _ v1 σ0 (Nat.lt_succ_self _) Fr.rf h0
theorem fm_x_takeTape {σ0 : S} {Q Q2 : Int → S → Prop} (h : x_takeTape  σ0 Q) (kQ : ∀ r s, Fr wX_takeTape σ0 s → Q r s → Q2 r s) : x_takeTape  σ0 Q2 := by
  have fr : Fr wX_takeTape σ0 σ0 := Fr.rf
  unfold x_takeTape at h ⊢
  exact fun σ_2 e0 => (have f0 : Fr wX_takeTape σ0 σ_2 := Fr.putI fr e0 rfl; fx_takeTape_L10 f0 (h σ_2 e0) kQ)
theorem fm_x_isSpecial {v0 : Int} {σ0 : S} {Q Q2 : Int → S → Prop} (h : x_isSpecial v0 σ0 Q) (kQ : ∀ r s, Fr wX_isSpecial σ0 s → Q r s → Q2 r s) : x_isSpecial v0 σ0 Q2 := by
  have fr : Fr wX_isSpecial σ0 σ0 := Fr.rf
  unfold x_isSpecial at h ⊢
  exact kQ _ _ fr h
theorem fm_x_isBlank {v0 : Int} {σ0 : S} {Q Q2 : Int → S → Prop} (h : x_isBlank v0 σ0 Q) (kQ : ∀ r s, Fr wX_isBlank σ0 s → Q r s → Q2 r s) : x_isBlank v0 σ0 Q2 := by
  have fr : Fr wX_isBlank σ0 σ0 := Fr.rf
  unfold x_isBlank at h ⊢
  exact kQ _ _ fr h
theorem fm_x_isStar {v1 : Int} {σ0 : S} {Q Q2 : Int → S → Prop} (h : x_isStar v1 σ0 Q) (kQ : ∀ r s, Fr wX_isStar σ0 s → Q r s → Q2 r s) : x_isStar v1 σ0 Q2 := by
  have fr : Fr wX_isStar σ0 σ0 := Fr.rf
  unfold x_isStar at h ⊢
  exact ⟨h.1, ⟨h.2.1, ⟨h.2.2.1, kQ _ _ fr h.2.2.2⟩⟩⟩
theorem fx_isText_L20_b {v1 : Int} {v2 : Int} {v3 : Nat} {v4 : Int} {v5 : Int} {σ0 σ : S} {Q Q2 : Int → S → Prop} {X20 X202 : Int → Int → S → Prop} (fr : Fr wX_isText σ0 σ) (h : (if (v5 < w32 (v2 - v1)) ∧ (¬ (v4 = 0)) then inb (w32 (v1 + v5)) 6000 ∧ inb v5 (sLnX v3) ∧ X20 (bi (gA σ 1 (w32 (v1 + v5)) = sChX v3 v5)) (w32 (v5 + 1)) σ else Q v4 σ)) (kQ : ∀ r s, Fr wX_isText σ0 s → Q r s → Q2 r s) (kX20 : ∀ v4 v5 s, Fr wX_isText σ0 s → X20 v4 v5 s → X202 v4 v5 s) : (if (v5 < w32 (v2 - v1)) ∧ (¬ (v4 = 0)) then inb (w32 (v1 + v5)) 6000 ∧ inb v5 (sLnX v3) ∧ X202 (bi (gA σ 1 (w32 (v1 + v5)) = sChX v3 v5)) (w32 (v5 + 1)) σ else Q2 v4 σ) :=
  ite_m (fun _ h0 => ⟨h0.1, ⟨h0.2.1, kX20 _ _ _ fr h0.2.2⟩⟩) (fun _ h0 => kQ _ _ fr h0) h
theorem fx_isText_L20 {v1 : Int} {v2 : Int} {v3 : Nat} {v4 : Int} {v5 : Int} {σ0 σ : S} {Q Q2 : Int → S → Prop} (fr : Fr wX_isText σ0 σ) (h : x_isText_L20 v1 v2 v3 v4 v5 σ Q) (kQ : ∀ r s, Fr wX_isText σ0 s → Q r s → Q2 r s) : x_isText_L20 v1 v2 v3 v4 v5 σ Q2 := by
  unfold x_isText_L20 at h ⊢
  intro Y hY
  exact h (fun v4 v5 s => Fr wX_isText σ0 s → Y v4 v5 s) (fun v4 v5 s h f => hY v4 v5 s (fx_isText_L20_b (v1 := v1) (v2 := v2) (v3 := v3) (v4 := v4) (v5 := v5) (Q := Q) (Q2 := Q2) (X20 := fun v4 v5 s => Fr wX_isText σ0 s → Y v4 v5 s) (X202 := Y) f h kQ (fun v4 v5 s f h => h f))) fr
theorem lx_isText_L20 {v1 : Int} {v2 : Int} {v3 : Nat} {v4 : Int} {v5 : Int} {σ0 : S} {Q : Int → S → Prop} (I : Int → Int → S → Prop) (me : Int → Int → S → Nat) (h0 : I v4 v5 σ0) (step : ∀ (v4 : Int) (v5 : Int) (s : S), Fr wX_isText σ0 s → I v4 v5 s → (fun (Y0 : Int → Int → S → Prop) => (if (v5 < w32 (v2 - v1)) ∧ (¬ (v4 = 0)) then inb (w32 (v1 + v5)) 6000 ∧ inb v5 (sLnX v3) ∧ Y0 (bi (gA s 1 (w32 (v1 + v5)) = sChX v3 v5)) (w32 (v5 + 1)) s else Q v4 s)) (fun v4' v5' s' => I v4' v5' s' ∧ me v4' v5' s' < me v4 v5 s)) : x_isText_L20 v1 v2 v3 v4 v5 σ0 Q := by
  unfold x_isText_L20
  intro Y hY
  have key : ∀ (n : Nat) (v4 : Int) (v5 : Int) (s : S), me v4 v5 s < n → Fr wX_isText σ0 s → I v4 v5 s → Y v4 v5 s := by
    intro n
    induction n with
    | zero => intro v4 v5 s h; exact absurd h (Nat.not_lt_zero _)
    | succ n ih =>
      intro v4 v5 s hm fr hi
      exact hY v4 v5 s (fx_isText_L20_b (v1 := v1) (v2 := v2) (v3 := v3) (v4 := v4) (v5 := v5) (Q := Q) (Q2 := Q) (X20 := (fun v4' v5' s' => I v4' v5' s' ∧ me v4' v5' s' < me v4 v5 s)) (X202 := Y) fr (step v4 v5 s fr hi) (fun _ _ _ h => h) (fun v4 v5 s f h => ih v4 v5 s (by omega) f h.1))
  exact key _ v4 v5 σ0 (Nat.lt_succ_self _) Fr.rf h0
theorem fm_x_isText {v1 : Int} {v2 : Int} {v3 : Nat} {σ0 : S} {Q Q2 : Int → S → Prop} (h : x_isText v1 v2 v3 σ0 Q) (kQ : ∀ r s, Fr wX_isText σ0 s → Q r s → Q2 r s) : x_isText v1 v2 v3 σ0 Q2 := by
  have fr : Fr wX_isText σ0 σ0 := Fr.rf
  unfold x_isText at h ⊢
  exact fx_isText_L20 fr h kQ
theorem fm_x_reservedOf {v1 : Int} {v2 : Int} {σ0 : S} {Q Q2 : Int → S → Prop} (h : x_reservedOf v1 v2 σ0 Q) (kQ : ∀ r s, Fr wX_reservedOf σ0 s → Q r s → Q2 r s) : x_reservedOf v1 v2 σ0 Q2 := by
  have fr : Fr wX_reservedOf σ0 σ0 := Fr.rf
  unfold x_reservedOf at h ⊢
  exact fm_x_isText h (fun r_2 σ_1 f h0 => (have f0 : Fr wX_reservedOf σ0 σ_1 := (fr.trans (f.weak (by decide +kernel))); ite_m (fun _ h1 => fm_x_isText h1 (fun r_6 σ_5 f h2 => (have f2 : Fr wX_reservedOf σ0 σ_5 := (f0.trans (f.weak (by decide +kernel))); ite_m (fun _ h3 => fm_x_isText h3 (fun r_10 σ_9 f h4 => (have f4 : Fr wX_reservedOf σ0 σ_9 := (f2.trans (f.weak (by decide +kernel))); ite_m (fun _ h5 => fm_x_isText h5 (fun r_14 σ_13 f h6 => (have f6 : Fr wX_reservedOf σ0 σ_13 := (f4.trans (f.weak (by decide +kernel))); ite_m (fun _ h7 => fm_x_isText h7 (fun r_18 σ_17 f h8 => (have f8 : Fr wX_reservedOf σ0 σ_17 := (f6.trans (f.weak (by decide +kernel))); ite_m (fun _ h9 => fm_x_isText h9 (fun r_22 σ_21 f h10 => (have f10 : Fr wX_reservedOf σ0 σ_21 := (f8.trans (f.weak (by decide +kernel))); ite_m (fun _ h11 => fm_x_isText h11 (fun r_26 σ_25 f h12 => (have f12 : Fr wX_reservedOf σ0 σ_25 := (f10.trans (f.weak (by decide +kernel))); ite_m (fun _ h13 => fm_x_isText h13 (fun r_30 σ_29 f h14 => (have f14 : Fr wX_reservedOf σ0 σ_29 := (f12.trans (f.weak (by decide +kernel))); kQ _ _ f14 h14))) (fun _ h13 => kQ _ _ f12 h13) h12))) (fun _ h11 => kQ _ _ f10 h11) h10))) (fun _ h9 => kQ _ _ f8 h9) h8))) (fun _ h7 => kQ _ _ f6 h7) h6))) (fun _ h5 => kQ _ _ f4 h5) h4))) (fun _ h3 => kQ _ _ f2 h3) h2))) (fun _ h1 => kQ _ _ f0 h1) h0))
theorem fx_idOf_j155 {σ0 σ : S} {Q Q2 : Int → S → Prop} (fr : Fr wX_idOf σ0 σ) (h : x_idOf_j155  σ Q) (kQ : ∀ r s, Fr wX_idOf σ0 s → Q r s → Q2 r s) : x_idOf_j155  σ Q2 := by
  unfold x_idOf_j155 at h ⊢
  exact ⟨h.1, fun σ_13 e1 => (have f1 : Fr wX_idOf σ0 σ_13 := Fr.putA fr e1 rfl; fun σ_17 e2 => (have f2 : Fr wX_idOf σ0 σ_17 := Fr.putI f1 e2 rfl; kQ _ _ f2 ((h.2 σ_13 e1) σ_17 e2)))⟩
theorem fx_idOf_L123_b {v1 : Nat} {v3 : Int} {v4 : Int} {σ0 σ : S} {Q Q2 : Int → S → Prop} {X123 X1232 : Int → S → Prop} (fr : Fr wX_idOf σ0 σ) (h : (if v4 < v3 then ∀ σ_20, σ_20 = pI σ 11 (w32 (gI σ 11 + 1)) → inb v4 ((dAln dX v1 : Nat) : Int) ∧ inb (gI σ 11) 40000 ∧ ∀ σ_24, σ_24 = pA σ_20 6 (gI σ 11) (gA σ_20 v1 v4) → X123 (w32 (v4 + 1)) σ_24 else x_idOf_j155 σ Q)) (kQ : ∀ r s, Fr wX_idOf σ0 s → Q r s → Q2 r s) (kX123 : ∀ v4 s, Fr wX_idOf σ0 s → X123 v4 s → X1232 v4 s) : (if v4 < v3 then ∀ σ_20, σ_20 = pI σ 11 (w32 (gI σ 11 + 1)) → inb v4 ((dAln dX v1 : Nat) : Int) ∧ inb (gI σ 11) 40000 ∧ ∀ σ_24, σ_24 = pA σ_20 6 (gI σ 11) (gA σ_20 v1 v4) → X1232 (w32 (v4 + 1)) σ_24 else x_idOf_j155 σ Q2) :=
  ite_m (fun _ h0 => fun σ_20 e1 => (have f1 : Fr wX_idOf σ0 σ_20 := Fr.putI fr e1 rfl; ⟨(h0 σ_20 e1).1, ⟨(h0 σ_20 e1).2.1, fun σ_24 e4 => (have f4 : Fr wX_idOf σ0 σ_24 := Fr.putA f1 e4 rfl; kX123 _ _ f4 ((h0 σ_20 e1).2.2 σ_24 e4))⟩⟩)) (fun _ h0 => fx_idOf_j155 fr h0 kQ) h
theorem fx_idOf_L123 {v1 : Nat} {v3 : Int} {v4 : Int} {σ0 σ : S} {Q Q2 : Int → S → Prop} (fr : Fr wX_idOf σ0 σ) (h : x_idOf_L123 v1 v3 v4 σ Q) (kQ : ∀ r s, Fr wX_idOf σ0 s → Q r s → Q2 r s) : x_idOf_L123 v1 v3 v4 σ Q2 := by
  unfold x_idOf_L123 at h ⊢
  intro Y hY
  exact h (fun v4 s => Fr wX_idOf σ0 s → Y v4 s) (fun v4 s h f => hY v4 s (fx_idOf_L123_b (v1 := v1) (v3 := v3) (v4 := v4) (Q := Q) (Q2 := Q2) (X123 := fun v4 s => Fr wX_idOf σ0 s → Y v4 s) (X1232 := Y) f h kQ (fun v4 s f h => h f))) fr
theorem lx_idOf_L123 {v1 : Nat} {v3 : Int} {v4 : Int} {σ0 : S} {Q : Int → S → Prop} (I : Int → S → Prop) (me : Int → S → Nat) (h0 : I v4 σ0) (step : ∀ (v4 : Int) (s : S), Fr wX_idOf σ0 s → I v4 s → (fun (Y0 : Int → S → Prop) => (if v4 < v3 then ∀ σ_20, σ_20 = pI s 11 (w32 (gI s 11 + 1)) → inb v4 ((dAln dX v1 : Nat) : Int) ∧ inb (gI s 11) 40000 ∧ ∀ σ_24, σ_24 = pA σ_20 6 (gI s 11) (gA σ_20 v1 v4) → Y0 (w32 (v4 + 1)) σ_24 else x_idOf_j155 s Q)) (fun v4' s' => I v4' s' ∧ me v4' s' < me v4 s)) : x_idOf_L123 v1 v3 v4 σ0 Q := by
  unfold x_idOf_L123
  intro Y hY
  have key : ∀ (n : Nat) (v4 : Int) (s : S), me v4 s < n → Fr wX_idOf σ0 s → I v4 s → Y v4 s := by
    intro n
    induction n with
    | zero => intro v4 s h; exact absurd h (Nat.not_lt_zero _)
    | succ n ih =>
      intro v4 s hm fr hi
      exact hY v4 s (fx_idOf_L123_b (v1 := v1) (v3 := v3) (v4 := v4) (Q := Q) (Q2 := Q) (X123 := (fun v4' s' => I v4' s' ∧ me v4' s' < me v4 s)) (X1232 := Y) fr (step v4 s fr hi) (fun _ _ _ h => h) (fun v4 s f h => ih v4 s (by omega) f h.1))
  exact key _ v4 σ0 (Nat.lt_succ_self _) Fr.rf h0
theorem fx_idOf_j107 {v1 : Nat} {v2 : Int} {v3 : Int} {σ0 σ : S} {Q Q2 : Int → S → Prop} (fr : Fr wX_idOf σ0 σ) (h : x_idOf_j107 v1 v2 v3 σ Q) (kQ : ∀ r s, Fr wX_idOf σ0 s → Q r s → Q2 r s) : x_idOf_j107 v1 v2 v3 σ Q2 := by
  unfold x_idOf_j107 at h ⊢
  exact ⟨h.1, fun σ_6 e1 => (have f1 : Fr wX_idOf σ0 σ_6 := Fr.putA fr e1 rfl; fx_idOf_L123 f1 (h.2 σ_6 e1) kQ)⟩
theorem fx_idOf_j93 {v1 : Nat} {v2 : Int} {v3 : Int} {v4 : Int} {v5 : Int} {σ0 σ : S} {Q Q2 : Int → S → Prop} {X3 X32 : Int → S → Prop} (fr : Fr wX_idOf σ0 σ) (h : x_idOf_j93 v1 v2 v3 v4 v5 σ Q X3) (kQ : ∀ r s, Fr wX_idOf σ0 s → Q r s → Q2 r s) (kX3 : ∀ a0 s, Fr wX_idOf σ0 s → X3 a0 s → X32 a0 s) : x_idOf_j93 v1 v2 v3 v4 v5 σ Q2 X32 := by
  unfold x_idOf_j93 at h ⊢
  exact ite_m (fun _ h0 => kX3 _ _ fr h0) (fun _ h0 => kQ _ _ fr h0) h
theorem fx_idOf_L43_b {v1 : Nat} {v2 : Int} {v3 : Int} {v4 : Int} {v5 : Int} {v6 : Int} {σ0 σ : S} {Q Q2 : Int → S → Prop} {X3 X32 : Int → S → Prop} {X43 X432 : Int → Int → S → Prop} (fr : Fr wX_idOf σ0 σ) (h : (if v6 < w32 (v3 - v2) then (if v5 = 0 then x_idOf_j93 v1 v2 v3 v4 v5 σ Q X3 else inb v4 1700 ∧ inb (w32 (gA σ 7 v4 + v6)) 40000 ∧ inb (w32 (v2 + v6)) ((dAln dX v1 : Nat) : Int) ∧ X43 (bi (gA σ 6 (w32 (gA σ 7 v4 + v6)) = gA σ v1 (w32 (v2 + v6)))) (w32 (v6 + 1)) σ) else x_idOf_j93 v1 v2 v3 v4 v5 σ Q X3)) (kQ : ∀ r s, Fr wX_idOf σ0 s → Q r s → Q2 r s) (kX3 : ∀ a0 s, Fr wX_idOf σ0 s → X3 a0 s → X32 a0 s) (kX43 : ∀ v5 v6 s, Fr wX_idOf σ0 s → X43 v5 v6 s → X432 v5 v6 s) : (if v6 < w32 (v3 - v2) then (if v5 = 0 then x_idOf_j93 v1 v2 v3 v4 v5 σ Q2 X32 else inb v4 1700 ∧ inb (w32 (gA σ 7 v4 + v6)) 40000 ∧ inb (w32 (v2 + v6)) ((dAln dX v1 : Nat) : Int) ∧ X432 (bi (gA σ 6 (w32 (gA σ 7 v4 + v6)) = gA σ v1 (w32 (v2 + v6)))) (w32 (v6 + 1)) σ) else x_idOf_j93 v1 v2 v3 v4 v5 σ Q2 X32) :=
  ite_m (fun _ h0 => ite_m (fun _ h1 => fx_idOf_j93 fr h1 kQ kX3) (fun _ h1 => ⟨h1.1, ⟨h1.2.1, ⟨h1.2.2.1, kX43 _ _ _ fr h1.2.2.2⟩⟩⟩) h0) (fun _ h0 => fx_idOf_j93 fr h0 kQ kX3) h
theorem fx_idOf_L43 {v1 : Nat} {v2 : Int} {v3 : Int} {v4 : Int} {v5 : Int} {v6 : Int} {σ0 σ : S} {Q Q2 : Int → S → Prop} {X3 X32 : Int → S → Prop} (fr : Fr wX_idOf σ0 σ) (h : x_idOf_L43 v1 v2 v3 v4 v5 v6 σ Q X3) (kQ : ∀ r s, Fr wX_idOf σ0 s → Q r s → Q2 r s) (kX3 : ∀ a0 s, Fr wX_idOf σ0 s → X3 a0 s → X32 a0 s) : x_idOf_L43 v1 v2 v3 v4 v5 v6 σ Q2 X32 := by
  unfold x_idOf_L43 at h ⊢
  intro Y hY
  exact h (fun v5 v6 s => Fr wX_idOf σ0 s → Y v5 v6 s) (fun v5 v6 s h f => hY v5 v6 s (fx_idOf_L43_b (v1 := v1) (v2 := v2) (v3 := v3) (v4 := v4) (v5 := v5) (v6 := v6) (Q := Q) (Q2 := Q2) (X3 := X3) (X32 := X32) (X43 := fun v5 v6 s => Fr wX_idOf σ0 s → Y v5 v6 s) (X432 := Y) f h kQ kX3 (fun v5 v6 s f h => h f))) fr
theorem lx_idOf_L43 {v1 : Nat} {v2 : Int} {v3 : Int} {v4 : Int} {v5 : Int} {v6 : Int} {σ0 : S} {Q : Int → S → Prop} {X3 : Int → S → Prop} (I : Int → Int → S → Prop) (me : Int → Int → S → Nat) (h0 : I v5 v6 σ0) (step : ∀ (v5 : Int) (v6 : Int) (s : S), Fr wX_idOf σ0 s → I v5 v6 s → (fun (Y0 : Int → Int → S → Prop) => (if v6 < w32 (v3 - v2) then (if v5 = 0 then x_idOf_j93 v1 v2 v3 v4 v5 s Q X3 else inb v4 1700 ∧ inb (w32 (gA s 7 v4 + v6)) 40000 ∧ inb (w32 (v2 + v6)) ((dAln dX v1 : Nat) : Int) ∧ Y0 (bi (gA s 6 (w32 (gA s 7 v4 + v6)) = gA s v1 (w32 (v2 + v6)))) (w32 (v6 + 1)) s) else x_idOf_j93 v1 v2 v3 v4 v5 s Q X3)) (fun v5' v6' s' => I v5' v6' s' ∧ me v5' v6' s' < me v5 v6 s)) : x_idOf_L43 v1 v2 v3 v4 v5 v6 σ0 Q X3 := by
  unfold x_idOf_L43
  intro Y hY
  have key : ∀ (n : Nat) (v5 : Int) (v6 : Int) (s : S), me v5 v6 s < n → Fr wX_idOf σ0 s → I v5 v6 s → Y v5 v6 s := by
    intro n
    induction n with
    | zero => intro v5 v6 s h; exact absurd h (Nat.not_lt_zero _)
    | succ n ih =>
      intro v5 v6 s hm fr hi
      exact hY v5 v6 s (fx_idOf_L43_b (v1 := v1) (v2 := v2) (v3 := v3) (v4 := v4) (v5 := v5) (v6 := v6) (Q := Q) (Q2 := Q) (X3 := X3) (X32 := X3) (X43 := (fun v5' v6' s' => I v5' v6' s' ∧ me v5' v6' s' < me v5 v6 s)) (X432 := Y) fr (step v5 v6 s fr hi) (fun _ _ _ h => h) (fun _ _ _ h => h) (fun v5 v6 s f h => ih v5 v6 s (by omega) f h.1))
  exact key _ v5 v6 σ0 (Nat.lt_succ_self _) Fr.rf h0
theorem fx_idOf_L3_b {v1 : Nat} {v2 : Int} {v3 : Int} {v4 : Int} {σ0 σ : S} {Q Q2 : Int → S → Prop} {X3 X32 : Int → S → Prop} (fr : Fr wX_idOf σ0 σ) (h : (if v4 < gI σ 12 then inb v4 1700 ∧ inb v4 1700 ∧ x_idOf_L43 v1 v2 v3 v4 (bi (w32 (gA σ 8 v4 - (gA σ 7 v4)) = w32 (v3 - v2))) 0 σ Q X3 else x_idOf_j107 v1 v2 v3 σ Q)) (kQ : ∀ r s, Fr wX_idOf σ0 s → Q r s → Q2 r s) (kX3 : ∀ v4 s, Fr wX_idOf σ0 s → X3 v4 s → X32 v4 s) : (if v4 < gI σ 12 then inb v4 1700 ∧ inb v4 1700 ∧ x_idOf_L43 v1 v2 v3 v4 (bi (w32 (gA σ 8 v4 - (gA σ 7 v4)) = w32 (v3 - v2))) 0 σ Q2 X32 else x_idOf_j107 v1 v2 v3 σ Q2) :=
  ite_m (fun _ h0 => ⟨h0.1, ⟨h0.2.1, fx_idOf_L43 fr h0.2.2 kQ kX3⟩⟩) (fun _ h0 => fx_idOf_j107 fr h0 kQ) h
theorem fx_idOf_L3 {v1 : Nat} {v2 : Int} {v3 : Int} {v4 : Int} {σ0 σ : S} {Q Q2 : Int → S → Prop} (fr : Fr wX_idOf σ0 σ) (h : x_idOf_L3 v1 v2 v3 v4 σ Q) (kQ : ∀ r s, Fr wX_idOf σ0 s → Q r s → Q2 r s) : x_idOf_L3 v1 v2 v3 v4 σ Q2 := by
  unfold x_idOf_L3 at h ⊢
  intro Y hY
  exact h (fun v4 s => Fr wX_idOf σ0 s → Y v4 s) (fun v4 s h f => hY v4 s (fx_idOf_L3_b (v1 := v1) (v2 := v2) (v3 := v3) (v4 := v4) (Q := Q) (Q2 := Q2) (X3 := fun v4 s => Fr wX_idOf σ0 s → Y v4 s) (X32 := Y) f h kQ (fun v4 s f h => h f))) fr
theorem lx_idOf_L3 {v1 : Nat} {v2 : Int} {v3 : Int} {v4 : Int} {σ0 : S} {Q : Int → S → Prop} (I : Int → S → Prop) (me : Int → S → Nat) (h0 : I v4 σ0) (step : ∀ (v4 : Int) (s : S), Fr wX_idOf σ0 s → I v4 s → (fun (Y0 : Int → S → Prop) => (if v4 < gI s 12 then inb v4 1700 ∧ inb v4 1700 ∧ x_idOf_L43 v1 v2 v3 v4 (bi (w32 (gA s 8 v4 - (gA s 7 v4)) = w32 (v3 - v2))) 0 s Q Y0 else x_idOf_j107 v1 v2 v3 s Q)) (fun v4' s' => I v4' s' ∧ me v4' s' < me v4 s)) : x_idOf_L3 v1 v2 v3 v4 σ0 Q := by
  unfold x_idOf_L3
  intro Y hY
  have key : ∀ (n : Nat) (v4 : Int) (s : S), me v4 s < n → Fr wX_idOf σ0 s → I v4 s → Y v4 s := by
    intro n
    induction n with
    | zero => intro v4 s h; exact absurd h (Nat.not_lt_zero _)
    | succ n ih =>
      intro v4 s hm fr hi
      exact hY v4 s (fx_idOf_L3_b (v1 := v1) (v2 := v2) (v3 := v3) (v4 := v4) (Q := Q) (Q2 := Q) (X3 := (fun v4' s' => I v4' s' ∧ me v4' s' < me v4 s)) (X32 := Y) fr (step v4 s fr hi) (fun _ _ _ h => h) (fun v4 s f h => ih v4 s (by omega) f h.1))
  exact key _ v4 σ0 (Nat.lt_succ_self _) Fr.rf h0
theorem fm_x_idOf {v1 : Nat} {v2 : Int} {v3 : Int} {σ0 : S} {Q Q2 : Int → S → Prop} (h : x_idOf v1 v2 v3 σ0 Q) (kQ : ∀ r s, Fr wX_idOf σ0 s → Q r s → Q2 r s) : x_idOf v1 v2 v3 σ0 Q2 := by
  have fr : Fr wX_idOf σ0 σ0 := Fr.rf
  unfold x_idOf at h ⊢
  exact fx_idOf_L3 fr h kQ
theorem fx_cutWords_j354 {v1 : Int} {v2 : Int} {v5 : Int} {s0 : Int} {s1 : Int} {σ0 σ : S} {Q Q2 : Int → S → Prop} {X14 X142 : Int → Int → S → Prop} (fr : Fr wX_cutWords σ0 σ) (h : x_cutWords_j354 v1 v2 v5 s0 s1 σ Q X14) (kQ : ∀ r s, Fr wX_cutWords σ0 s → Q r s → Q2 r s) (kX14 : ∀ a0 a1 s, Fr wX_cutWords σ0 s → X14 a0 a1 s → X142 a0 a1 s) : x_cutWords_j354 v1 v2 v5 s0 s1 σ Q2 X142 := by
  unfold x_cutWords_j354 at h ⊢
  exact ⟨h.1, fun σ_33 e1 => (have f1 : Fr wX_cutWords σ0 σ_33 := Fr.putA fr e1 rfl; fun σ_37 e2 => (have f2 : Fr wX_cutWords σ0 σ_37 := Fr.putI f1 e2 rfl; kX14 _ _ _ f2 ((h.2 σ_33 e1) σ_37 e2)))⟩
theorem fx_cutWords_j322 {v1 : Int} {v2 : Int} {v4 : Int} {v5 : Int} {s0 : Int} {σ0 σ : S} {Q Q2 : Int → S → Prop} {X14 X142 : Int → Int → S → Prop} (fr : Fr wX_cutWords σ0 σ) (h : x_cutWords_j322 v1 v2 v4 v5 s0 σ Q X14) (kQ : ∀ r s, Fr wX_cutWords σ0 s → Q r s → Q2 r s) (kX14 : ∀ a0 a1 s, Fr wX_cutWords σ0 s → X14 a0 a1 s → X142 a0 a1 s) : x_cutWords_j322 v1 v2 v4 v5 s0 σ Q2 X142 := by
  unfold x_cutWords_j322 at h ⊢
  exact fm_x_idOf h (fun r_32 σ_31 f h0 => (have f0 : Fr wX_cutWords σ0 σ_31 := (fr.trans (f.weak (by decide +kernel))); fx_cutWords_j354 f0 h0 kQ kX14))
theorem fx_cutWords_j271 {v1 : Int} {v2 : Int} {v4 : Int} {v5 : Int} {σ0 σ : S} {Q Q2 : Int → S → Prop} {X14 X142 : Int → Int → S → Prop} (fr : Fr wX_cutWords σ0 σ) (h : x_cutWords_j271 v1 v2 v4 v5 σ Q X14) (kQ : ∀ r s, Fr wX_cutWords σ0 s → Q r s → Q2 r s) (kX14 : ∀ a0 a1 s, Fr wX_cutWords σ0 s → X14 a0 a1 s → X142 a0 a1 s) : x_cutWords_j271 v1 v2 v4 v5 σ Q2 X142 := by
  unfold x_cutWords_j271 at h ⊢
  exact ⟨h.1, fun σ_17 e1 => (have f1 : Fr wX_cutWords σ0 σ_17 := Fr.putA fr e1 rfl; ⟨(h.2 σ_17 e1).1, fun σ_21 e3 => (have f3 : Fr wX_cutWords σ0 σ_21 := Fr.putA f1 e3 rfl; ⟨((h.2 σ_17 e1).2 σ_21 e3).1, fun σ_25 e5 => (have f5 : Fr wX_cutWords σ0 σ_25 := Fr.putA f3 e5 rfl; ite_m (fun _ h6 => fx_cutWords_j322 f5 h6 kQ kX14) (fun _ h6 => ite_m (fun _ h7 => fx_cutWords_j322 f5 h7 kQ kX14) (fun _ h7 => ite_m (fun _ h8 => fm_x_reservedOf h8 (fun r_49 σ_48 f h9 => (have f9 : Fr wX_cutWords σ0 σ_48 := (f5.trans (f.weak (by decide +kernel))); fx_cutWords_j354 f9 h9 kQ kX14))) (fun _ h8 => fx_cutWords_j354 f5 h8 kQ kX14) h7) h6) (((h.2 σ_17 e1).2 σ_21 e3).2 σ_25 e5))⟩)⟩)⟩
theorem fx_cutWords_j269 {v1 : Int} {v2 : Int} {v4 : Int} {s0 : Int} {σ0 σ : S} {Q Q2 : Int → S → Prop} {X14 X142 : Int → Int → S → Prop} (fr : Fr wX_cutWords σ0 σ) (h : x_cutWords_j269 v1 v2 v4 s0 σ Q X14) (kQ : ∀ r s, Fr wX_cutWords σ0 s → Q r s → Q2 r s) (kX14 : ∀ a0 a1 s, Fr wX_cutWords σ0 s → X14 a0 a1 s → X142 a0 a1 s) : x_cutWords_j269 v1 v2 v4 s0 σ Q2 X142 := by
  unfold x_cutWords_j269 at h ⊢
  exact fx_cutWords_j271 fr h kQ kX14
theorem fx_cutWords_j201 {v1 : Int} {v2 : Int} {v4 : Int} {v6 : Int} {σ0 σ : S} {Q Q2 : Int → S → Prop} {X14 X142 : Int → Int → S → Prop} (fr : Fr wX_cutWords σ0 σ) (h : x_cutWords_j201 v1 v2 v4 v6 σ Q X14) (kQ : ∀ r s, Fr wX_cutWords σ0 s → Q r s → Q2 r s) (kX14 : ∀ a0 a1 s, Fr wX_cutWords σ0 s → X14 a0 a1 s → X142 a0 a1 s) : x_cutWords_j201 v1 v2 v4 v6 σ Q2 X142 := by
  unfold x_cutWords_j201 at h ⊢
  exact ite_m (fun _ h0 => fx_cutWords_j269 fr h0 kQ kX14) (fun _ h0 => fm_x_reservedOf h0 (fun r_62 σ_61 f h1 => (have f1 : Fr wX_cutWords σ0 σ_61 := (fr.trans (f.weak (by decide +kernel))); fx_cutWords_j269 f1 h1 kQ kX14))) h
theorem fx_cutWords_j193 {v1 : Int} {v2 : Int} {v4 : Int} {s0 : Int} {σ0 σ : S} {Q Q2 : Int → S → Prop} {X14 X142 : Int → Int → S → Prop} {X132 X1322 : Int → Int → S → Prop} (fr : Fr wX_cutWords σ0 σ) (h : x_cutWords_j193 v1 v2 v4 s0 σ Q X14 X132) (kQ : ∀ r s, Fr wX_cutWords σ0 s → Q r s → Q2 r s) (kX14 : ∀ a0 a1 s, Fr wX_cutWords σ0 s → X14 a0 a1 s → X142 a0 a1 s) (kX132 : ∀ a0 a1 s, Fr wX_cutWords σ0 s → X132 a0 a1 s → X1322 a0 a1 s) : x_cutWords_j193 v1 v2 v4 s0 σ Q2 X142 X1322 := by
  unfold x_cutWords_j193 at h ⊢
  exact kX132 _ _ _ fr h
theorem fx_cutWords_j191 {v1 : Int} {v2 : Int} {v4 : Int} {v6 : Int} {σ0 σ : S} {Q Q2 : Int → S → Prop} {X14 X142 : Int → Int → S → Prop} {X132 X1322 : Int → Int → S → Prop} (fr : Fr wX_cutWords σ0 σ) (h : x_cutWords_j191 v1 v2 v4 v6 σ Q X14 X132) (kQ : ∀ r s, Fr wX_cutWords σ0 s → Q r s → Q2 r s) (kX14 : ∀ a0 a1 s, Fr wX_cutWords σ0 s → X14 a0 a1 s → X142 a0 a1 s) (kX132 : ∀ a0 a1 s, Fr wX_cutWords σ0 s → X132 a0 a1 s → X1322 a0 a1 s) : x_cutWords_j191 v1 v2 v4 v6 σ Q2 X142 X1322 := by
  unfold x_cutWords_j191 at h ⊢
  exact fx_cutWords_j193 fr h kQ kX14 kX132
theorem fx_cutWords_L132_b {v1 : Int} {v2 : Int} {v4 : Int} {v6 : Int} {σ0 σ : S} {Q Q2 : Int → S → Prop} {X14 X142 : Int → Int → S → Prop} {X132 X1322 : Int → Int → S → Prop} (fr : Fr wX_cutWords σ0 σ) (h : (if v2 < gI σ 4 then inb v2 6000 ∧ x_isBlank (gA σ 1 v2) σ (fun r_75 σ_74 => (if r_75 = 0 then inb v2 6000 ∧ x_isSpecial (gA σ_74 1 v2) σ_74 (fun r_81 σ_80 => (if r_81 = 0 then (if v6 = (-2) then inb v2 6000 ∧ x_within (gA σ_80 1 v2) 33 126 σ_80 (fun r_89 σ_88 => (if r_89 = 0 then x_cutWords_j193 v1 v2 v4 v2 σ_88 Q X14 X132 else x_cutWords_j191 v1 v2 v4 v6 σ_88 Q X14 X132)) else x_cutWords_j191 v1 v2 v4 v6 σ_80 Q X14 X132) else x_cutWords_j201 v1 v2 v4 v6 σ_80 Q X14)) else x_cutWords_j201 v1 v2 v4 v6 σ_74 Q X14)) else x_cutWords_j201 v1 v2 v4 v6 σ Q X14)) (kQ : ∀ r s, Fr wX_cutWords σ0 s → Q r s → Q2 r s) (kX14 : ∀ a0 a1 s, Fr wX_cutWords σ0 s → X14 a0 a1 s → X142 a0 a1 s) (kX132 : ∀ v2 v6 s, Fr wX_cutWords σ0 s → X132 v2 v6 s → X1322 v2 v6 s) : (if v2 < gI σ 4 then inb v2 6000 ∧ x_isBlank (gA σ 1 v2) σ (fun r_75 σ_74 => (if r_75 = 0 then inb v2 6000 ∧ x_isSpecial (gA σ_74 1 v2) σ_74 (fun r_81 σ_80 => (if r_81 = 0 then (if v6 = (-2) then inb v2 6000 ∧ x_within (gA σ_80 1 v2) 33 126 σ_80 (fun r_89 σ_88 => (if r_89 = 0 then x_cutWords_j193 v1 v2 v4 v2 σ_88 Q2 X142 X1322 else x_cutWords_j191 v1 v2 v4 v6 σ_88 Q2 X142 X1322)) else x_cutWords_j191 v1 v2 v4 v6 σ_80 Q2 X142 X1322) else x_cutWords_j201 v1 v2 v4 v6 σ_80 Q2 X142)) else x_cutWords_j201 v1 v2 v4 v6 σ_74 Q2 X142)) else x_cutWords_j201 v1 v2 v4 v6 σ Q2 X142) :=
  ite_m (fun _ h0 => ⟨h0.1, fm_x_isBlank h0.2 (fun r_75 σ_74 f h2 => (have f2 : Fr wX_cutWords σ0 σ_74 := (fr.trans (f.weak (by decide +kernel))); ite_m (fun _ h3 => ⟨h3.1, fm_x_isSpecial h3.2 (fun r_81 σ_80 f h5 => (have f5 : Fr wX_cutWords σ0 σ_80 := (f2.trans (f.weak (by decide +kernel))); ite_m (fun _ h6 => ite_m (fun _ h7 => ⟨h7.1, fm_x_within h7.2 (fun r_89 σ_88 f h9 => (have f9 : Fr wX_cutWords σ0 σ_88 := (f5.trans (f.weak (by decide +kernel))); ite_m (fun _ h10 => fx_cutWords_j193 f9 h10 kQ kX14 kX132) (fun _ h10 => fx_cutWords_j191 f9 h10 kQ kX14 kX132) h9))⟩) (fun _ h7 => fx_cutWords_j191 f5 h7 kQ kX14 kX132) h6) (fun _ h6 => fx_cutWords_j201 f5 h6 kQ kX14) h5))⟩) (fun _ h3 => fx_cutWords_j201 f2 h3 kQ kX14) h2))⟩) (fun _ h0 => fx_cutWords_j201 fr h0 kQ kX14) h
theorem fx_cutWords_L132 {v1 : Int} {v2 : Int} {v4 : Int} {v6 : Int} {σ0 σ : S} {Q Q2 : Int → S → Prop} {X14 X142 : Int → Int → S → Prop} (fr : Fr wX_cutWords σ0 σ) (h : x_cutWords_L132 v1 v2 v4 v6 σ Q X14) (kQ : ∀ r s, Fr wX_cutWords σ0 s → Q r s → Q2 r s) (kX14 : ∀ a0 a1 s, Fr wX_cutWords σ0 s → X14 a0 a1 s → X142 a0 a1 s) : x_cutWords_L132 v1 v2 v4 v6 σ Q2 X142 := by
  unfold x_cutWords_L132 at h ⊢
  intro Y hY
  exact h (fun v2 v6 s => Fr wX_cutWords σ0 s → Y v2 v6 s) (fun v2 v6 s h f => hY v2 v6 s (fx_cutWords_L132_b (v1 := v1) (v2 := v2) (v4 := v4) (v6 := v6) (Q := Q) (Q2 := Q2) (X14 := X14) (X142 := X142) (X132 := fun v2 v6 s => Fr wX_cutWords σ0 s → Y v2 v6 s) (X1322 := Y) f h kQ kX14 (fun v2 v6 s f h => h f))) fr
theorem lx_cutWords_L132 {v1 : Int} {v2 : Int} {v4 : Int} {v6 : Int} {σ0 : S} {Q : Int → S → Prop} {X14 : Int → Int → S → Prop} (I : Int → Int → S → Prop) (me : Int → Int → S → Nat) (h0 : I v2 v6 σ0) (step : ∀ (v2 : Int) (v6 : Int) (s : S), Fr wX_cutWords σ0 s → I v2 v6 s → (fun (Y0 : Int → Int → S → Prop) => (if v2 < gI s 4 then inb v2 6000 ∧ x_isBlank (gA s 1 v2) s (fun r_75 σ_74 => (if r_75 = 0 then inb v2 6000 ∧ x_isSpecial (gA σ_74 1 v2) σ_74 (fun r_81 σ_80 => (if r_81 = 0 then (if v6 = (-2) then inb v2 6000 ∧ x_within (gA σ_80 1 v2) 33 126 σ_80 (fun r_89 σ_88 => (if r_89 = 0 then x_cutWords_j193 v1 v2 v4 v2 σ_88 Q X14 Y0 else x_cutWords_j191 v1 v2 v4 v6 σ_88 Q X14 Y0)) else x_cutWords_j191 v1 v2 v4 v6 σ_80 Q X14 Y0) else x_cutWords_j201 v1 v2 v4 v6 σ_80 Q X14)) else x_cutWords_j201 v1 v2 v4 v6 σ_74 Q X14)) else x_cutWords_j201 v1 v2 v4 v6 s Q X14)) (fun v2' v6' s' => I v2' v6' s' ∧ me v2' v6' s' < me v2 v6 s)) : x_cutWords_L132 v1 v2 v4 v6 σ0 Q X14 := by
  unfold x_cutWords_L132
  intro Y hY
  have key : ∀ (n : Nat) (v2 : Int) (v6 : Int) (s : S), me v2 v6 s < n → Fr wX_cutWords σ0 s → I v2 v6 s → Y v2 v6 s := by
    intro n
    induction n with
    | zero => intro v2 v6 s h; exact absurd h (Nat.not_lt_zero _)
    | succ n ih =>
      intro v2 v6 s hm fr hi
      exact hY v2 v6 s (fx_cutWords_L132_b (v1 := v1) (v2 := v2) (v4 := v4) (v6 := v6) (Q := Q) (Q2 := Q) (X14 := X14) (X142 := X14) (X132 := (fun v2' v6' s' => I v2' v6' s' ∧ me v2' v6' s' < me v2 v6 s)) (X1322 := Y) fr (step v2 v6 s fr hi) (fun _ _ _ h => h) (fun _ _ _ _ h => h) (fun v2 v6 s f h => ih v2 v6 s (by omega) f h.1))
  exact key _ v2 v6 σ0 (Nat.lt_succ_self _) Fr.rf h0
theorem fx_cutWords_j120 {v1 : Int} {v2 : Int} {v4 : Int} {v5 : Int} {σ0 σ : S} {Q Q2 : Int → S → Prop} {X14 X142 : Int → Int → S → Prop} (fr : Fr wX_cutWords σ0 σ) (h : x_cutWords_j120 v1 v2 v4 v5 σ Q X14) (kQ : ∀ r s, Fr wX_cutWords σ0 s → Q r s → Q2 r s) (kX14 : ∀ a0 a1 s, Fr wX_cutWords σ0 s → X14 a0 a1 s → X142 a0 a1 s) : x_cutWords_j120 v1 v2 v4 v5 σ Q2 X142 := by
  unfold x_cutWords_j120 at h ⊢
  exact ite_m (fun _ h0 => fx_cutWords_L132 fr h0 kQ kX14) (fun _ h0 => fx_cutWords_j271 fr h0 kQ kX14) h
theorem fx_cutWords_j85 {v1 : Int} {v2 : Int} {σ0 σ : S} {Q Q2 : Int → S → Prop} {X14 X142 : Int → Int → S → Prop} (fr : Fr wX_cutWords σ0 σ) (h : x_cutWords_j85 v1 v2 σ Q X14) (kQ : ∀ r s, Fr wX_cutWords σ0 s → Q r s → Q2 r s) (kX14 : ∀ a0 a1 s, Fr wX_cutWords σ0 s → X14 a0 a1 s → X142 a0 a1 s) : x_cutWords_j85 v1 v2 σ Q2 X142 := by
  unfold x_cutWords_j85 at h ⊢
  exact ite_m (fun _ h0 => ⟨h0.1, fm_x_isSpecial h0.2 (fun r_95 σ_94 f h2 => (have f2 : Fr wX_cutWords σ0 σ_94 := (fr.trans (f.weak (by decide +kernel))); ite_m (fun _ h3 => fx_cutWords_j120 f2 h3 kQ kX14) (fun _ h3 => fx_cutWords_j271 f2 h3 kQ kX14) h2))⟩) (fun _ h0 => fx_cutWords_j120 fr h0 kQ kX14) h
theorem fx_cutWords_L54_b {v1 : Int} {v2 : Int} {σ0 σ : S} {Q Q2 : Int → S → Prop} {X14 X142 : Int → Int → S → Prop} {X18 X182 : Int → S → Prop} {X54 X542 : Int → S → Prop} (fr : Fr wX_cutWords σ0 σ) (h : ((v2 < gI σ 4) → (inb v2 6000)) ∧ (if ¬ (v2 < gI σ 4) ∨ (gA σ 1 v2 = 10) then X18 v2 σ else X54 (w32 (v2 + 1)) σ)) (kQ : ∀ r s, Fr wX_cutWords σ0 s → Q r s → Q2 r s) (kX14 : ∀ a0 a1 s, Fr wX_cutWords σ0 s → X14 a0 a1 s → X142 a0 a1 s) (kX18 : ∀ a0 s, Fr wX_cutWords σ0 s → X18 a0 s → X182 a0 s) (kX54 : ∀ v2 s, Fr wX_cutWords σ0 s → X54 v2 s → X542 v2 s) : ((v2 < gI σ 4) → (inb v2 6000)) ∧ (if ¬ (v2 < gI σ 4) ∨ (gA σ 1 v2 = 10) then X182 v2 σ else X542 (w32 (v2 + 1)) σ) :=
  ⟨h.1, ite_m (fun _ h1 => kX18 _ _ fr h1) (fun _ h1 => kX54 _ _ fr h1) h.2⟩
theorem fx_cutWords_L54 {v1 : Int} {v2 : Int} {σ0 σ : S} {Q Q2 : Int → S → Prop} {X14 X142 : Int → Int → S → Prop} {X18 X182 : Int → S → Prop} (fr : Fr wX_cutWords σ0 σ) (h : x_cutWords_L54 v1 v2 σ Q X14 X18) (kQ : ∀ r s, Fr wX_cutWords σ0 s → Q r s → Q2 r s) (kX14 : ∀ a0 a1 s, Fr wX_cutWords σ0 s → X14 a0 a1 s → X142 a0 a1 s) (kX18 : ∀ a0 s, Fr wX_cutWords σ0 s → X18 a0 s → X182 a0 s) : x_cutWords_L54 v1 v2 σ Q2 X142 X182 := by
  unfold x_cutWords_L54 at h ⊢
  intro Y hY
  exact h (fun v2 s => Fr wX_cutWords σ0 s → Y v2 s) (fun v2 s h f => hY v2 s (fx_cutWords_L54_b (v1 := v1) (v2 := v2) (Q := Q) (Q2 := Q2) (X14 := X14) (X142 := X142) (X18 := X18) (X182 := X182) (X54 := fun v2 s => Fr wX_cutWords σ0 s → Y v2 s) (X542 := Y) f h kQ kX14 kX18 (fun v2 s f h => h f))) fr
theorem lx_cutWords_L54 {v1 : Int} {v2 : Int} {σ0 : S} {Q : Int → S → Prop} {X14 : Int → Int → S → Prop} {X18 : Int → S → Prop} (I : Int → S → Prop) (me : Int → S → Nat) (h0 : I v2 σ0) (step : ∀ (v2 : Int) (s : S), Fr wX_cutWords σ0 s → I v2 s → (fun (Y0 : Int → S → Prop) => ((v2 < gI s 4) → (inb v2 6000)) ∧ (if ¬ (v2 < gI s 4) ∨ (gA s 1 v2 = 10) then X18 v2 s else Y0 (w32 (v2 + 1)) s)) (fun v2' s' => I v2' s' ∧ me v2' s' < me v2 s)) : x_cutWords_L54 v1 v2 σ0 Q X14 X18 := by
  unfold x_cutWords_L54
  intro Y hY
  have key : ∀ (n : Nat) (v2 : Int) (s : S), me v2 s < n → Fr wX_cutWords σ0 s → I v2 s → Y v2 s := by
    intro n
    induction n with
    | zero => intro v2 s h; exact absurd h (Nat.not_lt_zero _)
    | succ n ih =>
      intro v2 s hm fr hi
      exact hY v2 s (fx_cutWords_L54_b (v1 := v1) (v2 := v2) (Q := Q) (Q2 := Q) (X14 := X14) (X142 := X14) (X18 := X18) (X182 := X18) (X54 := (fun v2' s' => I v2' s' ∧ me v2' s' < me v2 s)) (X542 := Y) fr (step v2 s fr hi) (fun _ _ _ h => h) (fun _ _ _ _ h => h) (fun _ _ _ h => h) (fun v2 s f h => ih v2 s (by omega) f h.1))
  exact key _ v2 σ0 (Nat.lt_succ_self _) Fr.rf h0
theorem fx_cutWords_j46 {v1 : Int} {v2 : Int} {σ0 σ : S} {Q Q2 : Int → S → Prop} {X14 X142 : Int → Int → S → Prop} {X18 X182 : Int → S → Prop} (fr : Fr wX_cutWords σ0 σ) (h : x_cutWords_j46 v1 v2 σ Q X14 X18) (kQ : ∀ r s, Fr wX_cutWords σ0 s → Q r s → Q2 r s) (kX14 : ∀ a0 a1 s, Fr wX_cutWords σ0 s → X14 a0 a1 s → X142 a0 a1 s) (kX18 : ∀ a0 s, Fr wX_cutWords σ0 s → X18 a0 s → X182 a0 s) : x_cutWords_j46 v1 v2 σ Q2 X142 X182 := by
  unfold x_cutWords_j46 at h ⊢
  exact fm_x_isStar h (fun r_105 σ_104 f h0 => (have f0 : Fr wX_cutWords σ0 σ_104 := (fr.trans (f.weak (by decide +kernel))); ite_m (fun _ h1 => kX18 _ _ f0 h1) (fun _ h1 => fx_cutWords_L54 f0 h1 kQ kX14 kX18) h0))
theorem fx_cutWords_L18_b {v1 : Int} {v2 : Int} {σ0 σ : S} {Q Q2 : Int → S → Prop} {X14 X142 : Int → Int → S → Prop} {X18 X182 : Int → S → Prop} (fr : Fr wX_cutWords σ0 σ) (h : (if v2 < gI σ 4 then inb v2 6000 ∧ x_isBlank (gA σ 1 v2) σ (fun r_101 σ_100 => (if r_101 = 0 then x_isStar v2 σ_100 (fun r_117 σ_116 => (if r_117 = 0 then x_cutWords_j85 v1 v2 σ_116 Q X14 else x_cutWords_j46 v1 v2 σ_116 Q X14 X18)) else x_cutWords_j46 v1 v2 σ_100 Q X14 X18)) else x_cutWords_j85 v1 v2 σ Q X14)) (kQ : ∀ r s, Fr wX_cutWords σ0 s → Q r s → Q2 r s) (kX14 : ∀ a0 a1 s, Fr wX_cutWords σ0 s → X14 a0 a1 s → X142 a0 a1 s) (kX18 : ∀ v2 s, Fr wX_cutWords σ0 s → X18 v2 s → X182 v2 s) : (if v2 < gI σ 4 then inb v2 6000 ∧ x_isBlank (gA σ 1 v2) σ (fun r_101 σ_100 => (if r_101 = 0 then x_isStar v2 σ_100 (fun r_117 σ_116 => (if r_117 = 0 then x_cutWords_j85 v1 v2 σ_116 Q2 X142 else x_cutWords_j46 v1 v2 σ_116 Q2 X142 X182)) else x_cutWords_j46 v1 v2 σ_100 Q2 X142 X182)) else x_cutWords_j85 v1 v2 σ Q2 X142) :=
  ite_m (fun _ h0 => ⟨h0.1, fm_x_isBlank h0.2 (fun r_101 σ_100 f h2 => (have f2 : Fr wX_cutWords σ0 σ_100 := (fr.trans (f.weak (by decide +kernel))); ite_m (fun _ h3 => fm_x_isStar h3 (fun r_117 σ_116 f h4 => (have f4 : Fr wX_cutWords σ0 σ_116 := (f2.trans (f.weak (by decide +kernel))); ite_m (fun _ h5 => fx_cutWords_j85 f4 h5 kQ kX14) (fun _ h5 => fx_cutWords_j46 f4 h5 kQ kX14 kX18) h4))) (fun _ h3 => fx_cutWords_j46 f2 h3 kQ kX14 kX18) h2))⟩) (fun _ h0 => fx_cutWords_j85 fr h0 kQ kX14) h
theorem fx_cutWords_L18 {v1 : Int} {v2 : Int} {σ0 σ : S} {Q Q2 : Int → S → Prop} {X14 X142 : Int → Int → S → Prop} (fr : Fr wX_cutWords σ0 σ) (h : x_cutWords_L18 v1 v2 σ Q X14) (kQ : ∀ r s, Fr wX_cutWords σ0 s → Q r s → Q2 r s) (kX14 : ∀ a0 a1 s, Fr wX_cutWords σ0 s → X14 a0 a1 s → X142 a0 a1 s) : x_cutWords_L18 v1 v2 σ Q2 X142 := by
  unfold x_cutWords_L18 at h ⊢
  intro Y hY
  exact h (fun v2 s => Fr wX_cutWords σ0 s → Y v2 s) (fun v2 s h f => hY v2 s (fx_cutWords_L18_b (v1 := v1) (v2 := v2) (Q := Q) (Q2 := Q2) (X14 := X14) (X142 := X142) (X18 := fun v2 s => Fr wX_cutWords σ0 s → Y v2 s) (X182 := Y) f h kQ kX14 (fun v2 s f h => h f))) fr
theorem lx_cutWords_L18 {v1 : Int} {v2 : Int} {σ0 : S} {Q : Int → S → Prop} {X14 : Int → Int → S → Prop} (I : Int → S → Prop) (me : Int → S → Nat) (h0 : I v2 σ0) (step : ∀ (v2 : Int) (s : S), Fr wX_cutWords σ0 s → I v2 s → (fun (Y0 : Int → S → Prop) => (if v2 < gI s 4 then inb v2 6000 ∧ x_isBlank (gA s 1 v2) s (fun r_101 σ_100 => (if r_101 = 0 then x_isStar v2 σ_100 (fun r_117 σ_116 => (if r_117 = 0 then x_cutWords_j85 v1 v2 σ_116 Q X14 else x_cutWords_j46 v1 v2 σ_116 Q X14 Y0)) else x_cutWords_j46 v1 v2 σ_100 Q X14 Y0)) else x_cutWords_j85 v1 v2 s Q X14)) (fun v2' s' => I v2' s' ∧ me v2' s' < me v2 s)) : x_cutWords_L18 v1 v2 σ0 Q X14 := by
  unfold x_cutWords_L18
  intro Y hY
  have key : ∀ (n : Nat) (v2 : Int) (s : S), me v2 s < n → Fr wX_cutWords σ0 s → I v2 s → Y v2 s := by
    intro n
    induction n with
    | zero => intro v2 s h; exact absurd h (Nat.not_lt_zero _)
    | succ n ih =>
      intro v2 s hm fr hi
      exact hY v2 s (fx_cutWords_L18_b (v1 := v1) (v2 := v2) (Q := Q) (Q2 := Q) (X14 := X14) (X142 := X14) (X18 := (fun v2' s' => I v2' s' ∧ me v2' s' < me v2 s)) (X182 := Y) fr (step v2 s fr hi) (fun _ _ _ h => h) (fun _ _ _ _ h => h) (fun v2 s f h => ih v2 s (by omega) f h.1))
  exact key _ v2 σ0 (Nat.lt_succ_self _) Fr.rf h0
theorem fx_cutWords_L14_b {v1 : Int} {v2 : Int} {v3 : Int} {σ0 σ : S} {Q Q2 : Int → S → Prop} {X14 X142 : Int → Int → S → Prop} (fr : Fr wX_cutWords σ0 σ) (h : (if v3 = 0 then Q 0 σ else x_cutWords_L18 v1 v2 σ Q X14)) (kQ : ∀ r s, Fr wX_cutWords σ0 s → Q r s → Q2 r s) (kX14 : ∀ v2 v3 s, Fr wX_cutWords σ0 s → X14 v2 v3 s → X142 v2 v3 s) : (if v3 = 0 then Q2 0 σ else x_cutWords_L18 v1 v2 σ Q2 X142) :=
  ite_m (fun _ h0 => kQ _ _ fr h0) (fun _ h0 => fx_cutWords_L18 fr h0 kQ kX14) h
theorem fx_cutWords_L14 {v1 : Int} {v2 : Int} {v3 : Int} {σ0 σ : S} {Q Q2 : Int → S → Prop} (fr : Fr wX_cutWords σ0 σ) (h : x_cutWords_L14 v1 v2 v3 σ Q) (kQ : ∀ r s, Fr wX_cutWords σ0 s → Q r s → Q2 r s) : x_cutWords_L14 v1 v2 v3 σ Q2 := by
  unfold x_cutWords_L14 at h ⊢
  intro Y hY
  exact h (fun v2 v3 s => Fr wX_cutWords σ0 s → Y v2 v3 s) (fun v2 v3 s h f => hY v2 v3 s (fx_cutWords_L14_b (v1 := v1) (v2 := v2) (v3 := v3) (Q := Q) (Q2 := Q2) (X14 := fun v2 v3 s => Fr wX_cutWords σ0 s → Y v2 v3 s) (X142 := Y) f h kQ (fun v2 v3 s f h => h f))) fr
theorem lx_cutWords_L14 {v1 : Int} {v2 : Int} {v3 : Int} {σ0 : S} {Q : Int → S → Prop} (I : Int → Int → S → Prop) (me : Int → Int → S → Nat) (h0 : I v2 v3 σ0) (step : ∀ (v2 : Int) (v3 : Int) (s : S), Fr wX_cutWords σ0 s → I v2 v3 s → (fun (Y0 : Int → Int → S → Prop) => (if v3 = 0 then Q 0 s else x_cutWords_L18 v1 v2 s Q Y0)) (fun v2' v3' s' => I v2' v3' s' ∧ me v2' v3' s' < me v2 v3 s)) : x_cutWords_L14 v1 v2 v3 σ0 Q := by
  unfold x_cutWords_L14
  intro Y hY
  have key : ∀ (n : Nat) (v2 : Int) (v3 : Int) (s : S), me v2 v3 s < n → Fr wX_cutWords σ0 s → I v2 v3 s → Y v2 v3 s := by
    intro n
    induction n with
    | zero => intro v2 v3 s h; exact absurd h (Nat.not_lt_zero _)
    | succ n ih =>
      intro v2 v3 s hm fr hi
      exact hY v2 v3 s (fx_cutWords_L14_b (v1 := v1) (v2 := v2) (v3 := v3) (Q := Q) (Q2 := Q) (X14 := (fun v2' v3' s' => I v2' v3' s' ∧ me v2' v3' s' < me v2 v3 s)) (X142 := Y) fr (step v2 v3 s fr hi) (fun _ _ _ h => h) (fun v2 v3 s f h => ih v2 v3 s (by omega) f h.1))
  exact key _ v2 v3 σ0 (Nat.lt_succ_self _) Fr.rf h0
theorem fm_x_cutWords {v1 : Int} {σ0 : S} {Q Q2 : Int → S → Prop} (h : x_cutWords v1 σ0 Q) (kQ : ∀ r s, Fr wX_cutWords σ0 s → Q r s → Q2 r s) : x_cutWords v1 σ0 Q2 := by
  have fr : Fr wX_cutWords σ0 σ0 := Fr.rf
  unfold x_cutWords at h ⊢
  exact fun σ_1 e0 => (have f0 : Fr wX_cutWords σ0 σ_1 := Fr.putI fr e0 rfl; fun σ_3 e1 => (have f1 : Fr wX_cutWords σ0 σ_3 := Fr.putI f0 e1 rfl; fx_cutWords_L14 f1 ((h σ_1 e0) σ_3 e1) kQ))
theorem fx_lineOf_L4_b {v1 : Int} {v2 : Int} {v3 : Int} {σ0 σ : S} {Q Q2 : Int → S → Prop} {X4 X42 : Int → Int → S → Prop} (fr : Fr wX_lineOf σ0 σ) (h : (if v3 < v1 then (if v3 < gI σ 4 then inb v3 6000 ∧ X4 (w32 (v2 + (bi (gA σ 1 v3 = 10)))) (w32 (v3 + 1)) σ else Q v2 σ) else Q v2 σ)) (kQ : ∀ r s, Fr wX_lineOf σ0 s → Q r s → Q2 r s) (kX4 : ∀ v2 v3 s, Fr wX_lineOf σ0 s → X4 v2 v3 s → X42 v2 v3 s) : (if v3 < v1 then (if v3 < gI σ 4 then inb v3 6000 ∧ X42 (w32 (v2 + (bi (gA σ 1 v3 = 10)))) (w32 (v3 + 1)) σ else Q2 v2 σ) else Q2 v2 σ) :=
  ite_m (fun _ h0 => ite_m (fun _ h1 => ⟨h1.1, kX4 _ _ _ fr h1.2⟩) (fun _ h1 => kQ _ _ fr h1) h0) (fun _ h0 => kQ _ _ fr h0) h
theorem fx_lineOf_L4 {v1 : Int} {v2 : Int} {v3 : Int} {σ0 σ : S} {Q Q2 : Int → S → Prop} (fr : Fr wX_lineOf σ0 σ) (h : x_lineOf_L4 v1 v2 v3 σ Q) (kQ : ∀ r s, Fr wX_lineOf σ0 s → Q r s → Q2 r s) : x_lineOf_L4 v1 v2 v3 σ Q2 := by
  unfold x_lineOf_L4 at h ⊢
  intro Y hY
  exact h (fun v2 v3 s => Fr wX_lineOf σ0 s → Y v2 v3 s) (fun v2 v3 s h f => hY v2 v3 s (fx_lineOf_L4_b (v1 := v1) (v2 := v2) (v3 := v3) (Q := Q) (Q2 := Q2) (X4 := fun v2 v3 s => Fr wX_lineOf σ0 s → Y v2 v3 s) (X42 := Y) f h kQ (fun v2 v3 s f h => h f))) fr
theorem lx_lineOf_L4 {v1 : Int} {v2 : Int} {v3 : Int} {σ0 : S} {Q : Int → S → Prop} (I : Int → Int → S → Prop) (me : Int → Int → S → Nat) (h0 : I v2 v3 σ0) (step : ∀ (v2 : Int) (v3 : Int) (s : S), Fr wX_lineOf σ0 s → I v2 v3 s → (fun (Y0 : Int → Int → S → Prop) => (if v3 < v1 then (if v3 < gI s 4 then inb v3 6000 ∧ Y0 (w32 (v2 + (bi (gA s 1 v3 = 10)))) (w32 (v3 + 1)) s else Q v2 s) else Q v2 s)) (fun v2' v3' s' => I v2' v3' s' ∧ me v2' v3' s' < me v2 v3 s)) : x_lineOf_L4 v1 v2 v3 σ0 Q := by
  unfold x_lineOf_L4
  intro Y hY
  have key : ∀ (n : Nat) (v2 : Int) (v3 : Int) (s : S), me v2 v3 s < n → Fr wX_lineOf σ0 s → I v2 v3 s → Y v2 v3 s := by
    intro n
    induction n with
    | zero => intro v2 v3 s h; exact absurd h (Nat.not_lt_zero _)
    | succ n ih =>
      intro v2 v3 s hm fr hi
      exact hY v2 v3 s (fx_lineOf_L4_b (v1 := v1) (v2 := v2) (v3 := v3) (Q := Q) (Q2 := Q) (X4 := (fun v2' v3' s' => I v2' v3' s' ∧ me v2' v3' s' < me v2 v3 s)) (X42 := Y) fr (step v2 v3 s fr hi) (fun _ _ _ h => h) (fun v2 v3 s f h => ih v2 v3 s (by omega) f h.1))
  exact key _ v2 v3 σ0 (Nat.lt_succ_self _) Fr.rf h0
theorem fm_x_lineOf {v1 : Int} {σ0 : S} {Q Q2 : Int → S → Prop} (h : x_lineOf v1 σ0 Q) (kQ : ∀ r s, Fr wX_lineOf σ0 s → Q r s → Q2 r s) : x_lineOf v1 σ0 Q2 := by
  have fr : Fr wX_lineOf σ0 σ0 := Fr.rf
  unfold x_lineOf at h ⊢
  exact fx_lineOf_L4 fr h kQ
theorem fm_x_wrongAt {v1 : Int} {v2 : Int} {σ0 : S} {Q Q2 : Int → S → Prop} (h : x_wrongAt v1 v2 σ0 Q) (kQ : ∀ r s, Fr wX_wrongAt σ0 s → Q r s → Q2 r s) : x_wrongAt v1 v2 σ0 Q2 := by
  have fr : Fr wX_wrongAt σ0 σ0 := Fr.rf
  unfold x_wrongAt at h ⊢
  exact ite_m (fun _ h0 => kQ _ _ fr h0) (fun _ h0 => fun σ_11 e1 => (have f1 : Fr wX_wrongAt σ0 σ_11 := Fr.putI fr e1 rfl; fun σ_13 e2 => (have f2 : Fr wX_wrongAt σ0 σ_13 := Fr.putI f1 e2 rfl; fm_x_lineOf ((h0 σ_11 e1) σ_13 e2) (fun r_16 σ_15 f h3 => (have f3 : Fr wX_wrongAt σ0 σ_15 := (f2.trans (f.weak (by decide +kernel))); fun σ_17 e4 => (have f4 : Fr wX_wrongAt σ0 σ_17 := Fr.putI f3 e4 rfl; kQ _ _ f4 (h3 σ_17 e4))))))) h
theorem fm_x_wrong {v1 : Int} {v2 : Int} {σ0 : S} {Q Q2 : Int → S → Prop} (h : x_wrong v1 v2 σ0 Q) (kQ : ∀ r s, Fr wX_wrong σ0 s → Q r s → Q2 r s) : x_wrong v1 v2 σ0 Q2 := by
  have fr : Fr wX_wrong σ0 σ0 := Fr.rf
  unfold x_wrong at h ⊢
  exact ⟨h.1, fm_x_wrongAt h.2 (fun r_4 σ_3 f h1 => (have f1 : Fr wX_wrong σ0 σ_3 := (fr.trans (f.weak (by decide +kernel))); kQ _ _ f1 h1))⟩
theorem fm_x_isReserved {v1 : Int} {σ0 : S} {Q Q2 : Int → S → Prop} (h : x_isReserved v1 σ0 Q) (kQ : ∀ r s, Fr wX_isReserved σ0 s → Q r s → Q2 r s) : x_isReserved v1 σ0 Q2 := by
  have fr : Fr wX_isReserved σ0 σ0 := Fr.rf
  unfold x_isReserved at h ⊢
  exact ⟨h.1, ⟨h.2.1, kQ _ _ fr h.2.2⟩⟩
theorem fm_x_step {σ0 : S} {Q Q2 : Int → S → Prop} (h : x_step  σ0 Q) (kQ : ∀ r s, Fr wX_step σ0 s → Q r s → Q2 r s) : x_step  σ0 Q2 := by
  have fr : Fr wX_step σ0 σ0 := Fr.rf
  unfold x_step at h ⊢
  exact ite_m (fun _ h0 => fm_x_wrong h0 (fun r_10 σ_9 f h1 => (have f1 : Fr wX_step σ0 σ_9 := (fr.trans (f.weak (by decide +kernel))); kQ _ _ f1 h1))) (fun _ h0 => fun σ_6 e1 => (have f1 : Fr wX_step σ0 σ_6 := Fr.putI fr e1 rfl; kQ _ _ f1 (h0 σ_6 e1))) h
theorem fm_x_take {v1 : Int} {σ0 : S} {Q Q2 : Int → S → Prop} (h : x_take v1 σ0 Q) (kQ : ∀ r s, Fr wX_take σ0 s → Q r s → Q2 r s) : x_take v1 σ0 Q2 := by
  have fr : Fr wX_take σ0 σ0 := Fr.rf
  unfold x_take at h ⊢
  exact fm_x_isReserved h (fun r_2 σ_1 f h0 => (have f0 : Fr wX_take σ0 σ_1 := (fr.trans (f.weak (by decide +kernel))); ite_m (fun _ h1 => fm_x_wrong h1 (fun r_7 σ_6 f h2 => (have f2 : Fr wX_take σ0 σ_6 := (f0.trans (f.weak (by decide +kernel))); kQ _ _ f2 h2))) (fun _ h1 => fm_x_step h1 (fun r_9 σ_8 f h2 => (have f2 : Fr wX_take σ0 σ_8 := (f0.trans (f.weak (by decide +kernel))); kQ _ _ f2 h2))) h0))
theorem fm_x_isWord {σ0 : S} {Q Q2 : Int → S → Prop} (h : x_isWord  σ0 Q) (kQ : ∀ r s, Fr wX_isWord σ0 s → Q r s → Q2 r s) : x_isWord  σ0 Q2 := by
  have fr : Fr wX_isWord σ0 σ0 := Fr.rf
  unfold x_isWord at h ⊢
  exact ⟨h.1, kQ _ _ fr h.2⟩
theorem fx_isWordText_j37 {σ0 σ : S} {Q Q2 : Int → S → Prop} (fr : Fr wX_isWordText σ0 σ) (h : x_isWordText_j37  σ Q) (kQ : ∀ r s, Fr wX_isWordText σ0 s → Q r s → Q2 r s) : x_isWordText_j37  σ Q2 := by
  unfold x_isWordText_j37 at h ⊢
  exact kQ _ _ fr h
theorem fm_x_isWordText {v1 : Nat} {σ0 : S} {Q Q2 : Int → S → Prop} (h : x_isWordText v1 σ0 Q) (kQ : ∀ r s, Fr wX_isWordText σ0 s → Q r s → Q2 r s) : x_isWordText v1 σ0 Q2 := by
  have fr : Fr wX_isWordText σ0 σ0 := Fr.rf
  unfold x_isWordText at h ⊢
  exact fm_x_isWord h (fun r_2 σ_1 f h0 => (have f0 : Fr wX_isWordText σ0 σ_1 := (fr.trans (f.weak (by decide +kernel))); ite_m (fun _ h1 => fx_isWordText_j37 f0 h1 kQ) (fun _ h1 => ⟨h1.1, ⟨h1.2.1, fm_x_isText h1.2.2 (fun r_12 σ_11 f h4 => (have f4 : Fr wX_isWordText σ0 σ_11 := (f0.trans (f.weak (by decide +kernel))); ite_m (fun _ h5 => fx_isWordText_j37 f4 h5 kQ) (fun _ h5 => kQ _ _ f4 h5) h4))⟩⟩) h0))
theorem fm_x_isSign {v1 : Int} {σ0 : S} {Q Q2 : Int → S → Prop} (h : x_isSign v1 σ0 Q) (kQ : ∀ r s, Fr wX_isSign σ0 s → Q r s → Q2 r s) : x_isSign v1 σ0 Q2 := by
  have fr : Fr wX_isSign σ0 σ0 := Fr.rf
  unfold x_isSign at h ⊢
  exact ⟨h.1, ⟨h.2.1, ⟨h.2.2.1, kQ _ _ fr h.2.2.2⟩⟩⟩
theorem fm_x_expect {σ0 : S} {Q Q2 : Int → S → Prop} (h : x_expect  σ0 Q) (kQ : ∀ r s, Fr wX_expect σ0 s → Q r s → Q2 r s) : x_expect  σ0 Q2 := by
  have fr : Fr wX_expect σ0 σ0 := Fr.rf
  unfold x_expect at h ⊢
  exact fm_x_isWord h (fun r_2 σ_1 f h0 => (have f0 : Fr wX_expect σ0 σ_1 := (fr.trans (f.weak (by decide +kernel))); ite_m (fun _ h1 => fm_x_wrong h1 (fun r_7 σ_6 f h2 => (have f2 : Fr wX_expect σ0 σ_6 := (f0.trans (f.weak (by decide +kernel))); kQ _ _ f2 h2))) (fun _ h1 => fm_x_step h1 (fun r_9 σ_8 f h2 => (have f2 : Fr wX_expect σ0 σ_8 := (f0.trans (f.weak (by decide +kernel))); kQ _ _ f2 h2))) h0))
theorem fx_clearHash_L2_b {v1 : Int} {σ0 σ : S} {Q Q2 : Int → S → Prop} {X2 X22 : Int → S → Prop} (fr : Fr wX_clearHash σ0 σ) (h : (if v1 < 131072 then inb v1 131072 ∧ ∀ σ_3, σ_3 = pA σ 72 v1 0 → X2 (w32 (v1 + 1)) σ_3 else Q 0 σ)) (kQ : ∀ r s, Fr wX_clearHash σ0 s → Q r s → Q2 r s) (kX2 : ∀ v1 s, Fr wX_clearHash σ0 s → X2 v1 s → X22 v1 s) : (if v1 < 131072 then inb v1 131072 ∧ ∀ σ_3, σ_3 = pA σ 72 v1 0 → X22 (w32 (v1 + 1)) σ_3 else Q2 0 σ) :=
  ite_m (fun _ h0 => ⟨h0.1, fun σ_3 e2 => (have f2 : Fr wX_clearHash σ0 σ_3 := Fr.putA fr e2 rfl; kX2 _ _ f2 (h0.2 σ_3 e2))⟩) (fun _ h0 => kQ _ _ fr h0) h
theorem fx_clearHash_L2 {v1 : Int} {σ0 σ : S} {Q Q2 : Int → S → Prop} (fr : Fr wX_clearHash σ0 σ) (h : x_clearHash_L2 v1 σ Q) (kQ : ∀ r s, Fr wX_clearHash σ0 s → Q r s → Q2 r s) : x_clearHash_L2 v1 σ Q2 := by
  unfold x_clearHash_L2 at h ⊢
  intro Y hY
  exact h (fun v1 s => Fr wX_clearHash σ0 s → Y v1 s) (fun v1 s h f => hY v1 s (fx_clearHash_L2_b (v1 := v1) (Q := Q) (Q2 := Q2) (X2 := fun v1 s => Fr wX_clearHash σ0 s → Y v1 s) (X22 := Y) f h kQ (fun v1 s f h => h f))) fr
theorem lx_clearHash_L2 {v1 : Int} {σ0 : S} {Q : Int → S → Prop} (I : Int → S → Prop) (me : Int → S → Nat) (h0 : I v1 σ0) (step : ∀ (v1 : Int) (s : S), Fr wX_clearHash σ0 s → I v1 s → (fun (Y0 : Int → S → Prop) => (if v1 < 131072 then inb v1 131072 ∧ ∀ σ_3, σ_3 = pA s 72 v1 0 → Y0 (w32 (v1 + 1)) σ_3 else Q 0 s)) (fun v1' s' => I v1' s' ∧ me v1' s' < me v1 s)) : x_clearHash_L2 v1 σ0 Q := by
  unfold x_clearHash_L2
  intro Y hY
  have key : ∀ (n : Nat) (v1 : Int) (s : S), me v1 s < n → Fr wX_clearHash σ0 s → I v1 s → Y v1 s := by
    intro n
    induction n with
    | zero => intro v1 s h; exact absurd h (Nat.not_lt_zero _)
    | succ n ih =>
      intro v1 s hm fr hi
      exact hY v1 s (fx_clearHash_L2_b (v1 := v1) (Q := Q) (Q2 := Q) (X2 := (fun v1' s' => I v1' s' ∧ me v1' s' < me v1 s)) (X22 := Y) fr (step v1 s fr hi) (fun _ _ _ h => h) (fun v1 s f h => ih v1 s (by omega) f h.1))
  exact key _ v1 σ0 (Nat.lt_succ_self _) Fr.rf h0
theorem fm_x_clearHash {σ0 : S} {Q Q2 : Int → S → Prop} (h : x_clearHash  σ0 Q) (kQ : ∀ r s, Fr wX_clearHash σ0 s → Q r s → Q2 r s) : x_clearHash  σ0 Q2 := by
  have fr : Fr wX_clearHash σ0 σ0 := Fr.rf
  unfold x_clearHash at h ⊢
  exact fx_clearHash_L2 fr h kQ
theorem fm_x_clear {σ0 : S} {Q Q2 : Int → S → Prop} (h : x_clear  σ0 Q) (kQ : ∀ r s, Fr wX_clear σ0 s → Q r s → Q2 r s) : x_clear  σ0 Q2 := by
  have fr : Fr wX_clear σ0 σ0 := Fr.rf
  unfold x_clear at h ⊢
  exact fun σ_1 e0 => (have f0 : Fr wX_clear σ0 σ_1 := Fr.putI fr e0 rfl; fun σ_3 e1 => (have f1 : Fr wX_clear σ0 σ_3 := Fr.putI f0 e1 rfl; fun σ_5 e2 => (have f2 : Fr wX_clear σ0 σ_5 := Fr.putI f1 e2 rfl; fun σ_7 e3 => (have f3 : Fr wX_clear σ0 σ_7 := Fr.putI f2 e3 rfl; fun σ_9 e4 => (have f4 : Fr wX_clear σ0 σ_9 := Fr.putI f3 e4 rfl; fun σ_11 e5 => (have f5 : Fr wX_clear σ0 σ_11 := Fr.putI f4 e5 rfl; fun σ_13 e6 => (have f6 : Fr wX_clear σ0 σ_13 := Fr.putI f5 e6 rfl; fun σ_15 e7 => (have f7 : Fr wX_clear σ0 σ_15 := Fr.putI f6 e7 rfl; fun σ_17 e8 => (have f8 : Fr wX_clear σ0 σ_17 := Fr.putI f7 e8 rfl; fun σ_19 e9 => (have f9 : Fr wX_clear σ0 σ_19 := Fr.putI f8 e9 rfl; fun σ_21 e10 => (have f10 : Fr wX_clear σ0 σ_21 := Fr.putI f9 e10 rfl; fun σ_23 e11 => (have f11 : Fr wX_clear σ0 σ_23 := Fr.putI f10 e11 rfl; fun σ_25 e12 => (have f12 : Fr wX_clear σ0 σ_25 := Fr.putI f11 e12 rfl; fun σ_27 e13 => (have f13 : Fr wX_clear σ0 σ_27 := Fr.putI f12 e13 rfl; fun σ_29 e14 => (have f14 : Fr wX_clear σ0 σ_29 := Fr.putI f13 e14 rfl; fun σ_31 e15 => (have f15 : Fr wX_clear σ0 σ_31 := Fr.putI f14 e15 rfl; fun σ_33 e16 => (have f16 : Fr wX_clear σ0 σ_33 := Fr.putI f15 e16 rfl; fun σ_35 e17 => (have f17 : Fr wX_clear σ0 σ_35 := Fr.putI f16 e17 rfl; fun σ_37 e18 => (have f18 : Fr wX_clear σ0 σ_37 := Fr.putI f17 e18 rfl; fun σ_39 e19 => (have f19 : Fr wX_clear σ0 σ_39 := Fr.putI f18 e19 rfl; fun σ_41 e20 => (have f20 : Fr wX_clear σ0 σ_41 := Fr.putI f19 e20 rfl; fun σ_43 e21 => (have f21 : Fr wX_clear σ0 σ_43 := Fr.putI f20 e21 rfl; fun σ_45 e22 => (have f22 : Fr wX_clear σ0 σ_45 := Fr.putI f21 e22 rfl; fm_x_clearHash (((((((((((((((((((((((h σ_1 e0) σ_3 e1) σ_5 e2) σ_7 e3) σ_9 e4) σ_11 e5) σ_13 e6) σ_15 e7) σ_17 e8) σ_19 e9) σ_21 e10) σ_23 e11) σ_25 e12) σ_27 e13) σ_29 e14) σ_31 e15) σ_33 e16) σ_35 e17) σ_37 e18) σ_39 e19) σ_41 e20) σ_43 e21) σ_45 e22) (fun _ σ_47 f h23 => (have f23 : Fr wX_clear σ0 σ_47 := (f22.trans (f.weak (by decide +kernel))); kQ _ _ f23 h23)))))))))))))))))))))))))
theorem fx_passTerm_j36 {σ0 σ : S} {Q Q2 : Int → S → Prop} (fr : Fr wX_passTerm σ0 σ) (h : x_passTerm_j36  σ Q) (kQ : ∀ r s, Fr wX_passTerm σ0 s → Q r s → Q2 r s) : x_passTerm_j36  σ Q2 := by
  unfold x_passTerm_j36 at h ⊢
  exact fm_x_wrong h (fun r_15 σ_14 f h0 => (have f0 : Fr wX_passTerm σ0 σ_14 := (fr.trans (f.weak (by decide +kernel))); kQ _ _ f0 h0))
theorem fx_passTerm_j25 {v1 : Int} {σ0 σ : S} {Q Q2 : Int → S → Prop} {X5 X52 : S → Prop} (fr : Fr wX_passTerm σ0 σ) (h : x_passTerm_j25 v1 σ Q X5) (kQ : ∀ r s, Fr wX_passTerm σ0 s → Q r s → Q2 r s) (kX5 : ∀  s, Fr wX_passTerm σ0 s → X5  s → X52  s) : x_passTerm_j25 v1 σ Q2 X52 := by
  unfold x_passTerm_j25 at h ⊢
  exact ite_m (fun _ h0 => fx_passTerm_j36 fr h0 kQ) (fun _ h0 => fm_x_step h0 (fun r_10 σ_9 f h1 => (have f1 : Fr wX_passTerm σ0 σ_9 := (fr.trans (f.weak (by decide +kernel))); ite_m (fun _ h2 => kQ _ _ f1 h2) (fun _ h2 => kX5 _ f1 h2) h1))) h
theorem fx_passTerm_j75 {σ0 σ : S} {Q Q2 : Int → S → Prop} (fr : Fr wX_passTerm σ0 σ) (h : x_passTerm_j75  σ Q) (kQ : ∀ r s, Fr wX_passTerm σ0 s → Q r s → Q2 r s) : x_passTerm_j75  σ Q2 := by
  unfold x_passTerm_j75 at h ⊢
  exact kQ _ _ fr h
theorem fx_passTerm_j55 {v1 : Int} {σ0 σ : S} {Q Q2 : Int → S → Prop} (fr : Fr wX_passTerm σ0 σ) (h : x_passTerm_j55 v1 σ Q) (kQ : ∀ r s, Fr wX_passTerm σ0 s → Q r s → Q2 r s) : x_passTerm_j55 v1 σ Q2 := by
  unfold x_passTerm_j55 at h ⊢
  exact ite_m (fun _ h0 => fm_x_wrong h0 (fun r_26 σ_25 f h1 => (have f1 : Fr wX_passTerm σ0 σ_25 := (fr.trans (f.weak (by decide +kernel))); ite_m (fun _ h2 => kQ _ _ f1 h2) (fun _ h2 => fx_passTerm_j75 f1 h2 kQ) h1))) (fun _ h0 => fx_passTerm_j75 fr h0 kQ) h
theorem fx_passTerm_L5_b {v1 : Int} {σ0 σ : S} {Q Q2 : Int → S → Prop} {X5 X52 : S → Prop} (fr : Fr wX_passTerm σ0 σ) (h : x_isWord σ (fun r_3 σ_2 => (if r_3 = 0 then inb (gI σ_2 17) 902 ∧ (if gA σ_2 2 (gI σ_2 17) = 1 then x_passTerm_j25 v1 σ_2 Q X5 else x_passTerm_j55 v1 σ_2 Q) else x_passTerm_j25 v1 σ_2 Q X5))) (kQ : ∀ r s, Fr wX_passTerm σ0 s → Q r s → Q2 r s) (kX5 : ∀  s, Fr wX_passTerm σ0 s → X5  s → X52  s) : x_isWord σ (fun r_3 σ_2 => (if r_3 = 0 then inb (gI σ_2 17) 902 ∧ (if gA σ_2 2 (gI σ_2 17) = 1 then x_passTerm_j25 v1 σ_2 Q2 X52 else x_passTerm_j55 v1 σ_2 Q2) else x_passTerm_j25 v1 σ_2 Q2 X52)) :=
  fm_x_isWord h (fun r_3 σ_2 f h0 => (have f0 : Fr wX_passTerm σ0 σ_2 := (fr.trans (f.weak (by decide +kernel))); ite_m (fun _ h1 => ⟨h1.1, ite_m (fun _ h3 => fx_passTerm_j25 f0 h3 kQ kX5) (fun _ h3 => fx_passTerm_j55 f0 h3 kQ) h1.2⟩) (fun _ h1 => fx_passTerm_j25 f0 h1 kQ kX5) h0))
theorem fx_passTerm_L5 {v1 : Int} {σ0 σ : S} {Q Q2 : Int → S → Prop} (fr : Fr wX_passTerm σ0 σ) (h : x_passTerm_L5 v1 σ Q) (kQ : ∀ r s, Fr wX_passTerm σ0 s → Q r s → Q2 r s) : x_passTerm_L5 v1 σ Q2 := by
  unfold x_passTerm_L5 at h ⊢
  intro Y hY
  exact h (fun s => Fr wX_passTerm σ0 s → Y s) (fun s h f => hY s (fx_passTerm_L5_b (v1 := v1) (Q := Q) (Q2 := Q2) (X5 := fun s => Fr wX_passTerm σ0 s → Y s) (X52 := Y) f h kQ (fun s f h => h f))) fr
theorem lx_passTerm_L5 {v1 : Int} {σ0 : S} {Q : Int → S → Prop} (I : S → Prop) (me : S → Nat) (h0 : I  σ0) (step : ∀  (s : S), Fr wX_passTerm σ0 s → I s → (fun (Y0 : S → Prop) => x_isWord s (fun r_3 σ_2 => (if r_3 = 0 then inb (gI σ_2 17) 902 ∧ (if gA σ_2 2 (gI σ_2 17) = 1 then x_passTerm_j25 v1 σ_2 Q Y0 else x_passTerm_j55 v1 σ_2 Q) else x_passTerm_j25 v1 σ_2 Q Y0))) (fun s' => I s' ∧ me s' < me s)) : x_passTerm_L5 v1 σ0 Q := by
  unfold x_passTerm_L5
  intro Y hY
  have key : ∀ (n : Nat)  (s : S), me s < n → Fr wX_passTerm σ0 s → I s → Y s := by
    intro n
    induction n with
    | zero => intro s h; exact absurd h (Nat.not_lt_zero _)
    | succ n ih =>
      intro s hm fr hi
      exact hY s (fx_passTerm_L5_b (v1 := v1) (Q := Q) (Q2 := Q) (X5 := (fun s' => I s' ∧ me s' < me s)) (X52 := Y) fr (step s fr hi) (fun _ _ _ h => h) (fun s f h => ih s (by omega) f h.1))
  exact key _  σ0 (Nat.lt_succ_self _) Fr.rf h0
theorem fm_x_passTerm {σ0 : S} {Q Q2 : Int → S → Prop} (h : x_passTerm  σ0 Q) (kQ : ∀ r s, Fr wX_passTerm σ0 s → Q r s → Q2 r s) : x_passTerm  σ0 Q2 := by
  have fr : Fr wX_passTerm σ0 σ0 := Fr.rf
  unfold x_passTerm at h ⊢
  exact fx_passTerm_L5 fr h kQ
theorem fx_readCondition_j198 {v1 : Int} {v2 : Int} {σ0 σ : S} {Q Q2 : Int → S → Prop} (fr : Fr wX_readCondition σ0 σ) (h : x_readCondition_j198 v1 v2 σ Q) (kQ : ∀ r s, Fr wX_readCondition σ0 s → Q r s → Q2 r s) : x_readCondition_j198 v1 v2 σ Q2 := by
  unfold x_readCondition_j198 at h ⊢
  exact ⟨h.1, fun σ_57 e1 => (have f1 : Fr wX_readCondition σ0 σ_57 := Fr.putA fr e1 rfl; ⟨(h.2 σ_57 e1).1, ⟨(h.2 σ_57 e1).2.1, fun σ_62 e4 => (have f4 : Fr wX_readCondition σ0 σ_62 := Fr.putA f1 e4 rfl; kQ _ _ f4 ((h.2 σ_57 e1).2.2 σ_62 e4))⟩⟩)⟩
theorem fx_readCondition_j128 {v1 : Int} {v2 : Int} {s0 : Int} {s1 : Int} {σ0 σ : S} {Q Q2 : Int → S → Prop} (fr : Fr wX_readCondition σ0 σ) (h : x_readCondition_j128 v1 v2 s0 s1 σ Q) (kQ : ∀ r s, Fr wX_readCondition σ0 s → Q r s → Q2 r s) : x_readCondition_j128 v1 v2 s0 s1 σ Q2 := by
  unfold x_readCondition_j128 at h ⊢
  exact ⟨h.1, fun σ_33 e1 => (have f1 : Fr wX_readCondition σ0 σ_33 := Fr.putA fr e1 rfl; ⟨(h.2 σ_33 e1).1, ite_m (fun _ h3 => fm_x_wrong h3 (fun r_71 σ_70 f h4 => (have f4 : Fr wX_readCondition σ0 σ_70 := (f1.trans (f.weak (by decide +kernel))); kQ _ _ f4 h4))) (fun _ h3 => fm_x_step h3 (fun r_41 σ_40 f h4 => (have f4 : Fr wX_readCondition σ0 σ_40 := (f1.trans (f.weak (by decide +kernel))); ite_m (fun _ h5 => kQ _ _ f4 h5) (fun _ h5 => ⟨h5.1, fun σ_45 e7 => (have f7 : Fr wX_readCondition σ0 σ_45 := Fr.putA f4 e7 rfl; ⟨(h5.2 σ_45 e7).1, ite_m (fun _ h9 => fm_x_expect h9 (fun r_66 σ_65 f h10 => (have f10 : Fr wX_readCondition σ0 σ_65 := (f7.trans (f.weak (by decide +kernel))); ite_m (fun _ h11 => kQ _ _ f10 h11) (fun _ h11 => fx_readCondition_j198 f10 h11 kQ) h10))) (fun _ h9 => fm_x_passTerm h9 (fun r_53 σ_52 f h10 => (have f10 : Fr wX_readCondition σ0 σ_52 := (f7.trans (f.weak (by decide +kernel))); ite_m (fun _ h11 => kQ _ _ f10 h11) (fun _ h11 => fx_readCondition_j198 f10 h11 kQ) h10))) (h5.2 σ_45 e7).2⟩)⟩) h4))) (h.2 σ_33 e1).2⟩)⟩
theorem fx_readCondition_j41 {v1 : Int} {σ0 σ : S} {Q Q2 : Int → S → Prop} (fr : Fr wX_readCondition σ0 σ) (h : x_readCondition_j41 v1 σ Q) (kQ : ∀ r s, Fr wX_readCondition σ0 s → Q r s → Q2 r s) : x_readCondition_j41 v1 σ Q2 := by
  unfold x_readCondition_j41 at h ⊢
  exact ⟨h.1, ⟨h.2.1, fun σ_8 e2 => (have f2 : Fr wX_readCondition σ0 σ_8 := Fr.putA fr e2 rfl; fm_x_passTerm (h.2.2 σ_8 e2) (fun r_12 σ_11 f h3 => (have f3 : Fr wX_readCondition σ0 σ_11 := (f2.trans (f.weak (by decide +kernel))); ite_m (fun _ h4 => kQ _ _ f3 h4) (fun _ h4 => ⟨h4.1, fun σ_16 e6 => (have f6 : Fr wX_readCondition σ0 σ_16 := Fr.putA f3 e6 rfl; fm_x_isReserved (h4.2 σ_16 e6) (fun r_20 σ_19 f h7 => (have f7 : Fr wX_readCondition σ0 σ_19 := (f6.trans (f.weak (by decide +kernel))); ite_m (fun _ h8 => fm_x_isReserved h8 (fun r_24 σ_23 f h9 => (have f9 : Fr wX_readCondition σ0 σ_23 := (f7.trans (f.weak (by decide +kernel))); ite_m (fun _ h10 => fm_x_isReserved h10 (fun r_28 σ_27 f h11 => (have f11 : Fr wX_readCondition σ0 σ_27 := (f9.trans (f.weak (by decide +kernel))); fx_readCondition_j128 f11 h11 kQ))) (fun _ h10 => fx_readCondition_j128 f9 h10 kQ) h9))) (fun _ h8 => fx_readCondition_j128 f7 h8 kQ) h7)))⟩) h3)))⟩⟩
theorem fm_x_readCondition {v1 : Int} {σ0 : S} {Q Q2 : Int → S → Prop} (h : x_readCondition v1 σ0 Q) (kQ : ∀ r s, Fr wX_readCondition σ0 s → Q r s → Q2 r s) : x_readCondition v1 σ0 Q2 := by
  have fr : Fr wX_readCondition σ0 σ0 := Fr.rf
  unfold x_readCondition at h ⊢
  exact ⟨h.1, ite_m (fun _ h1 => fm_x_isWord h1 (fun r_73 σ_72 f h2 => (have f2 : Fr wX_readCondition σ0 σ_72 := (fr.trans (f.weak (by decide +kernel))); ⟨h2.1, ite_m (fun _ h4 => fm_x_wrong h4 (fun r_81 σ_80 f h5 => (have f5 : Fr wX_readCondition σ0 σ_80 := (f2.trans (f.weak (by decide +kernel))); kQ _ _ f5 h5))) (fun _ h4 => fx_readCondition_j41 f2 h4 kQ) h2.2⟩))) (fun _ h1 => fx_readCondition_j41 fr h1 kQ) h.2⟩
theorem fx_readSides_j110 {σ0 σ : S} {Q Q2 : Int → S → Prop} (fr : Fr wX_readSides σ0 σ) (h : x_readSides_j110  σ Q) (kQ : ∀ r s, Fr wX_readSides σ0 s → Q r s → Q2 r s) : x_readSides_j110  σ Q2 := by
  unfold x_readSides_j110 at h ⊢
  exact fm_x_take h (fun r_37 σ_36 f h0 => (have f0 : Fr wX_readSides σ0 σ_36 := (fr.trans (f.weak (by decide +kernel))); kQ _ _ f0 h0))
theorem fx_readSides_L84_b {v1 : Int} {σ0 σ : S} {Q Q2 : Int → S → Prop} {X84 X842 : S → Prop} (fr : Fr wX_readSides σ0 σ) (h : x_step σ (fun r_39 σ_38 => (if r_39 = 0 then Q 0 σ_38 else x_readCondition v1 σ_38 (fun r_43 σ_42 => (if r_43 = 0 then Q 0 σ_42 else x_isReserved 7 σ_42 (fun r_47 σ_46 => (if r_47 = 0 then x_readSides_j110 σ_46 Q else X84 σ_46))))))) (kQ : ∀ r s, Fr wX_readSides σ0 s → Q r s → Q2 r s) (kX84 : ∀  s, Fr wX_readSides σ0 s → X84  s → X842  s) : x_step σ (fun r_39 σ_38 => (if r_39 = 0 then Q2 0 σ_38 else x_readCondition v1 σ_38 (fun r_43 σ_42 => (if r_43 = 0 then Q2 0 σ_42 else x_isReserved 7 σ_42 (fun r_47 σ_46 => (if r_47 = 0 then x_readSides_j110 σ_46 Q2 else X842 σ_46)))))) :=
  fm_x_step h (fun r_39 σ_38 f h0 => (have f0 : Fr wX_readSides σ0 σ_38 := (fr.trans (f.weak (by decide +kernel))); ite_m (fun _ h1 => kQ _ _ f0 h1) (fun _ h1 => fm_x_readCondition h1 (fun r_43 σ_42 f h2 => (have f2 : Fr wX_readSides σ0 σ_42 := (f0.trans (f.weak (by decide +kernel))); ite_m (fun _ h3 => kQ _ _ f2 h3) (fun _ h3 => fm_x_isReserved h3 (fun r_47 σ_46 f h4 => (have f4 : Fr wX_readSides σ0 σ_46 := (f2.trans (f.weak (by decide +kernel))); ite_m (fun _ h5 => fx_readSides_j110 f4 h5 kQ) (fun _ h5 => kX84 _ f4 h5) h4))) h2))) h0))
theorem fx_readSides_L84 {v1 : Int} {σ0 σ : S} {Q Q2 : Int → S → Prop} (fr : Fr wX_readSides σ0 σ) (h : x_readSides_L84 v1 σ Q) (kQ : ∀ r s, Fr wX_readSides σ0 s → Q r s → Q2 r s) : x_readSides_L84 v1 σ Q2 := by
  unfold x_readSides_L84 at h ⊢
  intro Y hY
  exact h (fun s => Fr wX_readSides σ0 s → Y s) (fun s h f => hY s (fx_readSides_L84_b (v1 := v1) (Q := Q) (Q2 := Q2) (X84 := fun s => Fr wX_readSides σ0 s → Y s) (X842 := Y) f h kQ (fun s f h => h f))) fr
theorem lx_readSides_L84 {v1 : Int} {σ0 : S} {Q : Int → S → Prop} (I : S → Prop) (me : S → Nat) (h0 : I  σ0) (step : ∀  (s : S), Fr wX_readSides σ0 s → I s → (fun (Y0 : S → Prop) => x_step s (fun r_39 σ_38 => (if r_39 = 0 then Q 0 σ_38 else x_readCondition v1 σ_38 (fun r_43 σ_42 => (if r_43 = 0 then Q 0 σ_42 else x_isReserved 7 σ_42 (fun r_47 σ_46 => (if r_47 = 0 then x_readSides_j110 σ_46 Q else Y0 σ_46))))))) (fun s' => I s' ∧ me s' < me s)) : x_readSides_L84 v1 σ0 Q := by
  unfold x_readSides_L84
  intro Y hY
  have key : ∀ (n : Nat)  (s : S), me s < n → Fr wX_readSides σ0 s → I s → Y s := by
    intro n
    induction n with
    | zero => intro s h; exact absurd h (Nat.not_lt_zero _)
    | succ n ih =>
      intro s hm fr hi
      exact hY s (fx_readSides_L84_b (v1 := v1) (Q := Q) (Q2 := Q) (X84 := (fun s' => I s' ∧ me s' < me s)) (X842 := Y) fr (step s fr hi) (fun _ _ _ h => h) (fun s f h => ih s (by omega) f h.1))
  exact key _  σ0 (Nat.lt_succ_self _) Fr.rf h0
theorem fm_x_readSides {v1 : Int} {v2 : Int} {σ0 : S} {Q Q2 : Int → S → Prop} (h : x_readSides v1 v2 σ0 Q) (kQ : ∀ r s, Fr wX_readSides σ0 s → Q r s → Q2 r s) : x_readSides v1 v2 σ0 Q2 := by
  have fr : Fr wX_readSides σ0 σ0 := Fr.rf
  unfold x_readSides at h ⊢
  exact ⟨h.1, fun σ_1 e1 => (have f1 : Fr wX_readSides σ0 σ_1 := Fr.putA fr e1 rfl; ⟨(h.2 σ_1 e1).1, fun σ_5 e3 => (have f3 : Fr wX_readSides σ0 σ_5 := Fr.putA f1 e3 rfl; fm_x_passTerm ((h.2 σ_1 e1).2 σ_5 e3) (fun r_9 σ_8 f h4 => (have f4 : Fr wX_readSides σ0 σ_8 := (f3.trans (f.weak (by decide +kernel))); ite_m (fun _ h5 => kQ _ _ f4 h5) (fun _ h5 => ⟨h5.1, fun σ_13 e7 => (have f7 : Fr wX_readSides σ0 σ_13 := Fr.putA f4 e7 rfl; fm_x_take (h5.2 σ_13 e7) (fun r_17 σ_16 f h8 => (have f8 : Fr wX_readSides σ0 σ_16 := (f7.trans (f.weak (by decide +kernel))); ite_m (fun _ h9 => kQ _ _ f8 h9) (fun _ h9 => ⟨h9.1, fun σ_21 e11 => (have f11 : Fr wX_readSides σ0 σ_21 := Fr.putA f8 e11 rfl; fm_x_passTerm (h9.2 σ_21 e11) (fun r_25 σ_24 f h12 => (have f12 : Fr wX_readSides σ0 σ_24 := (f11.trans (f.weak (by decide +kernel))); ite_m (fun _ h13 => kQ _ _ f12 h13) (fun _ h13 => ⟨h13.1, fun σ_29 e15 => (have f15 : Fr wX_readSides σ0 σ_29 := Fr.putA f12 e15 rfl; fm_x_isReserved (h13.2 σ_29 e15) (fun r_33 σ_32 f h16 => (have f16 : Fr wX_readSides σ0 σ_32 := (f15.trans (f.weak (by decide +kernel))); ite_m (fun _ h17 => fx_readSides_j110 f16 h17 kQ) (fun _ h17 => fx_readSides_L84 f16 h17 kQ) h16)))⟩) h12)))⟩) h8)))⟩) h4)))⟩)⟩
theorem fm_x_readEquation {σ0 : S} {Q Q2 : Int → S → Prop} (h : x_readEquation  σ0 Q) (kQ : ∀ r s, Fr wX_readEquation σ0 s → Q r s → Q2 r s) : x_readEquation  σ0 Q2 := by
  have fr : Fr wX_readEquation σ0 σ0 := Fr.rf
  unfold x_readEquation at h ⊢
  exact ite_m (fun _ h0 => fm_x_wrong h0 (fun r_30 σ_29 f h1 => (have f1 : Fr wX_readEquation σ0 σ_29 := (fr.trans (f.weak (by decide +kernel))); kQ _ _ f1 h1))) (fun _ h0 => fm_x_isWordText h0 (fun r_6 σ_5 f h1 => (have f1 : Fr wX_readEquation σ0 σ_5 := (fr.trans (f.weak (by decide +kernel))); ⟨h1.1, fun σ_7 e3 => (have f3 : Fr wX_readEquation σ0 σ_7 := Fr.putA f1 e3 rfl; ⟨(h1.2 σ_7 e3).1, fun σ_10 e5 => (have f5 : Fr wX_readEquation σ0 σ_10 := Fr.putA f3 e5 rfl; fm_x_step ((h1.2 σ_7 e3).2 σ_10 e5) (fun r_14 σ_13 f h6 => (have f6 : Fr wX_readEquation σ0 σ_13 := (f5.trans (f.weak (by decide +kernel))); ite_m (fun _ h7 => kQ _ _ f6 h7) (fun _ h7 => fun σ_18 e8 => (have f8 : Fr wX_readEquation σ0 σ_18 := Fr.putI f6 e8 rfl; fun σ_21 e9 => (have f9 : Fr wX_readEquation σ0 σ_21 := Fr.putI f8 e9 rfl; ⟨((h7 σ_18 e8) σ_21 e9).1, fun σ_23 e11 => (have f11 : Fr wX_readEquation σ0 σ_23 := Fr.putA f9 e11 rfl; fm_x_readSides (((h7 σ_18 e8) σ_21 e9).2 σ_23 e11) (fun r_27 σ_26 f h12 => (have f12 : Fr wX_readEquation σ0 σ_26 := (f11.trans (f.weak (by decide +kernel))); kQ _ _ f12 h12)))⟩))) h6)))⟩)⟩))) h
theorem fm_x_isLess {σ0 : S} {Q Q2 : Int → S → Prop} (h : x_isLess  σ0 Q) (kQ : ∀ r s, Fr wX_isLess σ0 s → Q r s → Q2 r s) : x_isLess  σ0 Q2 := by
  have fr : Fr wX_isLess σ0 σ0 := Fr.rf
  unfold x_isLess at h ⊢
  exact fm_x_isWordText h (fun r_2 σ_1 f h0 => (have f0 : Fr wX_isLess σ0 σ_1 := (fr.trans (f.weak (by decide +kernel))); kQ _ _ f0 h0))
theorem fx_readNames_j7 {σ0 σ : S} {Q Q2 : Int → S → Prop} (fr : Fr wX_readNames σ0 σ) (h : x_readNames_j7  σ Q) (kQ : ∀ r s, Fr wX_readNames σ0 s → Q r s → Q2 r s) : x_readNames_j7  σ Q2 := by
  unfold x_readNames_j7 at h ⊢
  exact fm_x_wrong h (fun r_19 σ_18 f h0 => (have f0 : Fr wX_readNames σ0 σ_18 := (fr.trans (f.weak (by decide +kernel))); kQ _ _ f0 h0))
theorem fx_readNames_L0_b {σ0 σ : S} {Q Q2 : Int → S → Prop} {X0 X02 : S → Prop} (fr : Fr wX_readNames σ0 σ) (h : x_isLess σ (fun r_2 σ_1 => (if r_2 = 0 then x_expect σ_1 (fun r_6 σ_5 => (if r_6 = 0 then Q 0 σ_5 else x_isWord σ_5 (fun r_10 σ_9 => (if r_10 = 0 then Q 1 σ_9 else x_isLess σ_9 (fun r_14 σ_13 => (if r_14 = 0 then X0 σ_13 else Q 1 σ_13)))))) else x_readNames_j7 σ_1 Q))) (kQ : ∀ r s, Fr wX_readNames σ0 s → Q r s → Q2 r s) (kX0 : ∀  s, Fr wX_readNames σ0 s → X0  s → X02  s) : x_isLess σ (fun r_2 σ_1 => (if r_2 = 0 then x_expect σ_1 (fun r_6 σ_5 => (if r_6 = 0 then Q2 0 σ_5 else x_isWord σ_5 (fun r_10 σ_9 => (if r_10 = 0 then Q2 1 σ_9 else x_isLess σ_9 (fun r_14 σ_13 => (if r_14 = 0 then X02 σ_13 else Q2 1 σ_13)))))) else x_readNames_j7 σ_1 Q2)) :=
  fm_x_isLess h (fun r_2 σ_1 f h0 => (have f0 : Fr wX_readNames σ0 σ_1 := (fr.trans (f.weak (by decide +kernel))); ite_m (fun _ h1 => fm_x_expect h1 (fun r_6 σ_5 f h2 => (have f2 : Fr wX_readNames σ0 σ_5 := (f0.trans (f.weak (by decide +kernel))); ite_m (fun _ h3 => kQ _ _ f2 h3) (fun _ h3 => fm_x_isWord h3 (fun r_10 σ_9 f h4 => (have f4 : Fr wX_readNames σ0 σ_9 := (f2.trans (f.weak (by decide +kernel))); ite_m (fun _ h5 => kQ _ _ f4 h5) (fun _ h5 => fm_x_isLess h5 (fun r_14 σ_13 f h6 => (have f6 : Fr wX_readNames σ0 σ_13 := (f4.trans (f.weak (by decide +kernel))); ite_m (fun _ h7 => kX0 _ f6 h7) (fun _ h7 => kQ _ _ f6 h7) h6))) h4))) h2))) (fun _ h1 => fx_readNames_j7 f0 h1 kQ) h0))
theorem fx_readNames_L0 {σ0 σ : S} {Q Q2 : Int → S → Prop} (fr : Fr wX_readNames σ0 σ) (h : x_readNames_L0  σ Q) (kQ : ∀ r s, Fr wX_readNames σ0 s → Q r s → Q2 r s) : x_readNames_L0  σ Q2 := by
  unfold x_readNames_L0 at h ⊢
  intro Y hY
  exact h (fun s => Fr wX_readNames σ0 s → Y s) (fun s h f => hY s (fx_readNames_L0_b (Q := Q) (Q2 := Q2) (X0 := fun s => Fr wX_readNames σ0 s → Y s) (X02 := Y) f h kQ (fun s f h => h f))) fr
theorem lx_readNames_L0 {σ0 : S} {Q : Int → S → Prop} (I : S → Prop) (me : S → Nat) (h0 : I  σ0) (step : ∀  (s : S), Fr wX_readNames σ0 s → I s → (fun (Y0 : S → Prop) => x_isLess s (fun r_2 σ_1 => (if r_2 = 0 then x_expect σ_1 (fun r_6 σ_5 => (if r_6 = 0 then Q 0 σ_5 else x_isWord σ_5 (fun r_10 σ_9 => (if r_10 = 0 then Q 1 σ_9 else x_isLess σ_9 (fun r_14 σ_13 => (if r_14 = 0 then Y0 σ_13 else Q 1 σ_13)))))) else x_readNames_j7 σ_1 Q))) (fun s' => I s' ∧ me s' < me s)) : x_readNames_L0  σ0 Q := by
  unfold x_readNames_L0
  intro Y hY
  have key : ∀ (n : Nat)  (s : S), me s < n → Fr wX_readNames σ0 s → I s → Y s := by
    intro n
    induction n with
    | zero => intro s h; exact absurd h (Nat.not_lt_zero _)
    | succ n ih =>
      intro s hm fr hi
      exact hY s (fx_readNames_L0_b (Q := Q) (Q2 := Q) (X0 := (fun s' => I s' ∧ me s' < me s)) (X02 := Y) fr (step s fr hi) (fun _ _ _ h => h) (fun s f h => ih s (by omega) f h.1))
  exact key _  σ0 (Nat.lt_succ_self _) Fr.rf h0
theorem fm_x_readNames {σ0 : S} {Q Q2 : Int → S → Prop} (h : x_readNames  σ0 Q) (kQ : ∀ r s, Fr wX_readNames σ0 s → Q r s → Q2 r s) : x_readNames  σ0 Q2 := by
  have fr : Fr wX_readNames σ0 σ0 := Fr.rf
  unfold x_readNames at h ⊢
  exact fx_readNames_L0 fr h kQ
theorem fx_readLess_j118 {σ0 σ : S} {Q Q2 : Int → S → Prop} (fr : Fr wX_readLess σ0 σ) (h : x_readLess_j118  σ Q) (kQ : ∀ r s, Fr wX_readLess σ0 s → Q r s → Q2 r s) : x_readLess_j118  σ Q2 := by
  unfold x_readLess_j118 at h ⊢
  exact fm_x_take h (fun r_15 σ_14 f h0 => (have f0 : Fr wX_readLess σ0 σ_14 := (fr.trans (f.weak (by decide +kernel))); kQ _ _ f0 h0))
theorem fx_readLess_L31_b {v1 : Int} {σ0 σ : S} {Q Q2 : Int → S → Prop} {X31 X312 : Int → S → Prop} (fr : Fr wX_readLess σ0 σ) (h : x_isLess σ (fun r_11 σ_10 => (if r_11 = 0 then x_readLess_j118 σ_10 Q else x_step σ_10 (fun r_18 σ_17 => (if r_18 = 0 then Q 0 σ_17 else x_readNames σ_17 (fun r_22 σ_21 => (if r_22 = 0 then Q 0 σ_21 else inb (gI σ_21 24) 460 ∧ ∀ σ_26, σ_26 = pA σ_21 10 (gI σ_21 24) (gI σ_10 17) → inb (gI σ_26 24) 460 ∧ ∀ σ_30, σ_30 = pA σ_26 11 (gI σ_26 24) v1 → inb (gI σ_30 24) 460 ∧ ∀ σ_34, σ_34 = pA σ_30 12 (gI σ_30 24) (w32 (gI σ_10 17 + 1)) → ∀ σ_38, σ_38 = pI σ_34 24 (w32 (gI σ_34 24 + 1)) → inb (gI σ_34 24) 460 ∧ ∀ σ_41, σ_41 = pA σ_38 13 (gI σ_34 24) (gI σ_38 17) → X31 (w32 (gI σ_10 17 + 1)) σ_41))))))) (kQ : ∀ r s, Fr wX_readLess σ0 s → Q r s → Q2 r s) (kX31 : ∀ v1 s, Fr wX_readLess σ0 s → X31 v1 s → X312 v1 s) : x_isLess σ (fun r_11 σ_10 => (if r_11 = 0 then x_readLess_j118 σ_10 Q2 else x_step σ_10 (fun r_18 σ_17 => (if r_18 = 0 then Q2 0 σ_17 else x_readNames σ_17 (fun r_22 σ_21 => (if r_22 = 0 then Q2 0 σ_21 else inb (gI σ_21 24) 460 ∧ ∀ σ_26, σ_26 = pA σ_21 10 (gI σ_21 24) (gI σ_10 17) → inb (gI σ_26 24) 460 ∧ ∀ σ_30, σ_30 = pA σ_26 11 (gI σ_26 24) v1 → inb (gI σ_30 24) 460 ∧ ∀ σ_34, σ_34 = pA σ_30 12 (gI σ_30 24) (w32 (gI σ_10 17 + 1)) → ∀ σ_38, σ_38 = pI σ_34 24 (w32 (gI σ_34 24 + 1)) → inb (gI σ_34 24) 460 ∧ ∀ σ_41, σ_41 = pA σ_38 13 (gI σ_34 24) (gI σ_38 17) → X312 (w32 (gI σ_10 17 + 1)) σ_41)))))) :=
  fm_x_isLess h (fun r_11 σ_10 f h0 => (have f0 : Fr wX_readLess σ0 σ_10 := (fr.trans (f.weak (by decide +kernel))); ite_m (fun _ h1 => fx_readLess_j118 f0 h1 kQ) (fun _ h1 => fm_x_step h1 (fun r_18 σ_17 f h2 => (have f2 : Fr wX_readLess σ0 σ_17 := (f0.trans (f.weak (by decide +kernel))); ite_m (fun _ h3 => kQ _ _ f2 h3) (fun _ h3 => fm_x_readNames h3 (fun r_22 σ_21 f h4 => (have f4 : Fr wX_readLess σ0 σ_21 := (f2.trans (f.weak (by decide +kernel))); ite_m (fun _ h5 => kQ _ _ f4 h5) (fun _ h5 => ⟨h5.1, fun σ_26 e7 => (have f7 : Fr wX_readLess σ0 σ_26 := Fr.putA f4 e7 rfl; ⟨(h5.2 σ_26 e7).1, fun σ_30 e9 => (have f9 : Fr wX_readLess σ0 σ_30 := Fr.putA f7 e9 rfl; ⟨((h5.2 σ_26 e7).2 σ_30 e9).1, fun σ_34 e11 => (have f11 : Fr wX_readLess σ0 σ_34 := Fr.putA f9 e11 rfl; fun σ_38 e12 => (have f12 : Fr wX_readLess σ0 σ_38 := Fr.putI f11 e12 rfl; ⟨((((h5.2 σ_26 e7).2 σ_30 e9).2 σ_34 e11) σ_38 e12).1, fun σ_41 e14 => (have f14 : Fr wX_readLess σ0 σ_41 := Fr.putA f12 e14 rfl; kX31 _ _ f14 (((((h5.2 σ_26 e7).2 σ_30 e9).2 σ_34 e11) σ_38 e12).2 σ_41 e14))⟩))⟩)⟩)⟩) h4))) h2))) h0))
theorem fx_readLess_L31 {v1 : Int} {σ0 σ : S} {Q Q2 : Int → S → Prop} (fr : Fr wX_readLess σ0 σ) (h : x_readLess_L31 v1 σ Q) (kQ : ∀ r s, Fr wX_readLess σ0 s → Q r s → Q2 r s) : x_readLess_L31 v1 σ Q2 := by
  unfold x_readLess_L31 at h ⊢
  intro Y hY
  exact h (fun v1 s => Fr wX_readLess σ0 s → Y v1 s) (fun v1 s h f => hY v1 s (fx_readLess_L31_b (v1 := v1) (Q := Q) (Q2 := Q2) (X31 := fun v1 s => Fr wX_readLess σ0 s → Y v1 s) (X312 := Y) f h kQ (fun v1 s f h => h f))) fr
theorem lx_readLess_L31 {v1 : Int} {σ0 : S} {Q : Int → S → Prop} (I : Int → S → Prop) (me : Int → S → Nat) (h0 : I v1 σ0) (step : ∀ (v1 : Int) (s : S), Fr wX_readLess σ0 s → I v1 s → (fun (Y0 : Int → S → Prop) => x_isLess s (fun r_11 σ_10 => (if r_11 = 0 then x_readLess_j118 σ_10 Q else x_step σ_10 (fun r_18 σ_17 => (if r_18 = 0 then Q 0 σ_17 else x_readNames σ_17 (fun r_22 σ_21 => (if r_22 = 0 then Q 0 σ_21 else inb (gI σ_21 24) 460 ∧ ∀ σ_26, σ_26 = pA σ_21 10 (gI σ_21 24) (gI σ_10 17) → inb (gI σ_26 24) 460 ∧ ∀ σ_30, σ_30 = pA σ_26 11 (gI σ_26 24) v1 → inb (gI σ_30 24) 460 ∧ ∀ σ_34, σ_34 = pA σ_30 12 (gI σ_30 24) (w32 (gI σ_10 17 + 1)) → ∀ σ_38, σ_38 = pI σ_34 24 (w32 (gI σ_34 24 + 1)) → inb (gI σ_34 24) 460 ∧ ∀ σ_41, σ_41 = pA σ_38 13 (gI σ_34 24) (gI σ_38 17) → Y0 (w32 (gI σ_10 17 + 1)) σ_41))))))) (fun v1' s' => I v1' s' ∧ me v1' s' < me v1 s)) : x_readLess_L31 v1 σ0 Q := by
  unfold x_readLess_L31
  intro Y hY
  have key : ∀ (n : Nat) (v1 : Int) (s : S), me v1 s < n → Fr wX_readLess σ0 s → I v1 s → Y v1 s := by
    intro n
    induction n with
    | zero => intro v1 s h; exact absurd h (Nat.not_lt_zero _)
    | succ n ih =>
      intro v1 s hm fr hi
      exact hY v1 s (fx_readLess_L31_b (v1 := v1) (Q := Q) (Q2 := Q) (X31 := (fun v1' s' => I v1' s' ∧ me v1' s' < me v1 s)) (X312 := Y) fr (step v1 s fr hi) (fun _ _ _ h => h) (fun v1 s f h => ih v1 s (by omega) f h.1))
  exact key _ v1 σ0 (Nat.lt_succ_self _) Fr.rf h0
theorem fm_x_readLess {σ0 : S} {Q Q2 : Int → S → Prop} (h : x_readLess  σ0 Q) (kQ : ∀ r s, Fr wX_readLess σ0 s → Q r s → Q2 r s) : x_readLess  σ0 Q2 := by
  have fr : Fr wX_readLess σ0 σ0 := Fr.rf
  unfold x_readLess at h ⊢
  exact fm_x_readNames h (fun r_3 σ_2 f h0 => (have f0 : Fr wX_readLess σ0 σ_2 := (fr.trans (f.weak (by decide +kernel))); ite_m (fun _ h1 => kQ _ _ f0 h1) (fun _ h1 => fm_x_isLess h1 (fun r_7 σ_6 f h2 => (have f2 : Fr wX_readLess σ0 σ_6 := (f0.trans (f.weak (by decide +kernel))); ite_m (fun _ h3 => fm_x_wrong h3 (fun r_46 σ_45 f h4 => (have f4 : Fr wX_readLess σ0 σ_45 := (f2.trans (f.weak (by decide +kernel))); kQ _ _ f4 h4))) (fun _ h3 => fx_readLess_L31 f2 h3 kQ) h2))) h0))
theorem fm_x_isDigit {v0 : Int} {σ0 : S} {Q Q2 : Int → S → Prop} (h : x_isDigit v0 σ0 Q) (kQ : ∀ r s, Fr wX_isDigit σ0 s → Q r s → Q2 r s) : x_isDigit v0 σ0 Q2 := by
  have fr : Fr wX_isDigit σ0 σ0 := Fr.rf
  unfold x_isDigit at h ⊢
  exact kQ _ _ fr h
theorem fm_x_mark {v1 : Int} {v2 : Int} {σ0 : S} {Q Q2 : Int → S → Prop} (h : x_mark v1 v2 σ0 Q) (kQ : ∀ r s, Fr wX_mark σ0 s → Q r s → Q2 r s) : x_mark v1 v2 σ0 Q2 := by
  have fr : Fr wX_mark σ0 σ0 := Fr.rf
  unfold x_mark at h ⊢
  exact ⟨h.1, ⟨h.2.1, ⟨h.2.2.1, fun σ_9 e3 => (have f3 : Fr wX_mark σ0 σ_9 := Fr.putA fr e3 rfl; kQ _ _ f3 (h.2.2.2 σ_9 e3))⟩⟩⟩
theorem fx_readAttribute_j20 {v1 : Int} {σ0 σ : S} {Q Q2 : Int → S → Prop} (fr : Fr wX_readAttribute σ0 σ) (h : x_readAttribute_j20 v1 σ Q) (kQ : ∀ r s, Fr wX_readAttribute σ0 s → Q r s → Q2 r s) : x_readAttribute_j20 v1 σ Q2 := by
  unfold x_readAttribute_j20 at h ⊢
  exact fm_x_isWordText h (fun r_6 σ_5 f h0 => (have f0 : Fr wX_readAttribute σ0 σ_5 := (fr.trans (f.weak (by decide +kernel))); fm_x_mark h0 (fun _ σ_11 f h1 => (have f1 : Fr wX_readAttribute σ0 σ_11 := (f0.trans (f.weak (by decide +kernel))); fm_x_step h1 (fun r_13 σ_12 f h2 => (have f2 : Fr wX_readAttribute σ0 σ_12 := (f1.trans (f.weak (by decide +kernel))); kQ _ _ f2 h2))))))
theorem fx_readAttribute_j311 {v1 : Int} {σ0 σ : S} {Q Q2 : Int → S → Prop} {X281 X2812 : S → Prop} (fr : Fr wX_readAttribute σ0 σ) (h : x_readAttribute_j311 v1 σ Q X281) (kQ : ∀ r s, Fr wX_readAttribute σ0 s → Q r s → Q2 r s) (kX281 : ∀  s, Fr wX_readAttribute σ0 s → X281  s → X2812  s) : x_readAttribute_j311 v1 σ Q2 X2812 := by
  unfold x_readAttribute_j311 at h ⊢
  exact fm_x_step h (fun r_44 σ_43 f h0 => (have f0 : Fr wX_readAttribute σ0 σ_43 := (fr.trans (f.weak (by decide +kernel))); ite_m (fun _ h1 => kQ _ _ f0 h1) (fun _ h1 => kX281 _ f0 h1) h0))
theorem fx_readAttribute_j320 {v1 : Int} {σ0 σ : S} {Q Q2 : Int → S → Prop} (fr : Fr wX_readAttribute σ0 σ) (h : x_readAttribute_j320 v1 σ Q) (kQ : ∀ r s, Fr wX_readAttribute σ0 s → Q r s → Q2 r s) : x_readAttribute_j320 v1 σ Q2 := by
  unfold x_readAttribute_j320 at h ⊢
  exact ⟨h.1, ⟨h.2.1, fun σ_58 e2 => (have f2 : Fr wX_readAttribute σ0 σ_58 := Fr.putA fr e2 rfl; kQ _ _ f2 (h.2.2 σ_58 e2))⟩⟩
theorem fx_readAttribute_L281_b {v1 : Int} {σ0 σ : S} {Q Q2 : Int → S → Prop} {X281 X2812 : S → Prop} (fr : Fr wX_readAttribute σ0 σ) (h : x_isWordText 21 σ (fun r_40 σ_39 => (if r_40 = 0 then x_isWordText 22 σ_39 (fun r_48 σ_47 => (if r_48 = 0 then x_isWordText 23 σ_47 (fun r_52 σ_51 => (if r_52 = 0 then x_readAttribute_j320 v1 σ_51 Q else x_readAttribute_j311 v1 σ_51 Q X281)) else x_readAttribute_j311 v1 σ_47 Q X281)) else x_readAttribute_j311 v1 σ_39 Q X281))) (kQ : ∀ r s, Fr wX_readAttribute σ0 s → Q r s → Q2 r s) (kX281 : ∀  s, Fr wX_readAttribute σ0 s → X281  s → X2812  s) : x_isWordText 21 σ (fun r_40 σ_39 => (if r_40 = 0 then x_isWordText 22 σ_39 (fun r_48 σ_47 => (if r_48 = 0 then x_isWordText 23 σ_47 (fun r_52 σ_51 => (if r_52 = 0 then x_readAttribute_j320 v1 σ_51 Q2 else x_readAttribute_j311 v1 σ_51 Q2 X2812)) else x_readAttribute_j311 v1 σ_47 Q2 X2812)) else x_readAttribute_j311 v1 σ_39 Q2 X2812)) :=
  fm_x_isWordText h (fun r_40 σ_39 f h0 => (have f0 : Fr wX_readAttribute σ0 σ_39 := (fr.trans (f.weak (by decide +kernel))); ite_m (fun _ h1 => fm_x_isWordText h1 (fun r_48 σ_47 f h2 => (have f2 : Fr wX_readAttribute σ0 σ_47 := (f0.trans (f.weak (by decide +kernel))); ite_m (fun _ h3 => fm_x_isWordText h3 (fun r_52 σ_51 f h4 => (have f4 : Fr wX_readAttribute σ0 σ_51 := (f2.trans (f.weak (by decide +kernel))); ite_m (fun _ h5 => fx_readAttribute_j320 f4 h5 kQ) (fun _ h5 => fx_readAttribute_j311 f4 h5 kQ kX281) h4))) (fun _ h3 => fx_readAttribute_j311 f2 h3 kQ kX281) h2))) (fun _ h1 => fx_readAttribute_j311 f0 h1 kQ kX281) h0))
theorem fx_readAttribute_L281 {v1 : Int} {σ0 σ : S} {Q Q2 : Int → S → Prop} (fr : Fr wX_readAttribute σ0 σ) (h : x_readAttribute_L281 v1 σ Q) (kQ : ∀ r s, Fr wX_readAttribute σ0 s → Q r s → Q2 r s) : x_readAttribute_L281 v1 σ Q2 := by
  unfold x_readAttribute_L281 at h ⊢
  intro Y hY
  exact h (fun s => Fr wX_readAttribute σ0 s → Y s) (fun s h f => hY s (fx_readAttribute_L281_b (v1 := v1) (Q := Q) (Q2 := Q2) (X281 := fun s => Fr wX_readAttribute σ0 s → Y s) (X2812 := Y) f h kQ (fun s f h => h f))) fr
theorem lx_readAttribute_L281 {v1 : Int} {σ0 : S} {Q : Int → S → Prop} (I : S → Prop) (me : S → Nat) (h0 : I  σ0) (step : ∀  (s : S), Fr wX_readAttribute σ0 s → I s → (fun (Y0 : S → Prop) => x_isWordText 21 s (fun r_40 σ_39 => (if r_40 = 0 then x_isWordText 22 σ_39 (fun r_48 σ_47 => (if r_48 = 0 then x_isWordText 23 σ_47 (fun r_52 σ_51 => (if r_52 = 0 then x_readAttribute_j320 v1 σ_51 Q else x_readAttribute_j311 v1 σ_51 Q Y0)) else x_readAttribute_j311 v1 σ_47 Q Y0)) else x_readAttribute_j311 v1 σ_39 Q Y0))) (fun s' => I s' ∧ me s' < me s)) : x_readAttribute_L281 v1 σ0 Q := by
  unfold x_readAttribute_L281
  intro Y hY
  have key : ∀ (n : Nat)  (s : S), me s < n → Fr wX_readAttribute σ0 s → I s → Y s := by
    intro n
    induction n with
    | zero => intro s h; exact absurd h (Nat.not_lt_zero _)
    | succ n ih =>
      intro s hm fr hi
      exact hY s (fx_readAttribute_L281_b (v1 := v1) (Q := Q) (Q2 := Q) (X281 := (fun s' => I s' ∧ me s' < me s)) (X2812 := Y) fr (step s fr hi) (fun _ _ _ h => h) (fun s f h => ih s (by omega) f h.1))
  exact key _  σ0 (Nat.lt_succ_self _) Fr.rf h0
theorem fx_readAttribute_j173 {σ0 σ : S} {Q Q2 : Int → S → Prop} (fr : Fr wX_readAttribute σ0 σ) (h : x_readAttribute_j173  σ Q) (kQ : ∀ r s, Fr wX_readAttribute σ0 s → Q r s → Q2 r s) : x_readAttribute_j173  σ Q2 := by
  unfold x_readAttribute_j173 at h ⊢
  exact fm_x_wrong h (fun r_87 σ_86 f h0 => (have f0 : Fr wX_readAttribute σ0 σ_86 := (fr.trans (f.weak (by decide +kernel))); kQ _ _ f0 h0))
theorem fm_x_readAttribute {v1 : Int} {σ0 : S} {Q Q2 : Int → S → Prop} (h : x_readAttribute v1 σ0 Q) (kQ : ∀ r s, Fr wX_readAttribute σ0 s → Q r s → Q2 r s) : x_readAttribute v1 σ0 Q2 := by
  have fr : Fr wX_readAttribute σ0 σ0 := Fr.rf
  unfold x_readAttribute at h ⊢
  exact fm_x_isWordText h (fun r_2 σ_1 f h0 => (have f0 : Fr wX_readAttribute σ0 σ_1 := (fr.trans (f.weak (by decide +kernel))); ite_m (fun _ h1 => fm_x_isWordText h1 (fun r_15 σ_14 f h2 => (have f2 : Fr wX_readAttribute σ0 σ_14 := (f0.trans (f.weak (by decide +kernel))); ite_m (fun _ h3 => fm_x_isWordText h3 (fun r_19 σ_18 f h4 => (have f4 : Fr wX_readAttribute σ0 σ_18 := (f2.trans (f.weak (by decide +kernel))); ite_m (fun _ h5 => fm_x_isWordText h5 (fun r_23 σ_22 f h6 => (have f6 : Fr wX_readAttribute σ0 σ_22 := (f4.trans (f.weak (by decide +kernel))); ite_m (fun _ h7 => fm_x_isWordText h7 (fun r_27 σ_26 f h8 => (have f8 : Fr wX_readAttribute σ0 σ_26 := (f6.trans (f.weak (by decide +kernel))); ite_m (fun _ h9 => fm_x_wrong h9 (fun r_63 σ_62 f h10 => (have f10 : Fr wX_readAttribute σ0 σ_62 := (f8.trans (f.weak (by decide +kernel))); kQ _ _ f10 h10))) (fun _ h9 => fm_x_mark h9 (fun _ σ_30 f h10 => (have f10 : Fr wX_readAttribute σ0 σ_30 := (f8.trans (f.weak (by decide +kernel))); fm_x_step h10 (fun r_32 σ_31 f h11 => (have f11 : Fr wX_readAttribute σ0 σ_31 := (f10.trans (f.weak (by decide +kernel))); ite_m (fun _ h12 => kQ _ _ f11 h12) (fun _ h12 => ⟨h12.1, fun σ_36 e14 => (have f14 : Fr wX_readAttribute σ0 σ_36 := Fr.putA f11 e14 rfl; fx_readAttribute_L281 f14 (h12.2 σ_36 e14) kQ)⟩) h11))))) h8))) (fun _ h7 => fm_x_mark h7 (fun _ σ_64 f h8 => (have f8 : Fr wX_readAttribute σ0 σ_64 := (f6.trans (f.weak (by decide +kernel))); fm_x_step h8 (fun r_66 σ_65 f h9 => (have f9 : Fr wX_readAttribute σ0 σ_65 := (f8.trans (f.weak (by decide +kernel))); ite_m (fun _ h10 => kQ _ _ f9 h10) (fun _ h10 => ⟨h10.1, ⟨h10.2.1, fm_x_isWord h10.2.2 (fun r_76 σ_75 f h13 => (have f13 : Fr wX_readAttribute σ0 σ_75 := (f9.trans (f.weak (by decide +kernel))); ite_m (fun _ h14 => ⟨h14.1, fm_x_isDigit h14.2 (fun r_82 σ_81 f h16 => (have f16 : Fr wX_readAttribute σ0 σ_81 := (f13.trans (f.weak (by decide +kernel))); ite_m (fun _ h17 => fx_readAttribute_j173 f16 h17 kQ) (fun _ h17 => ⟨h17.1, fm_x_isDigit h17.2 (fun r_91 σ_90 f h19 => (have f19 : Fr wX_readAttribute σ0 σ_90 := (f16.trans (f.weak (by decide +kernel))); ite_m (fun _ h20 => fx_readAttribute_j173 f19 h20 kQ) (fun _ h20 => ⟨h20.1, ⟨h20.2.1, ⟨h20.2.2.1, ⟨h20.2.2.2.1, fun σ_104 e25 => (have f25 : Fr wX_readAttribute σ0 σ_104 := Fr.putA f19 e25 rfl; fm_x_step (h20.2.2.2.2 σ_104 e25) (fun r_108 σ_107 f h26 => (have f26 : Fr wX_readAttribute σ0 σ_107 := (f25.trans (f.weak (by decide +kernel))); kQ _ _ f26 h26)))⟩⟩⟩⟩) h19))⟩) h16))⟩) (fun _ h14 => fx_readAttribute_j173 f13 h14 kQ) h13))⟩⟩) h9))))) h6))) (fun _ h5 => fm_x_mark h5 (fun _ σ_112 f h6 => (have f6 : Fr wX_readAttribute σ0 σ_112 := (f4.trans (f.weak (by decide +kernel))); fm_x_step h6 (fun r_114 σ_113 f h7 => (have f7 : Fr wX_readAttribute σ0 σ_113 := (f6.trans (f.weak (by decide +kernel))); ite_m (fun _ h8 => kQ _ _ f7 h8) (fun _ h8 => ⟨h8.1, fun σ_118 e10 => (have f10 : Fr wX_readAttribute σ0 σ_118 := Fr.putA f7 e10 rfl; fm_x_expect (h8.2 σ_118 e10) (fun r_122 σ_121 f h11 => (have f11 : Fr wX_readAttribute σ0 σ_121 := (f10.trans (f.weak (by decide +kernel))); kQ _ _ f11 h11)))⟩) h7))))) h4))) (fun _ h3 => fx_readAttribute_j20 f2 h3 kQ) h2))) (fun _ h1 => fx_readAttribute_j20 f0 h1 kQ) h0))
theorem fx_readRow_j231 {σ0 σ : S} {Q Q2 : Int → S → Prop} (fr : Fr wX_readRow σ0 σ) (h : x_readRow_j231  σ Q) (kQ : ∀ r s, Fr wX_readRow σ0 s → Q r s → Q2 r s) : x_readRow_j231  σ Q2 := by
  unfold x_readRow_j231 at h ⊢
  exact fm_x_take h (fun r_68 σ_67 f h0 => (have f0 : Fr wX_readRow σ0 σ_67 := (fr.trans (f.weak (by decide +kernel))); kQ _ _ f0 h0))
theorem fx_readRow_j222 {σ0 σ : S} {Q Q2 : Int → S → Prop} (fr : Fr wX_readRow σ0 σ) (h : x_readRow_j222  σ Q) (kQ : ∀ r s, Fr wX_readRow σ0 s → Q r s → Q2 r s) : x_readRow_j222  σ Q2 := by
  unfold x_readRow_j222 at h ⊢
  exact fm_x_step h (fun r_82 σ_81 f h0 => (have f0 : Fr wX_readRow σ0 σ_81 := (fr.trans (f.weak (by decide +kernel))); ite_m (fun _ h1 => kQ _ _ f0 h1) (fun _ h1 => fx_readRow_j231 f0 h1 kQ) h0))
theorem fx_readRow_L203_b {v1 : Int} {σ0 σ : S} {Q Q2 : Int → S → Prop} {X203 X2032 : S → Prop} (fr : Fr wX_readRow σ0 σ) (h : x_readAttribute v1 σ (fun r_74 σ_73 => (if r_74 = 0 then Q 0 σ_73 else x_isSign 93 σ_73 (fun r_78 σ_77 => (if r_78 = 0 then X203 σ_77 else x_readRow_j222 σ_77 Q))))) (kQ : ∀ r s, Fr wX_readRow σ0 s → Q r s → Q2 r s) (kX203 : ∀  s, Fr wX_readRow σ0 s → X203  s → X2032  s) : x_readAttribute v1 σ (fun r_74 σ_73 => (if r_74 = 0 then Q2 0 σ_73 else x_isSign 93 σ_73 (fun r_78 σ_77 => (if r_78 = 0 then X2032 σ_77 else x_readRow_j222 σ_77 Q2)))) :=
  fm_x_readAttribute h (fun r_74 σ_73 f h0 => (have f0 : Fr wX_readRow σ0 σ_73 := (fr.trans (f.weak (by decide +kernel))); ite_m (fun _ h1 => kQ _ _ f0 h1) (fun _ h1 => fm_x_isSign h1 (fun r_78 σ_77 f h2 => (have f2 : Fr wX_readRow σ0 σ_77 := (f0.trans (f.weak (by decide +kernel))); ite_m (fun _ h3 => kX203 _ f2 h3) (fun _ h3 => fx_readRow_j222 f2 h3 kQ) h2))) h0))
theorem fx_readRow_L203 {v1 : Int} {σ0 σ : S} {Q Q2 : Int → S → Prop} (fr : Fr wX_readRow σ0 σ) (h : x_readRow_L203 v1 σ Q) (kQ : ∀ r s, Fr wX_readRow σ0 s → Q r s → Q2 r s) : x_readRow_L203 v1 σ Q2 := by
  unfold x_readRow_L203 at h ⊢
  intro Y hY
  exact h (fun s => Fr wX_readRow σ0 s → Y s) (fun s h f => hY s (fx_readRow_L203_b (v1 := v1) (Q := Q) (Q2 := Q2) (X203 := fun s => Fr wX_readRow σ0 s → Y s) (X2032 := Y) f h kQ (fun s f h => h f))) fr
theorem lx_readRow_L203 {v1 : Int} {σ0 : S} {Q : Int → S → Prop} (I : S → Prop) (me : S → Nat) (h0 : I  σ0) (step : ∀  (s : S), Fr wX_readRow σ0 s → I s → (fun (Y0 : S → Prop) => x_readAttribute v1 s (fun r_74 σ_73 => (if r_74 = 0 then Q 0 σ_73 else x_isSign 93 σ_73 (fun r_78 σ_77 => (if r_78 = 0 then Y0 σ_77 else x_readRow_j222 σ_77 Q))))) (fun s' => I s' ∧ me s' < me s)) : x_readRow_L203 v1 σ0 Q := by
  unfold x_readRow_L203
  intro Y hY
  have key : ∀ (n : Nat)  (s : S), me s < n → Fr wX_readRow σ0 s → I s → Y s := by
    intro n
    induction n with
    | zero => intro s h; exact absurd h (Nat.not_lt_zero _)
    | succ n ih =>
      intro s hm fr hi
      exact hY s (fx_readRow_L203_b (v1 := v1) (Q := Q) (Q2 := Q) (X203 := (fun s' => I s' ∧ me s' < me s)) (X2032 := Y) fr (step s fr hi) (fun _ _ _ h => h) (fun s f h => ih s (by omega) f h.1))
  exact key _  σ0 (Nat.lt_succ_self _) Fr.rf h0
theorem fx_readRow_j141 {v1 : Int} {σ0 σ : S} {Q Q2 : Int → S → Prop} (fr : Fr wX_readRow σ0 σ) (h : x_readRow_j141 v1 σ Q) (kQ : ∀ r s, Fr wX_readRow σ0 s → Q r s → Q2 r s) : x_readRow_j141 v1 σ Q2 := by
  unfold x_readRow_j141 at h ⊢
  exact ⟨h.1, fun σ_46 e1 => (have f1 : Fr wX_readRow σ0 σ_46 := Fr.putA fr e1 rfl; fm_x_take (h.2 σ_46 e1) (fun r_50 σ_49 f h2 => (have f2 : Fr wX_readRow σ0 σ_49 := (f1.trans (f.weak (by decide +kernel))); ite_m (fun _ h3 => kQ _ _ f2 h3) (fun _ h3 => fm_x_expect h3 (fun r_54 σ_53 f h4 => (have f4 : Fr wX_readRow σ0 σ_53 := (f2.trans (f.weak (by decide +kernel))); ite_m (fun _ h5 => kQ _ _ f4 h5) (fun _ h5 => ⟨h5.1, fun σ_57 e7 => (have f7 : Fr wX_readRow σ0 σ_57 := Fr.putA f4 e7 rfl; fun σ_61 e8 => (have f8 : Fr wX_readRow σ0 σ_61 := Fr.putI f7 e8 rfl; fm_x_isSign ((h5.2 σ_57 e7) σ_61 e8) (fun r_64 σ_63 f h9 => (have f9 : Fr wX_readRow σ0 σ_63 := (f8.trans (f.weak (by decide +kernel))); ite_m (fun _ h10 => fx_readRow_j231 f9 h10 kQ) (fun _ h10 => fm_x_step h10 (fun r_70 σ_69 f h11 => (have f11 : Fr wX_readRow σ0 σ_69 := (f9.trans (f.weak (by decide +kernel))); ite_m (fun _ h12 => kQ _ _ f11 h12) (fun _ h12 => fx_readRow_L203 f11 h12 kQ) h11))) h9))))⟩) h4))) h2)))⟩
theorem fx_readRow_L125_b {v1 : Int} {σ0 σ : S} {Q Q2 : Int → S → Prop} {X125 X1252 : S → Prop} (fr : Fr wX_readRow σ0 σ) (h : x_isWord σ (fun r_42 σ_41 => (if r_42 = 0 then x_readRow_j141 v1 σ_41 Q else x_step σ_41 (fun r_86 σ_85 => (if r_86 = 0 then Q 0 σ_85 else X125 σ_85))))) (kQ : ∀ r s, Fr wX_readRow σ0 s → Q r s → Q2 r s) (kX125 : ∀  s, Fr wX_readRow σ0 s → X125  s → X1252  s) : x_isWord σ (fun r_42 σ_41 => (if r_42 = 0 then x_readRow_j141 v1 σ_41 Q2 else x_step σ_41 (fun r_86 σ_85 => (if r_86 = 0 then Q2 0 σ_85 else X1252 σ_85)))) :=
  fm_x_isWord h (fun r_42 σ_41 f h0 => (have f0 : Fr wX_readRow σ0 σ_41 := (fr.trans (f.weak (by decide +kernel))); ite_m (fun _ h1 => fx_readRow_j141 f0 h1 kQ) (fun _ h1 => fm_x_step h1 (fun r_86 σ_85 f h2 => (have f2 : Fr wX_readRow σ0 σ_85 := (f0.trans (f.weak (by decide +kernel))); ite_m (fun _ h3 => kQ _ _ f2 h3) (fun _ h3 => kX125 _ f2 h3) h2))) h0))
theorem fx_readRow_L125 {v1 : Int} {σ0 σ : S} {Q Q2 : Int → S → Prop} (fr : Fr wX_readRow σ0 σ) (h : x_readRow_L125 v1 σ Q) (kQ : ∀ r s, Fr wX_readRow σ0 s → Q r s → Q2 r s) : x_readRow_L125 v1 σ Q2 := by
  unfold x_readRow_L125 at h ⊢
  intro Y hY
  exact h (fun s => Fr wX_readRow σ0 s → Y s) (fun s h f => hY s (fx_readRow_L125_b (v1 := v1) (Q := Q) (Q2 := Q2) (X125 := fun s => Fr wX_readRow σ0 s → Y s) (X1252 := Y) f h kQ (fun s f h => h f))) fr
theorem lx_readRow_L125 {v1 : Int} {σ0 : S} {Q : Int → S → Prop} (I : S → Prop) (me : S → Nat) (h0 : I  σ0) (step : ∀  (s : S), Fr wX_readRow σ0 s → I s → (fun (Y0 : S → Prop) => x_isWord s (fun r_42 σ_41 => (if r_42 = 0 then x_readRow_j141 v1 σ_41 Q else x_step σ_41 (fun r_86 σ_85 => (if r_86 = 0 then Q 0 σ_85 else Y0 σ_85))))) (fun s' => I s' ∧ me s' < me s)) : x_readRow_L125 v1 σ0 Q := by
  unfold x_readRow_L125
  intro Y hY
  have key : ∀ (n : Nat)  (s : S), me s < n → Fr wX_readRow σ0 s → I s → Y s := by
    intro n
    induction n with
    | zero => intro s h; exact absurd h (Nat.not_lt_zero _)
    | succ n ih =>
      intro s hm fr hi
      exact hY s (fx_readRow_L125_b (v1 := v1) (Q := Q) (Q2 := Q) (X125 := (fun s' => I s' ∧ me s' < me s)) (X1252 := Y) fr (step s fr hi) (fun _ _ _ h => h) (fun s f h => ih s (by omega) f h.1))
  exact key _  σ0 (Nat.lt_succ_self _) Fr.rf h0
theorem fx_readRow_j82 {v1 : Int} {σ0 σ : S} {Q Q2 : Int → S → Prop} (fr : Fr wX_readRow σ0 σ) (h : x_readRow_j82 v1 σ Q) (kQ : ∀ r s, Fr wX_readRow σ0 s → Q r s → Q2 r s) : x_readRow_j82 v1 σ Q2 := by
  unfold x_readRow_j82 at h ⊢
  exact ⟨h.1, fun σ_29 e1 => (have f1 : Fr wX_readRow σ0 σ_29 := Fr.putA fr e1 rfl; ⟨(h.2 σ_29 e1).1, ite_m (fun _ h3 => fm_x_wrong h3 (fun r_91 σ_90 f h4 => (have f4 : Fr wX_readRow σ0 σ_90 := (f1.trans (f.weak (by decide +kernel))); kQ _ _ f4 h4))) (fun _ h3 => fm_x_take h3 (fun r_38 σ_37 f h4 => (have f4 : Fr wX_readRow σ0 σ_37 := (f1.trans (f.weak (by decide +kernel))); ite_m (fun _ h5 => kQ _ _ f4 h5) (fun _ h5 => fx_readRow_L125 f4 h5 kQ) h4))) (h.2 σ_29 e1).2⟩)⟩
theorem fx_readRow_L53_b {v1 : Int} {σ0 σ : S} {Q Q2 : Int → S → Prop} {X53 X532 : S → Prop} (fr : Fr wX_readRow σ0 σ) (h : x_isWord σ (fun r_18 σ_17 => ((r_18 = 0) → (inb (gI σ_17 17) 902)) ∧ (if ¬ (r_18 = 0) ∨ (gA σ_17 2 (gI σ_17 17) = 1) then x_step σ_17 (fun r_25 σ_24 => (if r_25 = 0 then Q 0 σ_24 else X53 σ_24)) else x_readRow_j82 v1 σ_17 Q))) (kQ : ∀ r s, Fr wX_readRow σ0 s → Q r s → Q2 r s) (kX53 : ∀  s, Fr wX_readRow σ0 s → X53  s → X532  s) : x_isWord σ (fun r_18 σ_17 => ((r_18 = 0) → (inb (gI σ_17 17) 902)) ∧ (if ¬ (r_18 = 0) ∨ (gA σ_17 2 (gI σ_17 17) = 1) then x_step σ_17 (fun r_25 σ_24 => (if r_25 = 0 then Q2 0 σ_24 else X532 σ_24)) else x_readRow_j82 v1 σ_17 Q2)) :=
  fm_x_isWord h (fun r_18 σ_17 f h0 => (have f0 : Fr wX_readRow σ0 σ_17 := (fr.trans (f.weak (by decide +kernel))); ⟨h0.1, ite_m (fun _ h2 => fm_x_step h2 (fun r_25 σ_24 f h3 => (have f3 : Fr wX_readRow σ0 σ_24 := (f0.trans (f.weak (by decide +kernel))); ite_m (fun _ h4 => kQ _ _ f3 h4) (fun _ h4 => kX53 _ f3 h4) h3))) (fun _ h2 => fx_readRow_j82 f0 h2 kQ) h0.2⟩))
theorem fx_readRow_L53 {v1 : Int} {σ0 σ : S} {Q Q2 : Int → S → Prop} (fr : Fr wX_readRow σ0 σ) (h : x_readRow_L53 v1 σ Q) (kQ : ∀ r s, Fr wX_readRow σ0 s → Q r s → Q2 r s) : x_readRow_L53 v1 σ Q2 := by
  unfold x_readRow_L53 at h ⊢
  intro Y hY
  exact h (fun s => Fr wX_readRow σ0 s → Y s) (fun s h f => hY s (fx_readRow_L53_b (v1 := v1) (Q := Q) (Q2 := Q2) (X53 := fun s => Fr wX_readRow σ0 s → Y s) (X532 := Y) f h kQ (fun s f h => h f))) fr
theorem lx_readRow_L53 {v1 : Int} {σ0 : S} {Q : Int → S → Prop} (I : S → Prop) (me : S → Nat) (h0 : I  σ0) (step : ∀  (s : S), Fr wX_readRow σ0 s → I s → (fun (Y0 : S → Prop) => x_isWord s (fun r_18 σ_17 => ((r_18 = 0) → (inb (gI σ_17 17) 902)) ∧ (if ¬ (r_18 = 0) ∨ (gA σ_17 2 (gI σ_17 17) = 1) then x_step σ_17 (fun r_25 σ_24 => (if r_25 = 0 then Q 0 σ_24 else Y0 σ_24)) else x_readRow_j82 v1 σ_17 Q))) (fun s' => I s' ∧ me s' < me s)) : x_readRow_L53 v1 σ0 Q := by
  unfold x_readRow_L53
  intro Y hY
  have key : ∀ (n : Nat)  (s : S), me s < n → Fr wX_readRow σ0 s → I s → Y s := by
    intro n
    induction n with
    | zero => intro s h; exact absurd h (Nat.not_lt_zero _)
    | succ n ih =>
      intro s hm fr hi
      exact hY s (fx_readRow_L53_b (v1 := v1) (Q := Q) (Q2 := Q) (X53 := (fun s' => I s' ∧ me s' < me s)) (X532 := Y) fr (step s fr hi) (fun _ _ _ h => h) (fun s f h => ih s (by omega) f h.1))
  exact key _  σ0 (Nat.lt_succ_self _) Fr.rf h0
theorem fm_x_readRow {σ0 : S} {Q Q2 : Int → S → Prop} (h : x_readRow  σ0 Q) (kQ : ∀ r s, Fr wX_readRow σ0 s → Q r s → Q2 r s) : x_readRow  σ0 Q2 := by
  have fr : Fr wX_readRow σ0 σ0 := Fr.rf
  unfold x_readRow at h ⊢
  exact ite_m (fun _ h0 => fm_x_wrong h0 (fun r_97 σ_96 f h1 => (have f1 : Fr wX_readRow σ0 σ_96 := (fr.trans (f.weak (by decide +kernel))); kQ _ _ f1 h1))) (fun _ h0 => ⟨h0.1, fun σ_6 e2 => (have f2 : Fr wX_readRow σ0 σ_6 := Fr.putA fr e2 rfl; fm_x_step (h0.2 σ_6 e2) (fun r_10 σ_9 f h3 => (have f3 : Fr wX_readRow σ0 σ_9 := (f2.trans (f.weak (by decide +kernel))); ite_m (fun _ h4 => kQ _ _ f3 h4) (fun _ h4 => ⟨h4.1, fun σ_14 e6 => (have f6 : Fr wX_readRow σ0 σ_14 := Fr.putA f3 e6 rfl; fx_readRow_L53 f6 (h4.2 σ_14 e6) kQ)⟩) h3)))⟩) h
theorem fm_x_readRule {σ0 : S} {Q Q2 : Int → S → Prop} (h : x_readRule  σ0 Q) (kQ : ∀ r s, Fr wX_readRule σ0 s → Q r s → Q2 r s) : x_readRule  σ0 Q2 := by
  have fr : Fr wX_readRule σ0 σ0 := Fr.rf
  unfold x_readRule at h ⊢
  exact ite_m (fun _ h0 => fm_x_wrong h0 (fun r_36 σ_35 f h1 => (have f1 : Fr wX_readRule σ0 σ_35 := (fr.trans (f.weak (by decide +kernel))); kQ _ _ f1 h1))) (fun _ h0 => fm_x_step h0 (fun r_6 σ_5 f h1 => (have f1 : Fr wX_readRule σ0 σ_5 := (fr.trans (f.weak (by decide +kernel))); ite_m (fun _ h2 => kQ _ _ f1 h2) (fun _ h2 => ⟨h2.1, ⟨h2.2.1, fun σ_12 e5 => (have f5 : Fr wX_readRule σ0 σ_12 := Fr.putA f1 e5 rfl; fm_x_expect (h2.2.2 σ_12 e5) (fun r_16 σ_15 f h6 => (have f6 : Fr wX_readRule σ0 σ_15 := (f5.trans (f.weak (by decide +kernel))); ite_m (fun _ h7 => kQ _ _ f6 h7) (fun _ h7 => fm_x_take h7 (fun r_20 σ_19 f h8 => (have f8 : Fr wX_readRule σ0 σ_19 := (f6.trans (f.weak (by decide +kernel))); ite_m (fun _ h9 => kQ _ _ f8 h9) (fun _ h9 => fun σ_24 e10 => (have f10 : Fr wX_readRule σ0 σ_24 := Fr.putI f8 e10 rfl; fun σ_27 e11 => (have f11 : Fr wX_readRule σ0 σ_27 := Fr.putI f10 e11 rfl; ⟨((h9 σ_24 e10) σ_27 e11).1, fun σ_29 e13 => (have f13 : Fr wX_readRule σ0 σ_29 := Fr.putA f11 e13 rfl; fm_x_readSides (((h9 σ_24 e10) σ_27 e11).2 σ_29 e13) (fun r_33 σ_32 f h14 => (have f14 : Fr wX_readRule σ0 σ_32 := (f13.trans (f.weak (by decide +kernel))); kQ _ _ f14 h14)))⟩))) h8))) h6)))⟩⟩) h1))) h
theorem fx_readSorts_j16 {σ0 σ : S} {Q Q2 : Int → S → Prop} (fr : Fr wX_readSorts σ0 σ) (h : x_readSorts_j16  σ Q) (kQ : ∀ r s, Fr wX_readSorts σ0 s → Q r s → Q2 r s) : x_readSorts_j16  σ Q2 := by
  unfold x_readSorts_j16 at h ⊢
  exact fm_x_wrong h (fun r_8 σ_7 f h0 => (have f0 : Fr wX_readSorts σ0 σ_7 := (fr.trans (f.weak (by decide +kernel))); kQ _ _ f0 h0))
theorem fx_readSorts_j72 {σ0 σ : S} {Q Q2 : Int → S → Prop} (fr : Fr wX_readSorts σ0 σ) (h : x_readSorts_j72  σ Q) (kQ : ∀ r s, Fr wX_readSorts σ0 s → Q r s → Q2 r s) : x_readSorts_j72  σ Q2 := by
  unfold x_readSorts_j72 at h ⊢
  exact fm_x_take h (fun r_25 σ_24 f h0 => (have f0 : Fr wX_readSorts σ0 σ_24 := (fr.trans (f.weak (by decide +kernel))); kQ _ _ f0 h0))
theorem fx_readSorts_L0_b {σ0 σ : S} {Q Q2 : Int → S → Prop} {X0 X02 : S → Prop} (fr : Fr wX_readSorts σ0 σ) (h : x_isWord σ (fun r_2 σ_1 => (if ¬ (r_2 = 0) ∧ (gI σ_1 22 = 20) then x_readSorts_j16 σ_1 Q else x_expect σ_1 (fun r_11 σ_10 => (if r_11 = 0 then Q 0 σ_10 else ∀ σ_15, σ_15 = pI σ_10 22 (w32 (gI σ_10 22 + 1)) → inb (gI σ_10 22) 20 ∧ ∀ σ_17, σ_17 = pA σ_15 9 (gI σ_10 22) (gI σ_1 17) → x_isReserved 0 σ_17 (fun r_21 σ_20 => (if r_21 = 0 then x_isWord σ_20 (fun r_27 σ_26 => (if r_27 = 0 then x_readSorts_j72 σ_26 Q else X0 σ_26)) else x_readSorts_j72 σ_20 Q))))))) (kQ : ∀ r s, Fr wX_readSorts σ0 s → Q r s → Q2 r s) (kX0 : ∀  s, Fr wX_readSorts σ0 s → X0  s → X02  s) : x_isWord σ (fun r_2 σ_1 => (if ¬ (r_2 = 0) ∧ (gI σ_1 22 = 20) then x_readSorts_j16 σ_1 Q2 else x_expect σ_1 (fun r_11 σ_10 => (if r_11 = 0 then Q2 0 σ_10 else ∀ σ_15, σ_15 = pI σ_10 22 (w32 (gI σ_10 22 + 1)) → inb (gI σ_10 22) 20 ∧ ∀ σ_17, σ_17 = pA σ_15 9 (gI σ_10 22) (gI σ_1 17) → x_isReserved 0 σ_17 (fun r_21 σ_20 => (if r_21 = 0 then x_isWord σ_20 (fun r_27 σ_26 => (if r_27 = 0 then x_readSorts_j72 σ_26 Q2 else X02 σ_26)) else x_readSorts_j72 σ_20 Q2)))))) :=
  fm_x_isWord h (fun r_2 σ_1 f h0 => (have f0 : Fr wX_readSorts σ0 σ_1 := (fr.trans (f.weak (by decide +kernel))); ite_m (fun _ h1 => fx_readSorts_j16 f0 h1 kQ) (fun _ h1 => fm_x_expect h1 (fun r_11 σ_10 f h2 => (have f2 : Fr wX_readSorts σ0 σ_10 := (f0.trans (f.weak (by decide +kernel))); ite_m (fun _ h3 => kQ _ _ f2 h3) (fun _ h3 => fun σ_15 e4 => (have f4 : Fr wX_readSorts σ0 σ_15 := Fr.putI f2 e4 rfl; ⟨(h3 σ_15 e4).1, fun σ_17 e6 => (have f6 : Fr wX_readSorts σ0 σ_17 := Fr.putA f4 e6 rfl; fm_x_isReserved ((h3 σ_15 e4).2 σ_17 e6) (fun r_21 σ_20 f h7 => (have f7 : Fr wX_readSorts σ0 σ_20 := (f6.trans (f.weak (by decide +kernel))); ite_m (fun _ h8 => fm_x_isWord h8 (fun r_27 σ_26 f h9 => (have f9 : Fr wX_readSorts σ0 σ_26 := (f7.trans (f.weak (by decide +kernel))); ite_m (fun _ h10 => fx_readSorts_j72 f9 h10 kQ) (fun _ h10 => kX0 _ f9 h10) h9))) (fun _ h8 => fx_readSorts_j72 f7 h8 kQ) h7)))⟩)) h2))) h0))
theorem fx_readSorts_L0 {σ0 σ : S} {Q Q2 : Int → S → Prop} (fr : Fr wX_readSorts σ0 σ) (h : x_readSorts_L0  σ Q) (kQ : ∀ r s, Fr wX_readSorts σ0 s → Q r s → Q2 r s) : x_readSorts_L0  σ Q2 := by
  unfold x_readSorts_L0 at h ⊢
  intro Y hY
  exact h (fun s => Fr wX_readSorts σ0 s → Y s) (fun s h f => hY s (fx_readSorts_L0_b (Q := Q) (Q2 := Q2) (X0 := fun s => Fr wX_readSorts σ0 s → Y s) (X02 := Y) f h kQ (fun s f h => h f))) fr
theorem lx_readSorts_L0 {σ0 : S} {Q : Int → S → Prop} (I : S → Prop) (me : S → Nat) (h0 : I  σ0) (step : ∀  (s : S), Fr wX_readSorts σ0 s → I s → (fun (Y0 : S → Prop) => x_isWord s (fun r_2 σ_1 => (if ¬ (r_2 = 0) ∧ (gI σ_1 22 = 20) then x_readSorts_j16 σ_1 Q else x_expect σ_1 (fun r_11 σ_10 => (if r_11 = 0 then Q 0 σ_10 else ∀ σ_15, σ_15 = pI σ_10 22 (w32 (gI σ_10 22 + 1)) → inb (gI σ_10 22) 20 ∧ ∀ σ_17, σ_17 = pA σ_15 9 (gI σ_10 22) (gI σ_1 17) → x_isReserved 0 σ_17 (fun r_21 σ_20 => (if r_21 = 0 then x_isWord σ_20 (fun r_27 σ_26 => (if r_27 = 0 then x_readSorts_j72 σ_26 Q else Y0 σ_26)) else x_readSorts_j72 σ_20 Q))))))) (fun s' => I s' ∧ me s' < me s)) : x_readSorts_L0  σ0 Q := by
  unfold x_readSorts_L0
  intro Y hY
  have key : ∀ (n : Nat)  (s : S), me s < n → Fr wX_readSorts σ0 s → I s → Y s := by
    intro n
    induction n with
    | zero => intro s h; exact absurd h (Nat.not_lt_zero _)
    | succ n ih =>
      intro s hm fr hi
      exact hY s (fx_readSorts_L0_b (Q := Q) (Q2 := Q) (X0 := (fun s' => I s' ∧ me s' < me s)) (X02 := Y) fr (step s fr hi) (fun _ _ _ h => h) (fun s f h => ih s (by omega) f h.1))
  exact key _  σ0 (Nat.lt_succ_self _) Fr.rf h0
theorem fm_x_readSorts {σ0 : S} {Q Q2 : Int → S → Prop} (h : x_readSorts  σ0 Q) (kQ : ∀ r s, Fr wX_readSorts σ0 s → Q r s → Q2 r s) : x_readSorts  σ0 Q2 := by
  have fr : Fr wX_readSorts σ0 σ0 := Fr.rf
  unfold x_readSorts at h ⊢
  exact fx_readSorts_L0 fr h kQ
theorem fx_readVariables_j21 {σ0 σ : S} {Q Q2 : Int → S → Prop} (fr : Fr wX_readVariables σ0 σ) (h : x_readVariables_j21  σ Q) (kQ : ∀ r s, Fr wX_readVariables σ0 s → Q r s → Q2 r s) : x_readVariables_j21  σ Q2 := by
  unfold x_readVariables_j21 at h ⊢
  exact fm_x_wrong h (fun r_9 σ_8 f h0 => (have f0 : Fr wX_readVariables σ0 σ_8 := (fr.trans (f.weak (by decide +kernel))); kQ _ _ f0 h0))
theorem fx_readVariables_j124 {σ0 σ : S} {Q Q2 : Int → S → Prop} (fr : Fr wX_readVariables σ0 σ) (h : x_readVariables_j124  σ Q) (kQ : ∀ r s, Fr wX_readVariables σ0 s → Q r s → Q2 r s) : x_readVariables_j124  σ Q2 := by
  unfold x_readVariables_j124 at h ⊢
  exact kQ _ _ fr h
theorem fx_readVariables_j105 {σ0 σ : S} {Q Q2 : Int → S → Prop} (fr : Fr wX_readVariables σ0 σ) (h : x_readVariables_j105  σ Q) (kQ : ∀ r s, Fr wX_readVariables σ0 s → Q r s → Q2 r s) : x_readVariables_j105  σ Q2 := by
  unfold x_readVariables_j105 at h ⊢
  exact fm_x_expect h (fun r_33 σ_32 f h0 => (have f0 : Fr wX_readVariables σ0 σ_32 := (fr.trans (f.weak (by decide +kernel))); ite_m (fun _ h1 => fx_readVariables_j124 f0 h1 kQ) (fun _ h1 => fm_x_take h1 (fun r_37 σ_36 f h2 => (have f2 : Fr wX_readVariables σ0 σ_36 := (f0.trans (f.weak (by decide +kernel))); ite_m (fun _ h3 => fx_readVariables_j124 f2 h3 kQ) (fun _ h3 => kQ _ _ f2 h3) h2))) h0))
theorem fx_readVariables_L81_b {v2 : Int} {σ0 σ : S} {Q Q2 : Int → S → Prop} {X81 X812 : Int → S → Prop} (fr : Fr wX_readVariables σ0 σ) (h : (if v2 < gI σ 39 then inb v2 30 ∧ ∀ σ_41, σ_41 = pA σ 24 v2 (gI σ 17) → X81 (w32 (v2 + 1)) σ_41 else x_readVariables_j105 σ Q)) (kQ : ∀ r s, Fr wX_readVariables σ0 s → Q r s → Q2 r s) (kX81 : ∀ v2 s, Fr wX_readVariables σ0 s → X81 v2 s → X812 v2 s) : (if v2 < gI σ 39 then inb v2 30 ∧ ∀ σ_41, σ_41 = pA σ 24 v2 (gI σ 17) → X812 (w32 (v2 + 1)) σ_41 else x_readVariables_j105 σ Q2) :=
  ite_m (fun _ h0 => ⟨h0.1, fun σ_41 e2 => (have f2 : Fr wX_readVariables σ0 σ_41 := Fr.putA fr e2 rfl; kX81 _ _ f2 (h0.2 σ_41 e2))⟩) (fun _ h0 => fx_readVariables_j105 fr h0 kQ) h
theorem fx_readVariables_L81 {v2 : Int} {σ0 σ : S} {Q Q2 : Int → S → Prop} (fr : Fr wX_readVariables σ0 σ) (h : x_readVariables_L81 v2 σ Q) (kQ : ∀ r s, Fr wX_readVariables σ0 s → Q r s → Q2 r s) : x_readVariables_L81 v2 σ Q2 := by
  unfold x_readVariables_L81 at h ⊢
  intro Y hY
  exact h (fun v2 s => Fr wX_readVariables σ0 s → Y v2 s) (fun v2 s h f => hY v2 s (fx_readVariables_L81_b (v2 := v2) (Q := Q) (Q2 := Q2) (X81 := fun v2 s => Fr wX_readVariables σ0 s → Y v2 s) (X812 := Y) f h kQ (fun v2 s f h => h f))) fr
theorem lx_readVariables_L81 {v2 : Int} {σ0 : S} {Q : Int → S → Prop} (I : Int → S → Prop) (me : Int → S → Nat) (h0 : I v2 σ0) (step : ∀ (v2 : Int) (s : S), Fr wX_readVariables σ0 s → I v2 s → (fun (Y0 : Int → S → Prop) => (if v2 < gI s 39 then inb v2 30 ∧ ∀ σ_41, σ_41 = pA s 24 v2 (gI s 17) → Y0 (w32 (v2 + 1)) σ_41 else x_readVariables_j105 s Q)) (fun v2' s' => I v2' s' ∧ me v2' s' < me v2 s)) : x_readVariables_L81 v2 σ0 Q := by
  unfold x_readVariables_L81
  intro Y hY
  have key : ∀ (n : Nat) (v2 : Int) (s : S), me v2 s < n → Fr wX_readVariables σ0 s → I v2 s → Y v2 s := by
    intro n
    induction n with
    | zero => intro v2 s h; exact absurd h (Nat.not_lt_zero _)
    | succ n ih =>
      intro v2 s hm fr hi
      exact hY v2 s (fx_readVariables_L81_b (v2 := v2) (Q := Q) (Q2 := Q) (X81 := (fun v2' s' => I v2' s' ∧ me v2' s' < me v2 s)) (X812 := Y) fr (step v2 s fr hi) (fun _ _ _ h => h) (fun v2 s f h => ih v2 s (by omega) f h.1))
  exact key _ v2 σ0 (Nat.lt_succ_self _) Fr.rf h0
theorem fx_readVariables_j69 {v1 : Int} {σ0 σ : S} {Q Q2 : Int → S → Prop} (fr : Fr wX_readVariables σ0 σ) (h : x_readVariables_j69 v1 σ Q) (kQ : ∀ r s, Fr wX_readVariables σ0 s → Q r s → Q2 r s) : x_readVariables_j69 v1 σ Q2 := by
  unfold x_readVariables_j69 at h ⊢
  exact fm_x_take h (fun r_26 σ_25 f h0 => (have f0 : Fr wX_readVariables σ0 σ_25 := (fr.trans (f.weak (by decide +kernel))); ite_m (fun _ h1 => kQ _ _ f0 h1) (fun _ h1 => fx_readVariables_L81 f0 h1 kQ) h0))
theorem fx_readVariables_L5_b {v1 : Int} {σ0 σ : S} {Q Q2 : Int → S → Prop} {X5 X52 : S → Prop} (fr : Fr wX_readVariables σ0 σ) (h : x_isWord σ (fun r_3 σ_2 => (if ¬ (r_3 = 0) ∧ (gI σ_2 39 = 30) then x_readVariables_j21 σ_2 Q else x_expect σ_2 (fun r_12 σ_11 => (if r_12 = 0 then Q 0 σ_11 else ∀ σ_16, σ_16 = pI σ_11 39 (w32 (gI σ_11 39 + 1)) → inb (gI σ_11 39) 30 ∧ ∀ σ_18, σ_18 = pA σ_16 23 (gI σ_11 39) (gI σ_2 17) → x_isWord σ_18 (fun r_22 σ_21 => (if r_22 = 0 then x_readVariables_j69 v1 σ_21 Q else X5 σ_21))))))) (kQ : ∀ r s, Fr wX_readVariables σ0 s → Q r s → Q2 r s) (kX5 : ∀  s, Fr wX_readVariables σ0 s → X5  s → X52  s) : x_isWord σ (fun r_3 σ_2 => (if ¬ (r_3 = 0) ∧ (gI σ_2 39 = 30) then x_readVariables_j21 σ_2 Q2 else x_expect σ_2 (fun r_12 σ_11 => (if r_12 = 0 then Q2 0 σ_11 else ∀ σ_16, σ_16 = pI σ_11 39 (w32 (gI σ_11 39 + 1)) → inb (gI σ_11 39) 30 ∧ ∀ σ_18, σ_18 = pA σ_16 23 (gI σ_11 39) (gI σ_2 17) → x_isWord σ_18 (fun r_22 σ_21 => (if r_22 = 0 then x_readVariables_j69 v1 σ_21 Q2 else X52 σ_21)))))) :=
  fm_x_isWord h (fun r_3 σ_2 f h0 => (have f0 : Fr wX_readVariables σ0 σ_2 := (fr.trans (f.weak (by decide +kernel))); ite_m (fun _ h1 => fx_readVariables_j21 f0 h1 kQ) (fun _ h1 => fm_x_expect h1 (fun r_12 σ_11 f h2 => (have f2 : Fr wX_readVariables σ0 σ_11 := (f0.trans (f.weak (by decide +kernel))); ite_m (fun _ h3 => kQ _ _ f2 h3) (fun _ h3 => fun σ_16 e4 => (have f4 : Fr wX_readVariables σ0 σ_16 := Fr.putI f2 e4 rfl; ⟨(h3 σ_16 e4).1, fun σ_18 e6 => (have f6 : Fr wX_readVariables σ0 σ_18 := Fr.putA f4 e6 rfl; fm_x_isWord ((h3 σ_16 e4).2 σ_18 e6) (fun r_22 σ_21 f h7 => (have f7 : Fr wX_readVariables σ0 σ_21 := (f6.trans (f.weak (by decide +kernel))); ite_m (fun _ h8 => fx_readVariables_j69 f7 h8 kQ) (fun _ h8 => kX5 _ f7 h8) h7)))⟩)) h2))) h0))
theorem fx_readVariables_L5 {v1 : Int} {σ0 σ : S} {Q Q2 : Int → S → Prop} (fr : Fr wX_readVariables σ0 σ) (h : x_readVariables_L5 v1 σ Q) (kQ : ∀ r s, Fr wX_readVariables σ0 s → Q r s → Q2 r s) : x_readVariables_L5 v1 σ Q2 := by
  unfold x_readVariables_L5 at h ⊢
  intro Y hY
  exact h (fun s => Fr wX_readVariables σ0 s → Y s) (fun s h f => hY s (fx_readVariables_L5_b (v1 := v1) (Q := Q) (Q2 := Q2) (X5 := fun s => Fr wX_readVariables σ0 s → Y s) (X52 := Y) f h kQ (fun s f h => h f))) fr
theorem lx_readVariables_L5 {v1 : Int} {σ0 : S} {Q : Int → S → Prop} (I : S → Prop) (me : S → Nat) (h0 : I  σ0) (step : ∀  (s : S), Fr wX_readVariables σ0 s → I s → (fun (Y0 : S → Prop) => x_isWord s (fun r_3 σ_2 => (if ¬ (r_3 = 0) ∧ (gI σ_2 39 = 30) then x_readVariables_j21 σ_2 Q else x_expect σ_2 (fun r_12 σ_11 => (if r_12 = 0 then Q 0 σ_11 else ∀ σ_16, σ_16 = pI σ_11 39 (w32 (gI σ_11 39 + 1)) → inb (gI σ_11 39) 30 ∧ ∀ σ_18, σ_18 = pA σ_16 23 (gI σ_11 39) (gI σ_2 17) → x_isWord σ_18 (fun r_22 σ_21 => (if r_22 = 0 then x_readVariables_j69 v1 σ_21 Q else Y0 σ_21))))))) (fun s' => I s' ∧ me s' < me s)) : x_readVariables_L5 v1 σ0 Q := by
  unfold x_readVariables_L5
  intro Y hY
  have key : ∀ (n : Nat)  (s : S), me s < n → Fr wX_readVariables σ0 s → I s → Y s := by
    intro n
    induction n with
    | zero => intro s h; exact absurd h (Nat.not_lt_zero _)
    | succ n ih =>
      intro s hm fr hi
      exact hY s (fx_readVariables_L5_b (v1 := v1) (Q := Q) (Q2 := Q) (X5 := (fun s' => I s' ∧ me s' < me s)) (X52 := Y) fr (step s fr hi) (fun _ _ _ h => h) (fun s f h => ih s (by omega) f h.1))
  exact key _  σ0 (Nat.lt_succ_self _) Fr.rf h0
theorem fm_x_readVariables {σ0 : S} {Q Q2 : Int → S → Prop} (h : x_readVariables  σ0 Q) (kQ : ∀ r s, Fr wX_readVariables σ0 s → Q r s → Q2 r s) : x_readVariables  σ0 Q2 := by
  have fr : Fr wX_readVariables σ0 σ0 := Fr.rf
  unfold x_readVariables at h ⊢
  exact fx_readVariables_L5 fr h kQ
theorem fx_readStatement_j119 {σ0 σ : S} {Q Q2 : Int → S → Prop} (fr : Fr wX_readStatement σ0 σ) (h : x_readStatement_j119  σ Q) (kQ : ∀ r s, Fr wX_readStatement σ0 s → Q r s → Q2 r s) : x_readStatement_j119  σ Q2 := by
  unfold x_readStatement_j119 at h ⊢
  exact fm_x_readEquation h (fun r_22 σ_21 f h0 => (have f0 : Fr wX_readStatement σ0 σ_21 := (fr.trans (f.weak (by decide +kernel))); kQ _ _ f0 h0))
theorem fx_readStatement_j99 {σ0 σ : S} {Q Q2 : Int → S → Prop} (fr : Fr wX_readStatement σ0 σ) (h : x_readStatement_j99  σ Q) (kQ : ∀ r s, Fr wX_readStatement σ0 s → Q r s → Q2 r s) : x_readStatement_j99  σ Q2 := by
  unfold x_readStatement_j99 at h ⊢
  exact kQ _ _ fr h
theorem fx_readStatement_j56 {σ0 σ : S} {Q Q2 : Int → S → Prop} (fr : Fr wX_readStatement σ0 σ) (h : x_readStatement_j56  σ Q) (kQ : ∀ r s, Fr wX_readStatement σ0 s → Q r s → Q2 r s) : x_readStatement_j56  σ Q2 := by
  unfold x_readStatement_j56 at h ⊢
  exact kQ _ _ fr h
theorem fx_readStatement_j27 {σ0 σ : S} {Q Q2 : Int → S → Prop} (fr : Fr wX_readStatement σ0 σ) (h : x_readStatement_j27  σ Q) (kQ : ∀ r s, Fr wX_readStatement σ0 s → Q r s → Q2 r s) : x_readStatement_j27  σ Q2 := by
  unfold x_readStatement_j27 at h ⊢
  exact kQ _ _ fr h
theorem fm_x_readStatement {σ0 : S} {Q Q2 : Int → S → Prop} (h : x_readStatement  σ0 Q) (kQ : ∀ r s, Fr wX_readStatement σ0 s → Q r s → Q2 r s) : x_readStatement  σ0 Q2 := by
  have fr : Fr wX_readStatement σ0 σ0 := Fr.rf
  unfold x_readStatement at h ⊢
  exact fm_x_isWordText h (fun r_2 σ_1 f h0 => (have f0 : Fr wX_readStatement σ0 σ_1 := (fr.trans (f.weak (by decide +kernel))); ite_m (fun _ h1 => fm_x_isWordText h1 (fun r_6 σ_5 f h2 => (have f2 : Fr wX_readStatement σ0 σ_5 := (f0.trans (f.weak (by decide +kernel))); ite_m (fun _ h3 => fm_x_isWordText h3 (fun r_10 σ_9 f h4 => (have f4 : Fr wX_readStatement σ0 σ_9 := (f2.trans (f.weak (by decide +kernel))); ite_m (fun _ h5 => fm_x_isWordText h5 (fun r_14 σ_13 f h6 => (have f6 : Fr wX_readStatement σ0 σ_13 := (f4.trans (f.weak (by decide +kernel))); ite_m (fun _ h7 => fm_x_isWordText h7 (fun r_18 σ_17 f h8 => (have f8 : Fr wX_readStatement σ0 σ_17 := (f6.trans (f.weak (by decide +kernel))); ite_m (fun _ h9 => fm_x_isWordText h9 (fun r_24 σ_23 f h10 => (have f10 : Fr wX_readStatement σ0 σ_23 := (f8.trans (f.weak (by decide +kernel))); ite_m (fun _ h11 => fm_x_isWordText h11 (fun r_28 σ_27 f h12 => (have f12 : Fr wX_readStatement σ0 σ_27 := (f10.trans (f.weak (by decide +kernel))); ite_m (fun _ h13 => fm_x_wrong h13 (fun r_33 σ_32 f h14 => (have f14 : Fr wX_readStatement σ0 σ_32 := (f12.trans (f.weak (by decide +kernel))); kQ _ _ f14 h14))) (fun _ h13 => fm_x_readRule h13 (fun r_35 σ_34 f h14 => (have f14 : Fr wX_readStatement σ0 σ_34 := (f12.trans (f.weak (by decide +kernel))); kQ _ _ f14 h14))) h12))) (fun _ h11 => fx_readStatement_j119 f10 h11 kQ) h10))) (fun _ h9 => fx_readStatement_j119 f8 h9 kQ) h8))) (fun _ h7 => fm_x_step h7 (fun r_37 σ_36 f h8 => (have f8 : Fr wX_readStatement σ0 σ_36 := (f6.trans (f.weak (by decide +kernel))); ite_m (fun _ h9 => fx_readStatement_j99 f8 h9 kQ) (fun _ h9 => fm_x_readVariables h9 (fun r_41 σ_40 f h10 => (have f10 : Fr wX_readStatement σ0 σ_40 := (f8.trans (f.weak (by decide +kernel))); ite_m (fun _ h11 => fx_readStatement_j99 f10 h11 kQ) (fun _ h11 => kQ _ _ f10 h11) h10))) h8))) h6))) (fun _ h5 => fm_x_readRow h5 (fun r_45 σ_44 f h6 => (have f6 : Fr wX_readStatement σ0 σ_44 := (f4.trans (f.weak (by decide +kernel))); kQ _ _ f6 h6))) h4))) (fun _ h3 => fm_x_step h3 (fun r_47 σ_46 f h4 => (have f4 : Fr wX_readStatement σ0 σ_46 := (f2.trans (f.weak (by decide +kernel))); ite_m (fun _ h5 => fx_readStatement_j56 f4 h5 kQ) (fun _ h5 => fm_x_readLess h5 (fun r_51 σ_50 f h6 => (have f6 : Fr wX_readStatement σ0 σ_50 := (f4.trans (f.weak (by decide +kernel))); ite_m (fun _ h7 => fx_readStatement_j56 f6 h7 kQ) (fun _ h7 => kQ _ _ f6 h7) h6))) h4))) h2))) (fun _ h1 => fm_x_step h1 (fun r_55 σ_54 f h2 => (have f2 : Fr wX_readStatement σ0 σ_54 := (f0.trans (f.weak (by decide +kernel))); ite_m (fun _ h3 => fx_readStatement_j27 f2 h3 kQ) (fun _ h3 => fm_x_readSorts h3 (fun r_59 σ_58 f h4 => (have f4 : Fr wX_readStatement σ0 σ_58 := (f2.trans (f.weak (by decide +kernel))); ite_m (fun _ h5 => fx_readStatement_j27 f4 h5 kQ) (fun _ h5 => kQ _ _ f4 h5) h4))) h2))) h0))
theorem fx_readText_L2_b {v1 : Int} {σ0 σ : S} {Q Q2 : Int → S → Prop} {X2 X22 : Int → S → Prop} (fr : Fr wX_readText σ0 σ) (h : ((¬ v1 = 0) → (inb (gI σ 17) 902)) ∧ (if ¬ (v1 = 0) ∧ (¬ (gA σ 2 (gI σ 17) = 3)) then x_readStatement σ (fun r_7 σ_6 => X2 r_7 σ_6) else Q v1 σ)) (kQ : ∀ r s, Fr wX_readText σ0 s → Q r s → Q2 r s) (kX2 : ∀ v1 s, Fr wX_readText σ0 s → X2 v1 s → X22 v1 s) : ((¬ v1 = 0) → (inb (gI σ 17) 902)) ∧ (if ¬ (v1 = 0) ∧ (¬ (gA σ 2 (gI σ 17) = 3)) then x_readStatement σ (fun r_7 σ_6 => X22 r_7 σ_6) else Q2 v1 σ) :=
  ⟨h.1, ite_m (fun _ h1 => fm_x_readStatement h1 (fun r_7 σ_6 f h2 => (have f2 : Fr wX_readText σ0 σ_6 := (fr.trans (f.weak (by decide +kernel))); kX2 _ _ f2 h2))) (fun _ h1 => kQ _ _ fr h1) h.2⟩
theorem fx_readText_L2 {v1 : Int} {σ0 σ : S} {Q Q2 : Int → S → Prop} (fr : Fr wX_readText σ0 σ) (h : x_readText_L2 v1 σ Q) (kQ : ∀ r s, Fr wX_readText σ0 s → Q r s → Q2 r s) : x_readText_L2 v1 σ Q2 := by
  unfold x_readText_L2 at h ⊢
  intro Y hY
  exact h (fun v1 s => Fr wX_readText σ0 s → Y v1 s) (fun v1 s h f => hY v1 s (fx_readText_L2_b (v1 := v1) (Q := Q) (Q2 := Q2) (X2 := fun v1 s => Fr wX_readText σ0 s → Y v1 s) (X22 := Y) f h kQ (fun v1 s f h => h f))) fr
theorem lx_readText_L2 {v1 : Int} {σ0 : S} {Q : Int → S → Prop} (I : Int → S → Prop) (me : Int → S → Nat) (h0 : I v1 σ0) (step : ∀ (v1 : Int) (s : S), Fr wX_readText σ0 s → I v1 s → (fun (Y0 : Int → S → Prop) => ((¬ v1 = 0) → (inb (gI s 17) 902)) ∧ (if ¬ (v1 = 0) ∧ (¬ (gA s 2 (gI s 17) = 3)) then x_readStatement s (fun r_7 σ_6 => Y0 r_7 σ_6) else Q v1 s)) (fun v1' s' => I v1' s' ∧ me v1' s' < me v1 s)) : x_readText_L2 v1 σ0 Q := by
  unfold x_readText_L2
  intro Y hY
  have key : ∀ (n : Nat) (v1 : Int) (s : S), me v1 s < n → Fr wX_readText σ0 s → I v1 s → Y v1 s := by
    intro n
    induction n with
    | zero => intro v1 s h; exact absurd h (Nat.not_lt_zero _)
    | succ n ih =>
      intro v1 s hm fr hi
      exact hY v1 s (fx_readText_L2_b (v1 := v1) (Q := Q) (Q2 := Q) (X2 := (fun v1' s' => I v1' s' ∧ me v1' s' < me v1 s)) (X22 := Y) fr (step v1 s fr hi) (fun _ _ _ h => h) (fun v1 s f h => ih v1 s (by omega) f h.1))
  exact key _ v1 σ0 (Nat.lt_succ_self _) Fr.rf h0
theorem fm_x_readText {σ0 : S} {Q Q2 : Int → S → Prop} (h : x_readText  σ0 Q) (kQ : ∀ r s, Fr wX_readText σ0 s → Q r s → Q2 r s) : x_readText  σ0 Q2 := by
  have fr : Fr wX_readText σ0 σ0 := Fr.rf
  unfold x_readText at h ⊢
  exact fx_readText_L2 fr h kQ
theorem fx_sortBy_L2_b {v1 : Int} {v2 : Int} {σ0 σ : S} {Q Q2 : Int → S → Prop} {X2 X22 : Int → S → Prop} (fr : Fr wX_sortBy σ0 σ) (h : (if v2 < gI σ 22 then inb v2 20 ∧ (if gA σ 38 v2 = v1 then Q v2 σ else X2 (w32 (v2 + 1)) σ) else Q (-2) σ)) (kQ : ∀ r s, Fr wX_sortBy σ0 s → Q r s → Q2 r s) (kX2 : ∀ v2 s, Fr wX_sortBy σ0 s → X2 v2 s → X22 v2 s) : (if v2 < gI σ 22 then inb v2 20 ∧ (if gA σ 38 v2 = v1 then Q2 v2 σ else X22 (w32 (v2 + 1)) σ) else Q2 (-2) σ) :=
  ite_m (fun _ h0 => ⟨h0.1, ite_m (fun _ h2 => kQ _ _ fr h2) (fun _ h2 => kX2 _ _ fr h2) h0.2⟩) (fun _ h0 => kQ _ _ fr h0) h
theorem fx_sortBy_L2 {v1 : Int} {v2 : Int} {σ0 σ : S} {Q Q2 : Int → S → Prop} (fr : Fr wX_sortBy σ0 σ) (h : x_sortBy_L2 v1 v2 σ Q) (kQ : ∀ r s, Fr wX_sortBy σ0 s → Q r s → Q2 r s) : x_sortBy_L2 v1 v2 σ Q2 := by
  unfold x_sortBy_L2 at h ⊢
  intro Y hY
  exact h (fun v2 s => Fr wX_sortBy σ0 s → Y v2 s) (fun v2 s h f => hY v2 s (fx_sortBy_L2_b (v1 := v1) (v2 := v2) (Q := Q) (Q2 := Q2) (X2 := fun v2 s => Fr wX_sortBy σ0 s → Y v2 s) (X22 := Y) f h kQ (fun v2 s f h => h f))) fr
theorem lx_sortBy_L2 {v1 : Int} {v2 : Int} {σ0 : S} {Q : Int → S → Prop} (I : Int → S → Prop) (me : Int → S → Nat) (h0 : I v2 σ0) (step : ∀ (v2 : Int) (s : S), Fr wX_sortBy σ0 s → I v2 s → (fun (Y0 : Int → S → Prop) => (if v2 < gI s 22 then inb v2 20 ∧ (if gA s 38 v2 = v1 then Q v2 s else Y0 (w32 (v2 + 1)) s) else Q (-2) s)) (fun v2' s' => I v2' s' ∧ me v2' s' < me v2 s)) : x_sortBy_L2 v1 v2 σ0 Q := by
  unfold x_sortBy_L2
  intro Y hY
  have key : ∀ (n : Nat) (v2 : Int) (s : S), me v2 s < n → Fr wX_sortBy σ0 s → I v2 s → Y v2 s := by
    intro n
    induction n with
    | zero => intro v2 s h; exact absurd h (Nat.not_lt_zero _)
    | succ n ih =>
      intro v2 s hm fr hi
      exact hY v2 s (fx_sortBy_L2_b (v1 := v1) (v2 := v2) (Q := Q) (Q2 := Q) (X2 := (fun v2' s' => I v2' s' ∧ me v2' s' < me v2 s)) (X22 := Y) fr (step v2 s fr hi) (fun _ _ _ h => h) (fun v2 s f h => ih v2 s (by omega) f h.1))
  exact key _ v2 σ0 (Nat.lt_succ_self _) Fr.rf h0
theorem fm_x_sortBy {v1 : Int} {σ0 : S} {Q Q2 : Int → S → Prop} (h : x_sortBy v1 σ0 Q) (kQ : ∀ r s, Fr wX_sortBy σ0 s → Q r s → Q2 r s) : x_sortBy v1 σ0 Q2 := by
  have fr : Fr wX_sortBy σ0 σ0 := Fr.rf
  unfold x_sortBy at h ⊢
  exact fx_sortBy_L2 fr h kQ
theorem fm_x_sortAt {v1 : Int} {σ0 : S} {Q Q2 : Int → S → Prop} (h : x_sortAt v1 σ0 Q) (kQ : ∀ r s, Fr wX_sortAt σ0 s → Q r s → Q2 r s) : x_sortAt v1 σ0 Q2 := by
  have fr : Fr wX_sortAt σ0 σ0 := Fr.rf
  unfold x_sortAt at h ⊢
  exact ⟨h.1, fm_x_sortBy h.2 (fun r_4 σ_3 f h1 => (have f1 : Fr wX_sortAt σ0 σ_3 := (fr.trans (f.weak (by decide +kernel))); ite_m (fun _ h2 => fm_x_wrong h2 (fun r_8 σ_7 f h3 => (have f3 : Fr wX_sortAt σ0 σ_7 := (f1.trans (f.weak (by decide +kernel))); kQ _ _ f3 h3))) (fun _ h2 => kQ _ _ f1 h2) h1))⟩
theorem fm_x_isBelow {v1 : Int} {v2 : Int} {σ0 : S} {Q Q2 : Int → S → Prop} (h : x_isBelow v1 v2 σ0 Q) (kQ : ∀ r s, Fr wX_isBelow σ0 s → Q r s → Q2 r s) : x_isBelow v1 v2 σ0 Q2 := by
  have fr : Fr wX_isBelow σ0 σ0 := Fr.rf
  unfold x_isBelow at h ⊢
  exact ⟨h.1, kQ _ _ fr h.2⟩
theorem fx_laySorts_j66 {v1 : Int} {v2 : Int} {σ0 σ : S} {Q Q2 : Int → S → Prop} {X24 X242 : Int → S → Prop} (fr : Fr wX_laySorts σ0 σ) (h : x_laySorts_j66 v1 v2 σ Q X24) (kQ : ∀ r s, Fr wX_laySorts σ0 s → Q r s → Q2 r s) (kX24 : ∀ a0 s, Fr wX_laySorts σ0 s → X24 a0 s → X242 a0 s) : x_laySorts_j66 v1 v2 σ Q2 X242 := by
  unfold x_laySorts_j66 at h ⊢
  exact ⟨h.1, fun σ_14 e1 => (have f1 : Fr wX_laySorts σ0 σ_14 := Fr.putA fr e1 rfl; ⟨(h.2 σ_14 e1).1, fun σ_17 e3 => (have f3 : Fr wX_laySorts σ0 σ_17 := Fr.putA f1 e3 rfl; ⟨((h.2 σ_14 e1).2 σ_17 e3).1, fun σ_20 e5 => (have f5 : Fr wX_laySorts σ0 σ_20 := Fr.putA f3 e5 rfl; kX24 _ _ f5 (((h.2 σ_14 e1).2 σ_17 e3).2 σ_20 e5))⟩)⟩)⟩
theorem fx_laySorts_L24_b {v1 : Int} {σ0 σ : S} {Q Q2 : Int → S → Prop} {X24 X242 : Int → S → Prop} (fr : Fr wX_laySorts σ0 σ) (h : (if v1 < gI σ 22 then inb v1 20 ∧ inb (gA σ 9 v1) 902 ∧ x_sortBy (gA σ 5 (gA σ 9 v1)) σ (fun r_11 σ_10 => (if r_11 = (-2) then x_laySorts_j66 v1 (gA σ 5 (gA σ 9 v1)) σ_10 Q X24 else inb v1 20 ∧ x_wrong 3 (gA σ_10 9 v1) σ_10 (fun r_26 σ_25 => x_laySorts_j66 v1 (gA σ 5 (gA σ 9 v1)) σ_25 Q X24))) else Q 0 σ)) (kQ : ∀ r s, Fr wX_laySorts σ0 s → Q r s → Q2 r s) (kX24 : ∀ v1 s, Fr wX_laySorts σ0 s → X24 v1 s → X242 v1 s) : (if v1 < gI σ 22 then inb v1 20 ∧ inb (gA σ 9 v1) 902 ∧ x_sortBy (gA σ 5 (gA σ 9 v1)) σ (fun r_11 σ_10 => (if r_11 = (-2) then x_laySorts_j66 v1 (gA σ 5 (gA σ 9 v1)) σ_10 Q2 X242 else inb v1 20 ∧ x_wrong 3 (gA σ_10 9 v1) σ_10 (fun r_26 σ_25 => x_laySorts_j66 v1 (gA σ 5 (gA σ 9 v1)) σ_25 Q2 X242))) else Q2 0 σ) :=
  ite_m (fun _ h0 => ⟨h0.1, ⟨h0.2.1, fm_x_sortBy h0.2.2 (fun r_11 σ_10 f h3 => (have f3 : Fr wX_laySorts σ0 σ_10 := (fr.trans (f.weak (by decide +kernel))); ite_m (fun _ h4 => fx_laySorts_j66 f3 h4 kQ kX24) (fun _ h4 => ⟨h4.1, fm_x_wrong h4.2 (fun r_26 σ_25 f h6 => (have f6 : Fr wX_laySorts σ0 σ_25 := (f3.trans (f.weak (by decide +kernel))); fx_laySorts_j66 f6 h6 kQ kX24))⟩) h3))⟩⟩) (fun _ h0 => kQ _ _ fr h0) h
theorem fx_laySorts_L24 {v1 : Int} {σ0 σ : S} {Q Q2 : Int → S → Prop} (fr : Fr wX_laySorts σ0 σ) (h : x_laySorts_L24 v1 σ Q) (kQ : ∀ r s, Fr wX_laySorts σ0 s → Q r s → Q2 r s) : x_laySorts_L24 v1 σ Q2 := by
  unfold x_laySorts_L24 at h ⊢
  intro Y hY
  exact h (fun v1 s => Fr wX_laySorts σ0 s → Y v1 s) (fun v1 s h f => hY v1 s (fx_laySorts_L24_b (v1 := v1) (Q := Q) (Q2 := Q2) (X24 := fun v1 s => Fr wX_laySorts σ0 s → Y v1 s) (X242 := Y) f h kQ (fun v1 s f h => h f))) fr
theorem lx_laySorts_L24 {v1 : Int} {σ0 : S} {Q : Int → S → Prop} (I : Int → S → Prop) (me : Int → S → Nat) (h0 : I v1 σ0) (step : ∀ (v1 : Int) (s : S), Fr wX_laySorts σ0 s → I v1 s → (fun (Y0 : Int → S → Prop) => (if v1 < gI s 22 then inb v1 20 ∧ inb (gA s 9 v1) 902 ∧ x_sortBy (gA s 5 (gA s 9 v1)) s (fun r_11 σ_10 => (if r_11 = (-2) then x_laySorts_j66 v1 (gA s 5 (gA s 9 v1)) σ_10 Q Y0 else inb v1 20 ∧ x_wrong 3 (gA σ_10 9 v1) σ_10 (fun r_26 σ_25 => x_laySorts_j66 v1 (gA s 5 (gA s 9 v1)) σ_25 Q Y0))) else Q 0 s)) (fun v1' s' => I v1' s' ∧ me v1' s' < me v1 s)) : x_laySorts_L24 v1 σ0 Q := by
  unfold x_laySorts_L24
  intro Y hY
  have key : ∀ (n : Nat) (v1 : Int) (s : S), me v1 s < n → Fr wX_laySorts σ0 s → I v1 s → Y v1 s := by
    intro n
    induction n with
    | zero => intro v1 s h; exact absurd h (Nat.not_lt_zero _)
    | succ n ih =>
      intro v1 s hm fr hi
      exact hY v1 s (fx_laySorts_L24_b (v1 := v1) (Q := Q) (Q2 := Q) (X24 := (fun v1' s' => I v1' s' ∧ me v1' s' < me v1 s)) (X242 := Y) fr (step v1 s fr hi) (fun _ _ _ h => h) (fun v1 s f h => ih v1 s (by omega) f h.1))
  exact key _ v1 σ0 (Nat.lt_succ_self _) Fr.rf h0
theorem fx_laySorts_j22 {σ0 σ : S} {Q Q2 : Int → S → Prop} (fr : Fr wX_laySorts σ0 σ) (h : x_laySorts_j22  σ Q) (kQ : ∀ r s, Fr wX_laySorts σ0 s → Q r s → Q2 r s) : x_laySorts_j22  σ Q2 := by
  unfold x_laySorts_j22 at h ⊢
  exact fx_laySorts_L24 fr h kQ
theorem fx_laySorts_L2_b {v1 : Int} {σ0 σ : S} {Q Q2 : Int → S → Prop} {X2 X22 : Int → S → Prop} (fr : Fr wX_laySorts σ0 σ) (h : (if v1 < 20 then inb v1 20 ∧ ∀ σ_27, σ_27 = pA σ 38 v1 (-2) → X2 (w32 (v1 + 1)) σ_27 else x_laySorts_j22 σ Q)) (kQ : ∀ r s, Fr wX_laySorts σ0 s → Q r s → Q2 r s) (kX2 : ∀ v1 s, Fr wX_laySorts σ0 s → X2 v1 s → X22 v1 s) : (if v1 < 20 then inb v1 20 ∧ ∀ σ_27, σ_27 = pA σ 38 v1 (-2) → X22 (w32 (v1 + 1)) σ_27 else x_laySorts_j22 σ Q2) :=
  ite_m (fun _ h0 => ⟨h0.1, fun σ_27 e2 => (have f2 : Fr wX_laySorts σ0 σ_27 := Fr.putA fr e2 rfl; kX2 _ _ f2 (h0.2 σ_27 e2))⟩) (fun _ h0 => fx_laySorts_j22 fr h0 kQ) h
theorem fx_laySorts_L2 {v1 : Int} {σ0 σ : S} {Q Q2 : Int → S → Prop} (fr : Fr wX_laySorts σ0 σ) (h : x_laySorts_L2 v1 σ Q) (kQ : ∀ r s, Fr wX_laySorts σ0 s → Q r s → Q2 r s) : x_laySorts_L2 v1 σ Q2 := by
  unfold x_laySorts_L2 at h ⊢
  intro Y hY
  exact h (fun v1 s => Fr wX_laySorts σ0 s → Y v1 s) (fun v1 s h f => hY v1 s (fx_laySorts_L2_b (v1 := v1) (Q := Q) (Q2 := Q2) (X2 := fun v1 s => Fr wX_laySorts σ0 s → Y v1 s) (X22 := Y) f h kQ (fun v1 s f h => h f))) fr
theorem lx_laySorts_L2 {v1 : Int} {σ0 : S} {Q : Int → S → Prop} (I : Int → S → Prop) (me : Int → S → Nat) (h0 : I v1 σ0) (step : ∀ (v1 : Int) (s : S), Fr wX_laySorts σ0 s → I v1 s → (fun (Y0 : Int → S → Prop) => (if v1 < 20 then inb v1 20 ∧ ∀ σ_27, σ_27 = pA s 38 v1 (-2) → Y0 (w32 (v1 + 1)) σ_27 else x_laySorts_j22 s Q)) (fun v1' s' => I v1' s' ∧ me v1' s' < me v1 s)) : x_laySorts_L2 v1 σ0 Q := by
  unfold x_laySorts_L2
  intro Y hY
  have key : ∀ (n : Nat) (v1 : Int) (s : S), me v1 s < n → Fr wX_laySorts σ0 s → I v1 s → Y v1 s := by
    intro n
    induction n with
    | zero => intro v1 s h; exact absurd h (Nat.not_lt_zero _)
    | succ n ih =>
      intro v1 s hm fr hi
      exact hY v1 s (fx_laySorts_L2_b (v1 := v1) (Q := Q) (Q2 := Q) (X2 := (fun v1' s' => I v1' s' ∧ me v1' s' < me v1 s)) (X22 := Y) fr (step v1 s fr hi) (fun _ _ _ h => h) (fun v1 s f h => ih v1 s (by omega) f h.1))
  exact key _ v1 σ0 (Nat.lt_succ_self _) Fr.rf h0
theorem fm_x_laySorts {σ0 : S} {Q Q2 : Int → S → Prop} (h : x_laySorts  σ0 Q) (kQ : ∀ r s, Fr wX_laySorts σ0 s → Q r s → Q2 r s) : x_laySorts  σ0 Q2 := by
  have fr : Fr wX_laySorts σ0 σ0 := Fr.rf
  unfold x_laySorts at h ⊢
  exact fx_laySorts_L2 fr h kQ
theorem fx_layBelow_L69_b {v3 : Int} {v4 : Int} {v5 : Int} {σ0 σ : S} {Q Q2 : Int → S → Prop} {X69 X692 : Int → S → Prop} (fr : Fr wX_layBelow σ0 σ) (h : (if v5 < gI σ 22 then inb v5 20 ∧ ((¬ gA σ 40 v5 = v3) → (inb v5 20)) ∧ ((¬ gA σ 40 v5 = v3) → (¬ gA σ 40 v5 = v4) → (inb v5 20)) ∧ inb v5 20 ∧ ∀ σ_26, σ_26 = pA σ 40 v5 (if gA σ 40 v5 = v3 then min v3 v4 else (if gA σ 40 v5 = v4 then min v3 v4 else gA σ 40 v5)) → X69 (w32 (v5 + 1)) σ_26 else Q 1 σ)) (kQ : ∀ r s, Fr wX_layBelow σ0 s → Q r s → Q2 r s) (kX69 : ∀ v5 s, Fr wX_layBelow σ0 s → X69 v5 s → X692 v5 s) : (if v5 < gI σ 22 then inb v5 20 ∧ ((¬ gA σ 40 v5 = v3) → (inb v5 20)) ∧ ((¬ gA σ 40 v5 = v3) → (¬ gA σ 40 v5 = v4) → (inb v5 20)) ∧ inb v5 20 ∧ ∀ σ_26, σ_26 = pA σ 40 v5 (if gA σ 40 v5 = v3 then min v3 v4 else (if gA σ 40 v5 = v4 then min v3 v4 else gA σ 40 v5)) → X692 (w32 (v5 + 1)) σ_26 else Q2 1 σ) :=
  ite_m (fun _ h0 => ⟨h0.1, ⟨h0.2.1, ⟨h0.2.2.1, ⟨h0.2.2.2.1, fun σ_26 e5 => (have f5 : Fr wX_layBelow σ0 σ_26 := Fr.putA fr e5 rfl; kX69 _ _ f5 (h0.2.2.2.2 σ_26 e5))⟩⟩⟩⟩) (fun _ h0 => kQ _ _ fr h0) h
theorem fx_layBelow_L69 {v3 : Int} {v4 : Int} {v5 : Int} {σ0 σ : S} {Q Q2 : Int → S → Prop} (fr : Fr wX_layBelow σ0 σ) (h : x_layBelow_L69 v3 v4 v5 σ Q) (kQ : ∀ r s, Fr wX_layBelow σ0 s → Q r s → Q2 r s) : x_layBelow_L69 v3 v4 v5 σ Q2 := by
  unfold x_layBelow_L69 at h ⊢
  intro Y hY
  exact h (fun v5 s => Fr wX_layBelow σ0 s → Y v5 s) (fun v5 s h f => hY v5 s (fx_layBelow_L69_b (v3 := v3) (v4 := v4) (v5 := v5) (Q := Q) (Q2 := Q2) (X69 := fun v5 s => Fr wX_layBelow σ0 s → Y v5 s) (X692 := Y) f h kQ (fun v5 s f h => h f))) fr
theorem lx_layBelow_L69 {v3 : Int} {v4 : Int} {v5 : Int} {σ0 : S} {Q : Int → S → Prop} (I : Int → S → Prop) (me : Int → S → Nat) (h0 : I v5 σ0) (step : ∀ (v5 : Int) (s : S), Fr wX_layBelow σ0 s → I v5 s → (fun (Y0 : Int → S → Prop) => (if v5 < gI s 22 then inb v5 20 ∧ ((¬ gA s 40 v5 = v3) → (inb v5 20)) ∧ ((¬ gA s 40 v5 = v3) → (¬ gA s 40 v5 = v4) → (inb v5 20)) ∧ inb v5 20 ∧ ∀ σ_26, σ_26 = pA s 40 v5 (if gA s 40 v5 = v3 then min v3 v4 else (if gA s 40 v5 = v4 then min v3 v4 else gA s 40 v5)) → Y0 (w32 (v5 + 1)) σ_26 else Q 1 s)) (fun v5' s' => I v5' s' ∧ me v5' s' < me v5 s)) : x_layBelow_L69 v3 v4 v5 σ0 Q := by
  unfold x_layBelow_L69
  intro Y hY
  have key : ∀ (n : Nat) (v5 : Int) (s : S), me v5 s < n → Fr wX_layBelow σ0 s → I v5 s → Y v5 s := by
    intro n
    induction n with
    | zero => intro v5 s h; exact absurd h (Nat.not_lt_zero _)
    | succ n ih =>
      intro v5 s hm fr hi
      exact hY v5 s (fx_layBelow_L69_b (v3 := v3) (v4 := v4) (v5 := v5) (Q := Q) (Q2 := Q) (X69 := (fun v5' s' => I v5' s' ∧ me v5' s' < me v5 s)) (X692 := Y) fr (step v5 s fr hi) (fun _ _ _ h => h) (fun v5 s f h => ih v5 s (by omega) f h.1))
  exact key _ v5 σ0 (Nat.lt_succ_self _) Fr.rf h0
theorem fx_layBelow_j51 {v1 : Int} {v2 : Int} {σ0 σ : S} {Q Q2 : Int → S → Prop} (fr : Fr wX_layBelow σ0 σ) (h : x_layBelow_j51 v1 v2 σ Q) (kQ : ∀ r s, Fr wX_layBelow σ0 s → Q r s → Q2 r s) : x_layBelow_j51 v1 v2 σ Q2 := by
  unfold x_layBelow_j51 at h ⊢
  exact ⟨h.1, ⟨h.2.1, fx_layBelow_L69 fr h.2.2 kQ⟩⟩
theorem fx_layBelow_j45 {v1 : Int} {v2 : Int} {v3 : Int} {σ0 σ : S} {Q Q2 : Int → S → Prop} {X13 X132 : Int → S → Prop} (fr : Fr wX_layBelow σ0 σ) (h : x_layBelow_j45 v1 v2 v3 σ Q X13) (kQ : ∀ r s, Fr wX_layBelow σ0 s → Q r s → Q2 r s) (kX13 : ∀ a0 s, Fr wX_layBelow σ0 s → X13 a0 s → X132 a0 s) : x_layBelow_j45 v1 v2 v3 σ Q2 X132 := by
  unfold x_layBelow_j45 at h ⊢
  exact kX13 _ _ fr h
theorem fx_layBelow_L13_b {v1 : Int} {v2 : Int} {v3 : Int} {σ0 σ : S} {Q Q2 : Int → S → Prop} {X13 X132 : Int → S → Prop} (fr : Fr wX_layBelow σ0 σ) (h : (if v3 < gI σ 22 then x_isBelow v3 v1 σ (fun r_30 σ_29 => (if r_30 = 0 then x_layBelow_j45 v1 v2 v3 σ_29 Q X13 else inb v3 20 ∧ inb v2 20 ∧ inb v3 20 ∧ ∀ σ_37, σ_37 = pA σ_29 39 v3 (bOr (gA σ_29 39 v3) (gA σ_29 39 v2)) → x_layBelow_j45 v1 v2 v3 σ_37 Q X13)) else x_layBelow_j51 v1 v2 σ Q)) (kQ : ∀ r s, Fr wX_layBelow σ0 s → Q r s → Q2 r s) (kX13 : ∀ v3 s, Fr wX_layBelow σ0 s → X13 v3 s → X132 v3 s) : (if v3 < gI σ 22 then x_isBelow v3 v1 σ (fun r_30 σ_29 => (if r_30 = 0 then x_layBelow_j45 v1 v2 v3 σ_29 Q2 X132 else inb v3 20 ∧ inb v2 20 ∧ inb v3 20 ∧ ∀ σ_37, σ_37 = pA σ_29 39 v3 (bOr (gA σ_29 39 v3) (gA σ_29 39 v2)) → x_layBelow_j45 v1 v2 v3 σ_37 Q2 X132)) else x_layBelow_j51 v1 v2 σ Q2) :=
  ite_m (fun _ h0 => fm_x_isBelow h0 (fun r_30 σ_29 f h1 => (have f1 : Fr wX_layBelow σ0 σ_29 := (fr.trans (f.weak (by decide +kernel))); ite_m (fun _ h2 => fx_layBelow_j45 f1 h2 kQ kX13) (fun _ h2 => ⟨h2.1, ⟨h2.2.1, ⟨h2.2.2.1, fun σ_37 e6 => (have f6 : Fr wX_layBelow σ0 σ_37 := Fr.putA f1 e6 rfl; fx_layBelow_j45 f6 (h2.2.2.2 σ_37 e6) kQ kX13)⟩⟩⟩) h1))) (fun _ h0 => fx_layBelow_j51 fr h0 kQ) h
theorem fx_layBelow_L13 {v1 : Int} {v2 : Int} {v3 : Int} {σ0 σ : S} {Q Q2 : Int → S → Prop} (fr : Fr wX_layBelow σ0 σ) (h : x_layBelow_L13 v1 v2 v3 σ Q) (kQ : ∀ r s, Fr wX_layBelow σ0 s → Q r s → Q2 r s) : x_layBelow_L13 v1 v2 v3 σ Q2 := by
  unfold x_layBelow_L13 at h ⊢
  intro Y hY
  exact h (fun v3 s => Fr wX_layBelow σ0 s → Y v3 s) (fun v3 s h f => hY v3 s (fx_layBelow_L13_b (v1 := v1) (v2 := v2) (v3 := v3) (Q := Q) (Q2 := Q2) (X13 := fun v3 s => Fr wX_layBelow σ0 s → Y v3 s) (X132 := Y) f h kQ (fun v3 s f h => h f))) fr
theorem lx_layBelow_L13 {v1 : Int} {v2 : Int} {v3 : Int} {σ0 : S} {Q : Int → S → Prop} (I : Int → S → Prop) (me : Int → S → Nat) (h0 : I v3 σ0) (step : ∀ (v3 : Int) (s : S), Fr wX_layBelow σ0 s → I v3 s → (fun (Y0 : Int → S → Prop) => (if v3 < gI s 22 then x_isBelow v3 v1 s (fun r_30 σ_29 => (if r_30 = 0 then x_layBelow_j45 v1 v2 v3 σ_29 Q Y0 else inb v3 20 ∧ inb v2 20 ∧ inb v3 20 ∧ ∀ σ_37, σ_37 = pA σ_29 39 v3 (bOr (gA σ_29 39 v3) (gA σ_29 39 v2)) → x_layBelow_j45 v1 v2 v3 σ_37 Q Y0)) else x_layBelow_j51 v1 v2 s Q)) (fun v3' s' => I v3' s' ∧ me v3' s' < me v3 s)) : x_layBelow_L13 v1 v2 v3 σ0 Q := by
  unfold x_layBelow_L13
  intro Y hY
  have key : ∀ (n : Nat) (v3 : Int) (s : S), me v3 s < n → Fr wX_layBelow σ0 s → I v3 s → Y v3 s := by
    intro n
    induction n with
    | zero => intro v3 s h; exact absurd h (Nat.not_lt_zero _)
    | succ n ih =>
      intro v3 s hm fr hi
      exact hY v3 s (fx_layBelow_L13_b (v1 := v1) (v2 := v2) (v3 := v3) (Q := Q) (Q2 := Q) (X13 := (fun v3' s' => I v3' s' ∧ me v3' s' < me v3 s)) (X132 := Y) fr (step v3 s fr hi) (fun _ _ _ h => h) (fun v3 s f h => ih v3 s (by omega) f h.1))
  exact key _ v3 σ0 (Nat.lt_succ_self _) Fr.rf h0
theorem fm_x_layBelow {v1 : Int} {v2 : Int} {σ0 : S} {Q Q2 : Int → S → Prop} (h : x_layBelow v1 v2 σ0 Q) (kQ : ∀ r s, Fr wX_layBelow σ0 s → Q r s → Q2 r s) : x_layBelow v1 v2 σ0 Q2 := by
  have fr : Fr wX_layBelow σ0 σ0 := Fr.rf
  unfold x_layBelow at h ⊢
  exact fm_x_isBelow h (fun r_2 σ_1 f h0 => (have f0 : Fr wX_layBelow σ0 σ_1 := (fr.trans (f.weak (by decide +kernel))); ite_m (fun _ h1 => fx_layBelow_L13 f0 h1 kQ) (fun _ h1 => kQ _ _ f0 h1) h0))
theorem fx_layLess_j98 {v1 : Int} {v2 : Int} {σ0 σ : S} {Q Q2 : Int → S → Prop} (fr : Fr wX_layLess σ0 σ) (h : x_layLess_j98 v1 v2 σ Q) (kQ : ∀ r s, Fr wX_layLess σ0 s → Q r s → Q2 r s) : x_layLess_j98 v1 v2 σ Q2 := by
  unfold x_layLess_j98 at h ⊢
  exact ite_m (fun _ h0 => ⟨h0.1, fm_x_wrong h0.2 (fun r_12 σ_11 f h2 => (have f2 : Fr wX_layLess σ0 σ_11 := (fr.trans (f.weak (by decide +kernel))); kQ _ _ f2 h2))⟩) (fun _ h0 => kQ _ _ fr h0) h
theorem fx_layLess_j92 {v1 : Int} {v2 : Int} {v3 : Int} {σ0 σ : S} {Q Q2 : Int → S → Prop} {X9 X92 : Int → Int → S → Prop} (fr : Fr wX_layLess σ0 σ) (h : x_layLess_j92 v1 v2 v3 σ Q X9) (kQ : ∀ r s, Fr wX_layLess σ0 s → Q r s → Q2 r s) (kX9 : ∀ a0 a1 s, Fr wX_layLess σ0 s → X9 a0 a1 s → X92 a0 a1 s) : x_layLess_j92 v1 v2 v3 σ Q2 X92 := by
  unfold x_layLess_j92 at h ⊢
  exact kX9 _ _ _ fr h
theorem fx_layLess_j84 {v1 : Int} {v3 : Int} {v4 : Int} {v5 : Int} {s0 : Int} {s1 : Int} {σ0 σ : S} {Q Q2 : Int → S → Prop} {X9 X92 : Int → Int → S → Prop} {X34 X342 : Int → Int → S → Prop} (fr : Fr wX_layLess σ0 σ) (h : x_layLess_j84 v1 v3 v4 v5 s0 s1 σ Q X9 X34) (kQ : ∀ r s, Fr wX_layLess σ0 s → Q r s → Q2 r s) (kX9 : ∀ a0 a1 s, Fr wX_layLess σ0 s → X9 a0 a1 s → X92 a0 a1 s) (kX34 : ∀ a0 a1 s, Fr wX_layLess σ0 s → X34 a0 a1 s → X342 a0 a1 s) : x_layLess_j84 v1 v3 v4 v5 s0 s1 σ Q2 X92 X342 := by
  unfold x_layLess_j84 at h ⊢
  exact kX34 _ _ _ fr h
theorem fx_layLess_j79 {v1 : Int} {v3 : Int} {v4 : Int} {v5 : Int} {s0 : Int} {σ0 σ : S} {Q Q2 : Int → S → Prop} {X9 X92 : Int → Int → S → Prop} {X34 X342 : Int → Int → S → Prop} (fr : Fr wX_layLess σ0 σ) (h : x_layLess_j79 v1 v3 v4 v5 s0 σ Q X9 X34) (kQ : ∀ r s, Fr wX_layLess σ0 s → Q r s → Q2 r s) (kX9 : ∀ a0 a1 s, Fr wX_layLess σ0 s → X9 a0 a1 s → X92 a0 a1 s) (kX34 : ∀ a0 a1 s, Fr wX_layLess σ0 s → X34 a0 a1 s → X342 a0 a1 s) : x_layLess_j79 v1 v3 v4 v5 s0 σ Q2 X92 X342 := by
  unfold x_layLess_j79 at h ⊢
  exact fx_layLess_j84 fr h kQ kX9 kX34
theorem fx_layLess_L34_b {v1 : Int} {v2 : Int} {v3 : Int} {v4 : Int} {v5 : Int} {σ0 σ : S} {Q Q2 : Int → S → Prop} {X9 X92 : Int → Int → S → Prop} {X34 X342 : Int → Int → S → Prop} (fr : Fr wX_layLess σ0 σ) (h : inb v1 460 ∧ (if v5 < gA σ 13 v1 then x_sortAt v5 σ (fun r_22 σ_21 => (if ¬ (v4 = (-2)) ∧ (¬ (r_22 = (-2))) then x_layBelow v4 r_22 σ_21 (fun r_26 σ_25 => (if r_26 = 0 then x_layLess_j84 v1 v3 v4 v5 0 v2 σ_25 Q X9 X34 else x_layLess_j79 v1 v3 v4 v5 v2 σ_25 Q X9 X34)) else x_layLess_j79 v1 v3 v4 v5 v2 σ_21 Q X9 X34)) else x_layLess_j92 v1 v2 v3 σ Q X9)) (kQ : ∀ r s, Fr wX_layLess σ0 s → Q r s → Q2 r s) (kX9 : ∀ a0 a1 s, Fr wX_layLess σ0 s → X9 a0 a1 s → X92 a0 a1 s) (kX34 : ∀ v2 v5 s, Fr wX_layLess σ0 s → X34 v2 v5 s → X342 v2 v5 s) : inb v1 460 ∧ (if v5 < gA σ 13 v1 then x_sortAt v5 σ (fun r_22 σ_21 => (if ¬ (v4 = (-2)) ∧ (¬ (r_22 = (-2))) then x_layBelow v4 r_22 σ_21 (fun r_26 σ_25 => (if r_26 = 0 then x_layLess_j84 v1 v3 v4 v5 0 v2 σ_25 Q2 X92 X342 else x_layLess_j79 v1 v3 v4 v5 v2 σ_25 Q2 X92 X342)) else x_layLess_j79 v1 v3 v4 v5 v2 σ_21 Q2 X92 X342)) else x_layLess_j92 v1 v2 v3 σ Q2 X92) :=
  ⟨h.1, ite_m (fun _ h1 => fm_x_sortAt h1 (fun r_22 σ_21 f h2 => (have f2 : Fr wX_layLess σ0 σ_21 := (fr.trans (f.weak (by decide +kernel))); ite_m (fun _ h3 => fm_x_layBelow h3 (fun r_26 σ_25 f h4 => (have f4 : Fr wX_layLess σ0 σ_25 := (f2.trans (f.weak (by decide +kernel))); ite_m (fun _ h5 => fx_layLess_j84 f4 h5 kQ kX9 kX34) (fun _ h5 => fx_layLess_j79 f4 h5 kQ kX9 kX34) h4))) (fun _ h3 => fx_layLess_j79 f2 h3 kQ kX9 kX34) h2))) (fun _ h1 => fx_layLess_j92 fr h1 kQ kX9) h.2⟩
theorem fx_layLess_L34 {v1 : Int} {v2 : Int} {v3 : Int} {v4 : Int} {v5 : Int} {σ0 σ : S} {Q Q2 : Int → S → Prop} {X9 X92 : Int → Int → S → Prop} (fr : Fr wX_layLess σ0 σ) (h : x_layLess_L34 v1 v2 v3 v4 v5 σ Q X9) (kQ : ∀ r s, Fr wX_layLess σ0 s → Q r s → Q2 r s) (kX9 : ∀ a0 a1 s, Fr wX_layLess σ0 s → X9 a0 a1 s → X92 a0 a1 s) : x_layLess_L34 v1 v2 v3 v4 v5 σ Q2 X92 := by
  unfold x_layLess_L34 at h ⊢
  intro Y hY
  exact h (fun v2 v5 s => Fr wX_layLess σ0 s → Y v2 v5 s) (fun v2 v5 s h f => hY v2 v5 s (fx_layLess_L34_b (v1 := v1) (v2 := v2) (v3 := v3) (v4 := v4) (v5 := v5) (Q := Q) (Q2 := Q2) (X9 := X9) (X92 := X92) (X34 := fun v2 v5 s => Fr wX_layLess σ0 s → Y v2 v5 s) (X342 := Y) f h kQ kX9 (fun v2 v5 s f h => h f))) fr
theorem lx_layLess_L34 {v1 : Int} {v2 : Int} {v3 : Int} {v4 : Int} {v5 : Int} {σ0 : S} {Q : Int → S → Prop} {X9 : Int → Int → S → Prop} (I : Int → Int → S → Prop) (me : Int → Int → S → Nat) (h0 : I v2 v5 σ0) (step : ∀ (v2 : Int) (v5 : Int) (s : S), Fr wX_layLess σ0 s → I v2 v5 s → (fun (Y0 : Int → Int → S → Prop) => inb v1 460 ∧ (if v5 < gA s 13 v1 then x_sortAt v5 s (fun r_22 σ_21 => (if ¬ (v4 = (-2)) ∧ (¬ (r_22 = (-2))) then x_layBelow v4 r_22 σ_21 (fun r_26 σ_25 => (if r_26 = 0 then x_layLess_j84 v1 v3 v4 v5 0 v2 σ_25 Q X9 Y0 else x_layLess_j79 v1 v3 v4 v5 v2 σ_25 Q X9 Y0)) else x_layLess_j79 v1 v3 v4 v5 v2 σ_21 Q X9 Y0)) else x_layLess_j92 v1 v2 v3 s Q X9)) (fun v2' v5' s' => I v2' v5' s' ∧ me v2' v5' s' < me v2 v5 s)) : x_layLess_L34 v1 v2 v3 v4 v5 σ0 Q X9 := by
  unfold x_layLess_L34
  intro Y hY
  have key : ∀ (n : Nat) (v2 : Int) (v5 : Int) (s : S), me v2 v5 s < n → Fr wX_layLess σ0 s → I v2 v5 s → Y v2 v5 s := by
    intro n
    induction n with
    | zero => intro v2 v5 s h; exact absurd h (Nat.not_lt_zero _)
    | succ n ih =>
      intro v2 v5 s hm fr hi
      exact hY v2 v5 s (fx_layLess_L34_b (v1 := v1) (v2 := v2) (v3 := v3) (v4 := v4) (v5 := v5) (Q := Q) (Q2 := Q) (X9 := X9) (X92 := X9) (X34 := (fun v2' v5' s' => I v2' v5' s' ∧ me v2' v5' s' < me v2 v5 s)) (X342 := Y) fr (step v2 v5 s fr hi) (fun _ _ _ h => h) (fun _ _ _ _ h => h) (fun v2 v5 s f h => ih v2 v5 s (by omega) f h.1))
  exact key _ v2 v5 σ0 (Nat.lt_succ_self _) Fr.rf h0
theorem fx_layLess_L9_b {v1 : Int} {v2 : Int} {v3 : Int} {σ0 σ : S} {Q Q2 : Int → S → Prop} {X9 X92 : Int → Int → S → Prop} (fr : Fr wX_layLess σ0 σ) (h : inb v1 460 ∧ (if v3 < gA σ 10 v1 then x_sortAt v3 σ (fun r_14 σ_13 => inb v1 460 ∧ x_layLess_L34 v1 v2 v3 r_14 (gA σ_13 12 v1) σ_13 Q X9) else x_layLess_j98 v1 v2 σ Q)) (kQ : ∀ r s, Fr wX_layLess σ0 s → Q r s → Q2 r s) (kX9 : ∀ v2 v3 s, Fr wX_layLess σ0 s → X9 v2 v3 s → X92 v2 v3 s) : inb v1 460 ∧ (if v3 < gA σ 10 v1 then x_sortAt v3 σ (fun r_14 σ_13 => inb v1 460 ∧ x_layLess_L34 v1 v2 v3 r_14 (gA σ_13 12 v1) σ_13 Q2 X92) else x_layLess_j98 v1 v2 σ Q2) :=
  ⟨h.1, ite_m (fun _ h1 => fm_x_sortAt h1 (fun r_14 σ_13 f h2 => (have f2 : Fr wX_layLess σ0 σ_13 := (fr.trans (f.weak (by decide +kernel))); ⟨h2.1, fx_layLess_L34 f2 h2.2 kQ kX9⟩))) (fun _ h1 => fx_layLess_j98 fr h1 kQ) h.2⟩
theorem fx_layLess_L9 {v1 : Int} {v2 : Int} {v3 : Int} {σ0 σ : S} {Q Q2 : Int → S → Prop} (fr : Fr wX_layLess σ0 σ) (h : x_layLess_L9 v1 v2 v3 σ Q) (kQ : ∀ r s, Fr wX_layLess σ0 s → Q r s → Q2 r s) : x_layLess_L9 v1 v2 v3 σ Q2 := by
  unfold x_layLess_L9 at h ⊢
  intro Y hY
  exact h (fun v2 v3 s => Fr wX_layLess σ0 s → Y v2 v3 s) (fun v2 v3 s h f => hY v2 v3 s (fx_layLess_L9_b (v1 := v1) (v2 := v2) (v3 := v3) (Q := Q) (Q2 := Q2) (X9 := fun v2 v3 s => Fr wX_layLess σ0 s → Y v2 v3 s) (X92 := Y) f h kQ (fun v2 v3 s f h => h f))) fr
theorem lx_layLess_L9 {v1 : Int} {v2 : Int} {v3 : Int} {σ0 : S} {Q : Int → S → Prop} (I : Int → Int → S → Prop) (me : Int → Int → S → Nat) (h0 : I v2 v3 σ0) (step : ∀ (v2 : Int) (v3 : Int) (s : S), Fr wX_layLess σ0 s → I v2 v3 s → (fun (Y0 : Int → Int → S → Prop) => inb v1 460 ∧ (if v3 < gA s 10 v1 then x_sortAt v3 s (fun r_14 σ_13 => inb v1 460 ∧ x_layLess_L34 v1 v2 v3 r_14 (gA σ_13 12 v1) σ_13 Q Y0) else x_layLess_j98 v1 v2 s Q)) (fun v2' v3' s' => I v2' v3' s' ∧ me v2' v3' s' < me v2 v3 s)) : x_layLess_L9 v1 v2 v3 σ0 Q := by
  unfold x_layLess_L9
  intro Y hY
  have key : ∀ (n : Nat) (v2 : Int) (v3 : Int) (s : S), me v2 v3 s < n → Fr wX_layLess σ0 s → I v2 v3 s → Y v2 v3 s := by
    intro n
    induction n with
    | zero => intro v2 v3 s h; exact absurd h (Nat.not_lt_zero _)
    | succ n ih =>
      intro v2 v3 s hm fr hi
      exact hY v2 v3 s (fx_layLess_L9_b (v1 := v1) (v2 := v2) (v3 := v3) (Q := Q) (Q2 := Q) (X9 := (fun v2' v3' s' => I v2' v3' s' ∧ me v2' v3' s' < me v2 v3 s)) (X92 := Y) fr (step v2 v3 s fr hi) (fun _ _ _ h => h) (fun v2 v3 s f h => ih v2 v3 s (by omega) f h.1))
  exact key _ v2 v3 σ0 (Nat.lt_succ_self _) Fr.rf h0
theorem fm_x_layLess {v1 : Int} {σ0 : S} {Q Q2 : Int → S → Prop} (h : x_layLess v1 σ0 Q) (kQ : ∀ r s, Fr wX_layLess σ0 s → Q r s → Q2 r s) : x_layLess v1 σ0 Q2 := by
  have fr : Fr wX_layLess σ0 σ0 := Fr.rf
  unfold x_layLess at h ⊢
  exact ⟨h.1, fx_layLess_L9 fr h.2 kQ⟩
theorem fx_layKinds_j55 {v1 : Int} {s0 : Int} {s1 : Int} {σ0 σ : S} {Q Q2 : Int → S → Prop} {X7 X72 : Int → S → Prop} (fr : Fr wX_layKinds σ0 σ) (h : x_layKinds_j55 v1 s0 s1 σ Q X7) (kQ : ∀ r s, Fr wX_layKinds σ0 s → Q r s → Q2 r s) (kX7 : ∀ a0 s, Fr wX_layKinds σ0 s → X7 a0 s → X72 a0 s) : x_layKinds_j55 v1 s0 s1 σ Q2 X72 := by
  unfold x_layKinds_j55 at h ⊢
  exact ⟨h.1, fun σ_14 e1 => (have f1 : Fr wX_layKinds σ0 σ_14 := Fr.putA fr e1 rfl; kX7 _ _ f1 (h.2 σ_14 e1))⟩
theorem fx_layKinds_L7_b {v1 : Int} {σ0 σ : S} {Q Q2 : Int → S → Prop} {X7 X72 : Int → S → Prop} (fr : Fr wX_layKinds σ0 σ) (h : (if v1 < gI σ 22 then inb v1 20 ∧ (if gA σ 40 v1 = v1 then ∀ σ_18, σ_18 = pI σ 61 (w32 (gI σ 61 + 1)) → x_layKinds_j55 v1 (gI σ 61) v1 σ_18 Q X7 else inb v1 20 ∧ inb (gA σ 40 v1) 20 ∧ x_layKinds_j55 v1 (gA σ 40 (gA σ 40 v1)) v1 σ Q X7) else Q 0 σ)) (kQ : ∀ r s, Fr wX_layKinds σ0 s → Q r s → Q2 r s) (kX7 : ∀ v1 s, Fr wX_layKinds σ0 s → X7 v1 s → X72 v1 s) : (if v1 < gI σ 22 then inb v1 20 ∧ (if gA σ 40 v1 = v1 then ∀ σ_18, σ_18 = pI σ 61 (w32 (gI σ 61 + 1)) → x_layKinds_j55 v1 (gI σ 61) v1 σ_18 Q2 X72 else inb v1 20 ∧ inb (gA σ 40 v1) 20 ∧ x_layKinds_j55 v1 (gA σ 40 (gA σ 40 v1)) v1 σ Q2 X72) else Q2 0 σ) :=
  ite_m (fun _ h0 => ⟨h0.1, ite_m (fun _ h2 => fun σ_18 e3 => (have f3 : Fr wX_layKinds σ0 σ_18 := Fr.putI fr e3 rfl; fx_layKinds_j55 f3 (h2 σ_18 e3) kQ kX7)) (fun _ h2 => ⟨h2.1, ⟨h2.2.1, fx_layKinds_j55 fr h2.2.2 kQ kX7⟩⟩) h0.2⟩) (fun _ h0 => kQ _ _ fr h0) h
theorem fx_layKinds_L7 {v1 : Int} {σ0 σ : S} {Q Q2 : Int → S → Prop} (fr : Fr wX_layKinds σ0 σ) (h : x_layKinds_L7 v1 σ Q) (kQ : ∀ r s, Fr wX_layKinds σ0 s → Q r s → Q2 r s) : x_layKinds_L7 v1 σ Q2 := by
  unfold x_layKinds_L7 at h ⊢
  intro Y hY
  exact h (fun v1 s => Fr wX_layKinds σ0 s → Y v1 s) (fun v1 s h f => hY v1 s (fx_layKinds_L7_b (v1 := v1) (Q := Q) (Q2 := Q2) (X7 := fun v1 s => Fr wX_layKinds σ0 s → Y v1 s) (X72 := Y) f h kQ (fun v1 s f h => h f))) fr
theorem lx_layKinds_L7 {v1 : Int} {σ0 : S} {Q : Int → S → Prop} (I : Int → S → Prop) (me : Int → S → Nat) (h0 : I v1 σ0) (step : ∀ (v1 : Int) (s : S), Fr wX_layKinds σ0 s → I v1 s → (fun (Y0 : Int → S → Prop) => (if v1 < gI s 22 then inb v1 20 ∧ (if gA s 40 v1 = v1 then ∀ σ_18, σ_18 = pI s 61 (w32 (gI s 61 + 1)) → x_layKinds_j55 v1 (gI s 61) v1 σ_18 Q Y0 else inb v1 20 ∧ inb (gA s 40 v1) 20 ∧ x_layKinds_j55 v1 (gA s 40 (gA s 40 v1)) v1 s Q Y0) else Q 0 s)) (fun v1' s' => I v1' s' ∧ me v1' s' < me v1 s)) : x_layKinds_L7 v1 σ0 Q := by
  unfold x_layKinds_L7
  intro Y hY
  have key : ∀ (n : Nat) (v1 : Int) (s : S), me v1 s < n → Fr wX_layKinds σ0 s → I v1 s → Y v1 s := by
    intro n
    induction n with
    | zero => intro v1 s h; exact absurd h (Nat.not_lt_zero _)
    | succ n ih =>
      intro v1 s hm fr hi
      exact hY v1 s (fx_layKinds_L7_b (v1 := v1) (Q := Q) (Q2 := Q) (X7 := (fun v1' s' => I v1' s' ∧ me v1' s' < me v1 s)) (X72 := Y) fr (step v1 s fr hi) (fun _ _ _ h => h) (fun v1 s f h => ih v1 s (by omega) f h.1))
  exact key _ v1 σ0 (Nat.lt_succ_self _) Fr.rf h0
theorem fm_x_layKinds {σ0 : S} {Q Q2 : Int → S → Prop} (h : x_layKinds  σ0 Q) (kQ : ∀ r s, Fr wX_layKinds σ0 s → Q r s → Q2 r s) : x_layKinds  σ0 Q2 := by
  have fr : Fr wX_layKinds σ0 σ0 := Fr.rf
  unfold x_layKinds at h ⊢
  exact fun σ_1 e0 => (have f0 : Fr wX_layKinds σ0 σ_1 := Fr.putI fr e0 rfl; fx_layKinds_L7 f0 (h σ_1 e0) kQ)
theorem fm_x_addPart {v1 : Int} {v2 : Int} {σ0 : S} {Q Q2 : Int → S → Prop} (h : x_addPart v1 v2 σ0 Q) (kQ : ∀ r s, Fr wX_addPart σ0 s → Q r s → Q2 r s) : x_addPart v1 v2 σ0 Q2 := by
  have fr : Fr wX_addPart σ0 σ0 := Fr.rf
  unfold x_addPart at h ⊢
  exact ⟨h.1, ite_m (fun _ h1 => kQ _ _ fr h1) (fun _ h1 => ⟨h1.1, ⟨h1.2.1, fun σ_7 e4 => (have f4 : Fr wX_addPart σ0 σ_7 := Fr.putA fr e4 rfl; ⟨(h1.2.2 σ_7 e4).1, fun σ_10 e6 => (have f6 : Fr wX_addPart σ0 σ_10 := Fr.putA f4 e6 rfl; kQ _ _ f6 ((h1.2.2 σ_7 e4).2 σ_10 e6))⟩)⟩⟩) h.2⟩
theorem fm_x_signId {v1 : Int} {σ0 : S} {Q Q2 : Int → S → Prop} (h : x_signId v1 σ0 Q) (kQ : ∀ r s, Fr wX_signId σ0 s → Q r s → Q2 r s) : x_signId v1 σ0 Q2 := by
  have fr : Fr wX_signId σ0 σ0 := Fr.rf
  unfold x_signId at h ⊢
  exact ⟨h.1, fun σ_1 e1 => (have f1 : Fr wX_signId σ0 σ_1 := Fr.putA fr e1 rfl; fm_x_idOf (h.2 σ_1 e1) (fun r_5 σ_4 f h2 => (have f2 : Fr wX_signId σ0 σ_4 := (f1.trans (f.weak (by decide +kernel))); kQ _ _ f2 h2)))⟩
theorem fx_layPrefix_j85 {σ0 σ : S} {Q Q2 : Int → S → Prop} (fr : Fr wX_layPrefix σ0 σ) (h : x_layPrefix_j85  σ Q) (kQ : ∀ r s, Fr wX_layPrefix σ0 s → Q r s → Q2 r s) : x_layPrefix_j85  σ Q2 := by
  unfold x_layPrefix_j85 at h ⊢
  exact kQ _ _ fr h
theorem fx_layPrefix_j63 {v1 : Int} {v3 : Int} {σ0 σ : S} {Q Q2 : Int → S → Prop} (fr : Fr wX_layPrefix σ0 σ) (h : x_layPrefix_j63 v1 v3 σ Q) (kQ : ∀ r s, Fr wX_layPrefix σ0 s → Q r s → Q2 r s) : x_layPrefix_j63 v1 v3 σ Q2 := by
  unfold x_layPrefix_j63 at h ⊢
  exact ite_m (fun _ h0 => fx_layPrefix_j85 fr h0 kQ) (fun _ h0 => fm_x_signId h0 (fun r_10 σ_9 f h1 => (have f1 : Fr wX_layPrefix σ0 σ_9 := (fr.trans (f.weak (by decide +kernel))); fm_x_addPart h1 (fun r_12 σ_11 f h2 => (have f2 : Fr wX_layPrefix σ0 σ_11 := (f1.trans (f.weak (by decide +kernel))); ite_m (fun _ h3 => fx_layPrefix_j85 f2 h3 kQ) (fun _ h3 => kQ _ _ f2 h3) h2))))) h
theorem fx_layPrefix_j55 {v1 : Int} {v2 : Int} {v4 : Int} {s0 : Int} {s1 : Int} {σ0 σ : S} {Q Q2 : Int → S → Prop} {X15 X152 : Int → Int → S → Prop} (fr : Fr wX_layPrefix σ0 σ) (h : x_layPrefix_j55 v1 v2 v4 s0 s1 σ Q X15) (kQ : ∀ r s, Fr wX_layPrefix σ0 s → Q r s → Q2 r s) (kX15 : ∀ a0 a1 s, Fr wX_layPrefix σ0 s → X15 a0 a1 s → X152 a0 a1 s) : x_layPrefix_j55 v1 v2 v4 s0 s1 σ Q2 X152 := by
  unfold x_layPrefix_j55 at h ⊢
  exact kX15 _ _ _ fr h
theorem fx_layPrefix_j54 {v1 : Int} {v2 : Int} {v4 : Int} {s0 : Int} {σ0 σ : S} {Q Q2 : Int → S → Prop} {X15 X152 : Int → Int → S → Prop} (fr : Fr wX_layPrefix σ0 σ) (h : x_layPrefix_j54 v1 v2 v4 s0 σ Q X15) (kQ : ∀ r s, Fr wX_layPrefix σ0 s → Q r s → Q2 r s) (kX15 : ∀ a0 a1 s, Fr wX_layPrefix σ0 s → X15 a0 a1 s → X152 a0 a1 s) : x_layPrefix_j54 v1 v2 v4 s0 σ Q2 X152 := by
  unfold x_layPrefix_j54 at h ⊢
  exact fx_layPrefix_j55 fr h kQ kX15
theorem fx_layPrefix_j41 {v1 : Int} {v2 : Int} {v4 : Int} {s0 : Int} {σ0 σ : S} {Q Q2 : Int → S → Prop} {X15 X152 : Int → Int → S → Prop} (fr : Fr wX_layPrefix σ0 σ) (h : x_layPrefix_j41 v1 v2 v4 s0 σ Q X15) (kQ : ∀ r s, Fr wX_layPrefix σ0 s → Q r s → Q2 r s) (kX15 : ∀ a0 a1 s, Fr wX_layPrefix σ0 s → X15 a0 a1 s → X152 a0 a1 s) : x_layPrefix_j41 v1 v2 v4 s0 σ Q2 X152 := by
  unfold x_layPrefix_j41 at h ⊢
  exact fm_x_addPart h (fun r_18 σ_17 f h0 => (have f0 : Fr wX_layPrefix σ0 σ_17 := (fr.trans (f.weak (by decide +kernel))); ite_m (fun _ h1 => fx_layPrefix_j54 f0 h1 kQ kX15) (fun _ h1 => fx_layPrefix_j55 f0 h1 kQ kX15) h0))
theorem fx_layPrefix_L15_b {v1 : Int} {v2 : Int} {v3 : Int} {v4 : Int} {σ0 σ : S} {Q Q2 : Int → S → Prop} {X15 X152 : Int → Int → S → Prop} (fr : Fr wX_layPrefix σ0 σ) (h : (if v4 < v2 then (if v4 = 0 then x_layPrefix_j41 v1 v2 v4 v3 σ Q X15 else x_signId 44 σ (fun r_22 σ_21 => x_addPart v1 r_22 σ_21 (fun r_24 σ_23 => (if r_24 = 0 then x_layPrefix_j54 v1 v2 v4 v3 σ_23 Q X15 else x_layPrefix_j41 v1 v2 v4 v3 σ_23 Q X15)))) else x_layPrefix_j63 v1 v3 σ Q)) (kQ : ∀ r s, Fr wX_layPrefix σ0 s → Q r s → Q2 r s) (kX15 : ∀ v3 v4 s, Fr wX_layPrefix σ0 s → X15 v3 v4 s → X152 v3 v4 s) : (if v4 < v2 then (if v4 = 0 then x_layPrefix_j41 v1 v2 v4 v3 σ Q2 X152 else x_signId 44 σ (fun r_22 σ_21 => x_addPart v1 r_22 σ_21 (fun r_24 σ_23 => (if r_24 = 0 then x_layPrefix_j54 v1 v2 v4 v3 σ_23 Q2 X152 else x_layPrefix_j41 v1 v2 v4 v3 σ_23 Q2 X152)))) else x_layPrefix_j63 v1 v3 σ Q2) :=
  ite_m (fun _ h0 => ite_m (fun _ h1 => fx_layPrefix_j41 fr h1 kQ kX15) (fun _ h1 => fm_x_signId h1 (fun r_22 σ_21 f h2 => (have f2 : Fr wX_layPrefix σ0 σ_21 := (fr.trans (f.weak (by decide +kernel))); fm_x_addPart h2 (fun r_24 σ_23 f h3 => (have f3 : Fr wX_layPrefix σ0 σ_23 := (f2.trans (f.weak (by decide +kernel))); ite_m (fun _ h4 => fx_layPrefix_j54 f3 h4 kQ kX15) (fun _ h4 => fx_layPrefix_j41 f3 h4 kQ kX15) h3))))) h0) (fun _ h0 => fx_layPrefix_j63 fr h0 kQ) h
theorem fx_layPrefix_L15 {v1 : Int} {v2 : Int} {v3 : Int} {v4 : Int} {σ0 σ : S} {Q Q2 : Int → S → Prop} (fr : Fr wX_layPrefix σ0 σ) (h : x_layPrefix_L15 v1 v2 v3 v4 σ Q) (kQ : ∀ r s, Fr wX_layPrefix σ0 s → Q r s → Q2 r s) : x_layPrefix_L15 v1 v2 v3 v4 σ Q2 := by
  unfold x_layPrefix_L15 at h ⊢
  intro Y hY
  exact h (fun v3 v4 s => Fr wX_layPrefix σ0 s → Y v3 v4 s) (fun v3 v4 s h f => hY v3 v4 s (fx_layPrefix_L15_b (v1 := v1) (v2 := v2) (v3 := v3) (v4 := v4) (Q := Q) (Q2 := Q2) (X15 := fun v3 v4 s => Fr wX_layPrefix σ0 s → Y v3 v4 s) (X152 := Y) f h kQ (fun v3 v4 s f h => h f))) fr
theorem lx_layPrefix_L15 {v1 : Int} {v2 : Int} {v3 : Int} {v4 : Int} {σ0 : S} {Q : Int → S → Prop} (I : Int → Int → S → Prop) (me : Int → Int → S → Nat) (h0 : I v3 v4 σ0) (step : ∀ (v3 : Int) (v4 : Int) (s : S), Fr wX_layPrefix σ0 s → I v3 v4 s → (fun (Y0 : Int → Int → S → Prop) => (if v4 < v2 then (if v4 = 0 then x_layPrefix_j41 v1 v2 v4 v3 s Q Y0 else x_signId 44 s (fun r_22 σ_21 => x_addPart v1 r_22 σ_21 (fun r_24 σ_23 => (if r_24 = 0 then x_layPrefix_j54 v1 v2 v4 v3 σ_23 Q Y0 else x_layPrefix_j41 v1 v2 v4 v3 σ_23 Q Y0)))) else x_layPrefix_j63 v1 v3 s Q)) (fun v3' v4' s' => I v3' v4' s' ∧ me v3' v4' s' < me v3 v4 s)) : x_layPrefix_L15 v1 v2 v3 v4 σ0 Q := by
  unfold x_layPrefix_L15
  intro Y hY
  have key : ∀ (n : Nat) (v3 : Int) (v4 : Int) (s : S), me v3 v4 s < n → Fr wX_layPrefix σ0 s → I v3 v4 s → Y v3 v4 s := by
    intro n
    induction n with
    | zero => intro v3 v4 s h; exact absurd h (Nat.not_lt_zero _)
    | succ n ih =>
      intro v3 v4 s hm fr hi
      exact hY v3 v4 s (fx_layPrefix_L15_b (v1 := v1) (v2 := v2) (v3 := v3) (v4 := v4) (Q := Q) (Q2 := Q) (X15 := (fun v3' v4' s' => I v3' v4' s' ∧ me v3' v4' s' < me v3 v4 s)) (X152 := Y) fr (step v3 v4 s fr hi) (fun _ _ _ h => h) (fun v3 v4 s f h => ih v3 v4 s (by omega) f h.1))
  exact key _ v3 v4 σ0 (Nat.lt_succ_self _) Fr.rf h0
theorem fm_x_layPrefix {v1 : Int} {v2 : Int} {σ0 : S} {Q Q2 : Int → S → Prop} (h : x_layPrefix v1 v2 σ0 Q) (kQ : ∀ r s, Fr wX_layPrefix σ0 s → Q r s → Q2 r s) : x_layPrefix v1 v2 σ0 Q2 := by
  have fr : Fr wX_layPrefix σ0 σ0 := Fr.rf
  unfold x_layPrefix at h ⊢
  exact fm_x_signId h (fun r_2 σ_1 f h0 => (have f0 : Fr wX_layPrefix σ0 σ_1 := (fr.trans (f.weak (by decide +kernel))); fm_x_addPart h0 (fun r_4 σ_3 f h1 => (have f1 : Fr wX_layPrefix σ0 σ_3 := (f0.trans (f.weak (by decide +kernel))); fx_layPrefix_L15 f1 h1 kQ))))
theorem fx_layForm_j269 {v1 : Int} {v2 : Int} {v4 : Int} {σ0 σ : S} {Q Q2 : Int → S → Prop} (fr : Fr wX_layForm σ0 σ) (h : x_layForm_j269 v1 v2 v4 σ Q) (kQ : ∀ r s, Fr wX_layForm σ0 s → Q r s → Q2 r s) : x_layForm_j269 v1 v2 v4 σ Q2 := by
  unfold x_layForm_j269 at h ⊢
  exact ⟨h.1, kQ _ _ fr h.2⟩
theorem fx_layForm_j267 {σ0 σ : S} {Q Q2 : Int → S → Prop} (fr : Fr wX_layForm σ0 σ) (h : x_layForm_j267  σ Q) (kQ : ∀ r s, Fr wX_layForm σ0 s → Q r s → Q2 r s) : x_layForm_j267  σ Q2 := by
  unfold x_layForm_j267 at h ⊢
  exact kQ _ _ fr h
theorem fx_layForm_j184 {v1 : Int} {v2 : Int} {v3 : Int} {σ0 σ : S} {Q Q2 : Int → S → Prop} (fr : Fr wX_layForm σ0 σ) (h : x_layForm_j184 v1 v2 v3 σ Q) (kQ : ∀ r s, Fr wX_layForm σ0 s → Q r s → Q2 r s) : x_layForm_j184 v1 v2 v3 σ Q2 := by
  unfold x_layForm_j184 at h ⊢
  exact ⟨h.1, ⟨h.2.1, ite_m (fun _ h2 => kQ _ _ fr h2) (fun _ h2 => ite_m (fun _ h3 => ite_m (fun _ h4 => ite_m (fun _ h5 => fx_layForm_j269 fr h5 kQ) (fun _ h5 => ⟨h5.1, ⟨h5.2.1, ⟨h5.2.2.1, ⟨h5.2.2.2.1, ite_m (fun _ h10 => fm_x_layPrefix h10 (fun r_40 σ_39 f h11 => (have f11 : Fr wX_layForm σ0 σ_39 := (fr.trans (f.weak (by decide +kernel))); ite_m (fun _ h12 => fx_layForm_j267 f11 h12 kQ) (fun _ h12 => kQ _ _ f11 h12) h11))) (fun _ h10 => fx_layForm_j267 fr h10 kQ) h5.2.2.2.2⟩⟩⟩⟩) h4) (fun _ h4 => fx_layForm_j269 fr h4 kQ) h3) (fun _ h3 => kQ _ _ fr h3) h2) h.2.2⟩⟩
theorem fx_layForm_j178 {v1 : Int} {v2 : Int} {v3 : Int} {v4 : Int} {σ0 σ : S} {Q Q2 : Int → S → Prop} {X19 X192 : Int → Int → Int → S → Prop} (fr : Fr wX_layForm σ0 σ) (h : x_layForm_j178 v1 v2 v3 v4 σ Q X19) (kQ : ∀ r s, Fr wX_layForm σ0 s → Q r s → Q2 r s) (kX19 : ∀ a0 a1 a2 s, Fr wX_layForm σ0 s → X19 a0 a1 a2 s → X192 a0 a1 a2 s) : x_layForm_j178 v1 v2 v3 v4 σ Q2 X192 := by
  unfold x_layForm_j178 at h ⊢
  exact kX19 _ _ _ _ fr h
theorem fx_layForm_j172 {v1 : Int} {v2 : Int} {v3 : Int} {v4 : Int} {v5 : Int} {v6 : Int} {σ0 σ : S} {Q Q2 : Int → S → Prop} {X19 X192 : Int → Int → Int → S → Prop} {X43 X432 : Int → Int → Int → Int → S → Prop} (fr : Fr wX_layForm σ0 σ) (h : x_layForm_j172 v1 v2 v3 v4 v5 v6 σ Q X19 X43) (kQ : ∀ r s, Fr wX_layForm σ0 s → Q r s → Q2 r s) (kX19 : ∀ a0 a1 a2 s, Fr wX_layForm σ0 s → X19 a0 a1 a2 s → X192 a0 a1 a2 s) (kX43 : ∀ a0 a1 a2 a3 s, Fr wX_layForm σ0 s → X43 a0 a1 a2 a3 s → X432 a0 a1 a2 a3 s) : x_layForm_j172 v1 v2 v3 v4 v5 v6 σ Q2 X192 X432 := by
  unfold x_layForm_j172 at h ⊢
  exact kX43 _ _ _ _ _ fr h
theorem fx_layForm_j155 {v1 : Int} {v2 : Int} {v3 : Int} {v4 : Int} {v5 : Int} {v6 : Int} {v7 : Int} {σ0 σ : S} {Q Q2 : Int → S → Prop} {X19 X192 : Int → Int → Int → S → Prop} {X43 X432 : Int → Int → Int → Int → S → Prop} (fr : Fr wX_layForm σ0 σ) (h : x_layForm_j155 v1 v2 v3 v4 v5 v6 v7 σ Q X19 X43) (kQ : ∀ r s, Fr wX_layForm σ0 s → Q r s → Q2 r s) (kX19 : ∀ a0 a1 a2 s, Fr wX_layForm σ0 s → X19 a0 a1 a2 s → X192 a0 a1 a2 s) (kX43 : ∀ a0 a1 a2 a3 s, Fr wX_layForm σ0 s → X43 a0 a1 a2 a3 s → X432 a0 a1 a2 a3 s) : x_layForm_j155 v1 v2 v3 v4 v5 v6 v7 σ Q2 X192 X432 := by
  unfold x_layForm_j155 at h ⊢
  exact ite_m (fun _ h0 => fx_layForm_j172 fr h0 kQ kX19 kX43) (fun _ h0 => fm_x_addPart h0 (fun r_65 σ_64 f h1 => (have f1 : Fr wX_layForm σ0 σ_64 := (fr.trans (f.weak (by decide +kernel))); fx_layForm_j172 f1 h1 kQ kX19 kX43))) h
theorem fx_layForm_j147 {v1 : Int} {v2 : Int} {v4 : Int} {v6 : Int} {v7 : Int} {s0 : Int} {s1 : Int} {σ0 σ : S} {Q Q2 : Int → S → Prop} {X19 X192 : Int → Int → Int → S → Prop} {X43 X432 : Int → Int → Int → Int → S → Prop} (fr : Fr wX_layForm σ0 σ) (h : x_layForm_j147 v1 v2 v4 v6 v7 s0 s1 σ Q X19 X43) (kQ : ∀ r s, Fr wX_layForm σ0 s → Q r s → Q2 r s) (kX19 : ∀ a0 a1 a2 s, Fr wX_layForm σ0 s → X19 a0 a1 a2 s → X192 a0 a1 a2 s) (kX43 : ∀ a0 a1 a2 a3 s, Fr wX_layForm σ0 s → X43 a0 a1 a2 a3 s → X432 a0 a1 a2 a3 s) : x_layForm_j147 v1 v2 v4 v6 v7 s0 s1 σ Q2 X192 X432 := by
  unfold x_layForm_j147 at h ⊢
  exact fx_layForm_j155 fr h kQ kX19 kX43
theorem fx_layForm_j142 {v1 : Int} {v2 : Int} {v4 : Int} {v6 : Int} {v7 : Int} {s0 : Int} {σ0 σ : S} {Q Q2 : Int → S → Prop} {X19 X192 : Int → Int → Int → S → Prop} {X43 X432 : Int → Int → Int → Int → S → Prop} (fr : Fr wX_layForm σ0 σ) (h : x_layForm_j142 v1 v2 v4 v6 v7 s0 σ Q X19 X43) (kQ : ∀ r s, Fr wX_layForm σ0 s → Q r s → Q2 r s) (kX19 : ∀ a0 a1 a2 s, Fr wX_layForm σ0 s → X19 a0 a1 a2 s → X192 a0 a1 a2 s) (kX43 : ∀ a0 a1 a2 a3 s, Fr wX_layForm σ0 s → X43 a0 a1 a2 a3 s → X432 a0 a1 a2 a3 s) : x_layForm_j142 v1 v2 v4 v6 v7 s0 σ Q2 X192 X432 := by
  unfold x_layForm_j142 at h ⊢
  exact fx_layForm_j147 fr h kQ kX19 kX43
theorem fx_layForm_j146 {v1 : Int} {v2 : Int} {v4 : Int} {v6 : Int} {v7 : Int} {s0 : Int} {σ0 σ : S} {Q Q2 : Int → S → Prop} {X19 X192 : Int → Int → Int → S → Prop} {X43 X432 : Int → Int → Int → Int → S → Prop} (fr : Fr wX_layForm σ0 σ) (h : x_layForm_j146 v1 v2 v4 v6 v7 s0 σ Q X19 X43) (kQ : ∀ r s, Fr wX_layForm σ0 s → Q r s → Q2 r s) (kX19 : ∀ a0 a1 a2 s, Fr wX_layForm σ0 s → X19 a0 a1 a2 s → X192 a0 a1 a2 s) (kX43 : ∀ a0 a1 a2 a3 s, Fr wX_layForm σ0 s → X43 a0 a1 a2 a3 s → X432 a0 a1 a2 a3 s) : x_layForm_j146 v1 v2 v4 v6 v7 s0 σ Q2 X192 X432 := by
  unfold x_layForm_j146 at h ⊢
  exact fx_layForm_j147 fr h kQ kX19 kX43
theorem fx_layForm_j103 {v1 : Int} {v2 : Int} {v3 : Int} {v4 : Int} {v5 : Int} {v6 : Int} {v7 : Int} {σ0 σ : S} {Q Q2 : Int → S → Prop} {X19 X192 : Int → Int → Int → S → Prop} {X43 X432 : Int → Int → Int → Int → S → Prop} (fr : Fr wX_layForm σ0 σ) (h : x_layForm_j103 v1 v2 v3 v4 v5 v6 v7 σ Q X19 X43) (kQ : ∀ r s, Fr wX_layForm σ0 s → Q r s → Q2 r s) (kX19 : ∀ a0 a1 a2 s, Fr wX_layForm σ0 s → X19 a0 a1 a2 s → X192 a0 a1 a2 s) (kX43 : ∀ a0 a1 a2 a3 s, Fr wX_layForm σ0 s → X43 a0 a1 a2 a3 s → X432 a0 a1 a2 a3 s) : x_layForm_j103 v1 v2 v3 v4 v5 v6 v7 σ Q2 X192 X432 := by
  unfold x_layForm_j103 at h ⊢
  exact ite_m (fun _ h0 => fx_layForm_j142 fr h0 kQ kX19 kX43) (fun _ h0 => ⟨h0.1, ite_m (fun _ h2 => fm_x_idOf h2 (fun r_71 σ_70 f h3 => (have f3 : Fr wX_layForm σ0 σ_70 := (fr.trans (f.weak (by decide +kernel))); fm_x_addPart h3 (fun r_73 σ_72 f h4 => (have f4 : Fr wX_layForm σ0 σ_72 := (f3.trans (f.weak (by decide +kernel))); ite_m (fun _ h5 => fx_layForm_j146 f4 h5 kQ kX19 kX43) (fun _ h5 => fx_layForm_j142 f4 h5 kQ kX19 kX43) h4))))) (fun _ h2 => fx_layForm_j146 fr h2 kQ kX19 kX43) h0.2⟩) h
theorem fx_layForm_L43_b {v1 : Int} {v2 : Int} {v3 : Int} {v4 : Int} {v5 : Int} {v6 : Int} {σ0 σ : S} {Q Q2 : Int → S → Prop} {X19 X192 : Int → Int → Int → S → Prop} {X43 X432 : Int → Int → Int → Int → S → Prop} (fr : Fr wX_layForm σ0 σ) (h : inb v4 902 ∧ (if v6 ≤ gA σ 4 v4 then inb v4 902 ∧ ((v6 < gA σ 4 v4) → (inb v6 6000)) ∧ (if bi ((v6 < gA σ 4 v4) ∧ (gA σ 1 v6 = 95)) = 0 then inb v4 902 ∧ (if v6 = gA σ 4 v4 then x_layForm_j103 v1 v2 v3 v4 v5 v6 (bi ((v6 < gA σ 4 v4) ∧ (gA σ 1 v6 = 95))) σ Q X19 X43 else x_layForm_j155 v1 v2 v3 v4 v5 v6 (bi ((v6 < gA σ 4 v4) ∧ (gA σ 1 v6 = 95))) σ Q X19 X43) else x_layForm_j103 v1 v2 v3 v4 v5 v6 (bi ((v6 < gA σ 4 v4) ∧ (gA σ 1 v6 = 95))) σ Q X19 X43) else x_layForm_j178 v1 v2 v3 v4 σ Q X19)) (kQ : ∀ r s, Fr wX_layForm σ0 s → Q r s → Q2 r s) (kX19 : ∀ a0 a1 a2 s, Fr wX_layForm σ0 s → X19 a0 a1 a2 s → X192 a0 a1 a2 s) (kX43 : ∀ v2 v3 v5 v6 s, Fr wX_layForm σ0 s → X43 v2 v3 v5 v6 s → X432 v2 v3 v5 v6 s) : inb v4 902 ∧ (if v6 ≤ gA σ 4 v4 then inb v4 902 ∧ ((v6 < gA σ 4 v4) → (inb v6 6000)) ∧ (if bi ((v6 < gA σ 4 v4) ∧ (gA σ 1 v6 = 95)) = 0 then inb v4 902 ∧ (if v6 = gA σ 4 v4 then x_layForm_j103 v1 v2 v3 v4 v5 v6 (bi ((v6 < gA σ 4 v4) ∧ (gA σ 1 v6 = 95))) σ Q2 X192 X432 else x_layForm_j155 v1 v2 v3 v4 v5 v6 (bi ((v6 < gA σ 4 v4) ∧ (gA σ 1 v6 = 95))) σ Q2 X192 X432) else x_layForm_j103 v1 v2 v3 v4 v5 v6 (bi ((v6 < gA σ 4 v4) ∧ (gA σ 1 v6 = 95))) σ Q2 X192 X432) else x_layForm_j178 v1 v2 v3 v4 σ Q2 X192) :=
  ⟨h.1, ite_m (fun _ h1 => ⟨h1.1, ⟨h1.2.1, ite_m (fun _ h4 => ⟨h4.1, ite_m (fun _ h6 => fx_layForm_j103 fr h6 kQ kX19 kX43) (fun _ h6 => fx_layForm_j155 fr h6 kQ kX19 kX43) h4.2⟩) (fun _ h4 => fx_layForm_j103 fr h4 kQ kX19 kX43) h1.2.2⟩⟩) (fun _ h1 => fx_layForm_j178 fr h1 kQ kX19) h.2⟩
theorem fx_layForm_L43 {v1 : Int} {v2 : Int} {v3 : Int} {v4 : Int} {v5 : Int} {v6 : Int} {σ0 σ : S} {Q Q2 : Int → S → Prop} {X19 X192 : Int → Int → Int → S → Prop} (fr : Fr wX_layForm σ0 σ) (h : x_layForm_L43 v1 v2 v3 v4 v5 v6 σ Q X19) (kQ : ∀ r s, Fr wX_layForm σ0 s → Q r s → Q2 r s) (kX19 : ∀ a0 a1 a2 s, Fr wX_layForm σ0 s → X19 a0 a1 a2 s → X192 a0 a1 a2 s) : x_layForm_L43 v1 v2 v3 v4 v5 v6 σ Q2 X192 := by
  unfold x_layForm_L43 at h ⊢
  intro Y hY
  exact h (fun v2 v3 v5 v6 s => Fr wX_layForm σ0 s → Y v2 v3 v5 v6 s) (fun v2 v3 v5 v6 s h f => hY v2 v3 v5 v6 s (fx_layForm_L43_b (v1 := v1) (v2 := v2) (v3 := v3) (v4 := v4) (v5 := v5) (v6 := v6) (Q := Q) (Q2 := Q2) (X19 := X19) (X192 := X192) (X43 := fun v2 v3 v5 v6 s => Fr wX_layForm σ0 s → Y v2 v3 v5 v6 s) (X432 := Y) f h kQ kX19 (fun v2 v3 v5 v6 s f h => h f))) fr
theorem lx_layForm_L43 {v1 : Int} {v2 : Int} {v3 : Int} {v4 : Int} {v5 : Int} {v6 : Int} {σ0 : S} {Q : Int → S → Prop} {X19 : Int → Int → Int → S → Prop} (I : Int → Int → Int → Int → S → Prop) (me : Int → Int → Int → Int → S → Nat) (h0 : I v2 v3 v5 v6 σ0) (step : ∀ (v2 : Int) (v3 : Int) (v5 : Int) (v6 : Int) (s : S), Fr wX_layForm σ0 s → I v2 v3 v5 v6 s → (fun (Y0 : Int → Int → Int → Int → S → Prop) => inb v4 902 ∧ (if v6 ≤ gA s 4 v4 then inb v4 902 ∧ ((v6 < gA s 4 v4) → (inb v6 6000)) ∧ (if bi ((v6 < gA s 4 v4) ∧ (gA s 1 v6 = 95)) = 0 then inb v4 902 ∧ (if v6 = gA s 4 v4 then x_layForm_j103 v1 v2 v3 v4 v5 v6 (bi ((v6 < gA s 4 v4) ∧ (gA s 1 v6 = 95))) s Q X19 Y0 else x_layForm_j155 v1 v2 v3 v4 v5 v6 (bi ((v6 < gA s 4 v4) ∧ (gA s 1 v6 = 95))) s Q X19 Y0) else x_layForm_j103 v1 v2 v3 v4 v5 v6 (bi ((v6 < gA s 4 v4) ∧ (gA s 1 v6 = 95))) s Q X19 Y0) else x_layForm_j178 v1 v2 v3 v4 s Q X19)) (fun v2' v3' v5' v6' s' => I v2' v3' v5' v6' s' ∧ me v2' v3' v5' v6' s' < me v2 v3 v5 v6 s)) : x_layForm_L43 v1 v2 v3 v4 v5 v6 σ0 Q X19 := by
  unfold x_layForm_L43
  intro Y hY
  have key : ∀ (n : Nat) (v2 : Int) (v3 : Int) (v5 : Int) (v6 : Int) (s : S), me v2 v3 v5 v6 s < n → Fr wX_layForm σ0 s → I v2 v3 v5 v6 s → Y v2 v3 v5 v6 s := by
    intro n
    induction n with
    | zero => intro v2 v3 v5 v6 s h; exact absurd h (Nat.not_lt_zero _)
    | succ n ih =>
      intro v2 v3 v5 v6 s hm fr hi
      exact hY v2 v3 v5 v6 s (fx_layForm_L43_b (v1 := v1) (v2 := v2) (v3 := v3) (v4 := v4) (v5 := v5) (v6 := v6) (Q := Q) (Q2 := Q) (X19 := X19) (X192 := X19) (X43 := (fun v2' v3' v5' v6' s' => I v2' v3' v5' v6' s' ∧ me v2' v3' v5' v6' s' < me v2 v3 v5 v6 s)) (X432 := Y) fr (step v2 v3 v5 v6 s fr hi) (fun _ _ _ h => h) (fun _ _ _ _ _ h => h) (fun v2 v3 v5 v6 s f h => ih v2 v3 v5 v6 s (by omega) f h.1))
  exact key _ v2 v3 v5 v6 σ0 (Nat.lt_succ_self _) Fr.rf h0
theorem fx_layForm_L19_b {v1 : Int} {v2 : Int} {v3 : Int} {v4 : Int} {σ0 σ : S} {Q Q2 : Int → S → Prop} {X19 X192 : Int → Int → Int → S → Prop} (fr : Fr wX_layForm σ0 σ) (h : inb v1 50 ∧ (if v4 < gA σ 16 v1 then inb v4 902 ∧ x_layForm_L43 v1 v2 v3 v4 (gA σ 3 v4) (gA σ 3 v4) σ Q X19 else x_layForm_j184 v1 v2 v3 σ Q)) (kQ : ∀ r s, Fr wX_layForm σ0 s → Q r s → Q2 r s) (kX19 : ∀ v2 v3 v4 s, Fr wX_layForm σ0 s → X19 v2 v3 v4 s → X192 v2 v3 v4 s) : inb v1 50 ∧ (if v4 < gA σ 16 v1 then inb v4 902 ∧ x_layForm_L43 v1 v2 v3 v4 (gA σ 3 v4) (gA σ 3 v4) σ Q2 X192 else x_layForm_j184 v1 v2 v3 σ Q2) :=
  ⟨h.1, ite_m (fun _ h1 => ⟨h1.1, fx_layForm_L43 fr h1.2 kQ kX19⟩) (fun _ h1 => fx_layForm_j184 fr h1 kQ) h.2⟩
theorem fx_layForm_L19 {v1 : Int} {v2 : Int} {v3 : Int} {v4 : Int} {σ0 σ : S} {Q Q2 : Int → S → Prop} (fr : Fr wX_layForm σ0 σ) (h : x_layForm_L19 v1 v2 v3 v4 σ Q) (kQ : ∀ r s, Fr wX_layForm σ0 s → Q r s → Q2 r s) : x_layForm_L19 v1 v2 v3 v4 σ Q2 := by
  unfold x_layForm_L19 at h ⊢
  intro Y hY
  exact h (fun v2 v3 v4 s => Fr wX_layForm σ0 s → Y v2 v3 v4 s) (fun v2 v3 v4 s h f => hY v2 v3 v4 s (fx_layForm_L19_b (v1 := v1) (v2 := v2) (v3 := v3) (v4 := v4) (Q := Q) (Q2 := Q2) (X19 := fun v2 v3 v4 s => Fr wX_layForm σ0 s → Y v2 v3 v4 s) (X192 := Y) f h kQ (fun v2 v3 v4 s f h => h f))) fr
theorem lx_layForm_L19 {v1 : Int} {v2 : Int} {v3 : Int} {v4 : Int} {σ0 : S} {Q : Int → S → Prop} (I : Int → Int → Int → S → Prop) (me : Int → Int → Int → S → Nat) (h0 : I v2 v3 v4 σ0) (step : ∀ (v2 : Int) (v3 : Int) (v4 : Int) (s : S), Fr wX_layForm σ0 s → I v2 v3 v4 s → (fun (Y0 : Int → Int → Int → S → Prop) => inb v1 50 ∧ (if v4 < gA s 16 v1 then inb v4 902 ∧ x_layForm_L43 v1 v2 v3 v4 (gA s 3 v4) (gA s 3 v4) s Q Y0 else x_layForm_j184 v1 v2 v3 s Q)) (fun v2' v3' v4' s' => I v2' v3' v4' s' ∧ me v2' v3' v4' s' < me v2 v3 v4 s)) : x_layForm_L19 v1 v2 v3 v4 σ0 Q := by
  unfold x_layForm_L19
  intro Y hY
  have key : ∀ (n : Nat) (v2 : Int) (v3 : Int) (v4 : Int) (s : S), me v2 v3 v4 s < n → Fr wX_layForm σ0 s → I v2 v3 v4 s → Y v2 v3 v4 s := by
    intro n
    induction n with
    | zero => intro v2 v3 v4 s h; exact absurd h (Nat.not_lt_zero _)
    | succ n ih =>
      intro v2 v3 v4 s hm fr hi
      exact hY v2 v3 v4 s (fx_layForm_L19_b (v1 := v1) (v2 := v2) (v3 := v3) (v4 := v4) (Q := Q) (Q2 := Q) (X19 := (fun v2' v3' v4' s' => I v2' v3' v4' s' ∧ me v2' v3' v4' s' < me v2 v3 v4 s)) (X192 := Y) fr (step v2 v3 v4 s fr hi) (fun _ _ _ h => h) (fun v2 v3 v4 s f h => ih v2 v3 v4 s (by omega) f h.1))
  exact key _ v2 v3 v4 σ0 (Nat.lt_succ_self _) Fr.rf h0
theorem fm_x_layForm {v1 : Int} {σ0 : S} {Q Q2 : Int → S → Prop} (h : x_layForm v1 σ0 Q) (kQ : ∀ r s, Fr wX_layForm σ0 s → Q r s → Q2 r s) : x_layForm v1 σ0 Q2 := by
  have fr : Fr wX_layForm σ0 σ0 := Fr.rf
  unfold x_layForm at h ⊢
  exact ⟨h.1, fun σ_1 e1 => (have f1 : Fr wX_layForm σ0 σ_1 := Fr.putA fr e1 rfl; ⟨(h.2 σ_1 e1).1, fx_layForm_L19 f1 (h.2 σ_1 e1).2 kQ⟩)⟩
theorem fx_isSameForm_L39_b {v1 : Int} {v2 : Int} {v3 : Int} {v4 : Int} {σ0 σ : S} {Q Q2 : Int → S → Prop} {X39 X392 : Int → Int → S → Prop} (fr : Fr wX_isSameForm σ0 σ) (h : inb v1 50 ∧ (if v4 < gA σ 45 v1 then (if v3 = 0 then Q v3 σ else inb (w32 (w32 (12 * v1) + v4)) 600 ∧ inb (w32 (w32 (12 * v2) + v4)) 600 ∧ X39 (bi (gA σ 46 (w32 (w32 (12 * v1) + v4)) = gA σ 46 (w32 (w32 (12 * v2) + v4)))) (w32 (v4 + 1)) σ) else Q v3 σ)) (kQ : ∀ r s, Fr wX_isSameForm σ0 s → Q r s → Q2 r s) (kX39 : ∀ v3 v4 s, Fr wX_isSameForm σ0 s → X39 v3 v4 s → X392 v3 v4 s) : inb v1 50 ∧ (if v4 < gA σ 45 v1 then (if v3 = 0 then Q2 v3 σ else inb (w32 (w32 (12 * v1) + v4)) 600 ∧ inb (w32 (w32 (12 * v2) + v4)) 600 ∧ X392 (bi (gA σ 46 (w32 (w32 (12 * v1) + v4)) = gA σ 46 (w32 (w32 (12 * v2) + v4)))) (w32 (v4 + 1)) σ) else Q2 v3 σ) :=
  ⟨h.1, ite_m (fun _ h1 => ite_m (fun _ h2 => kQ _ _ fr h2) (fun _ h2 => ⟨h2.1, ⟨h2.2.1, kX39 _ _ _ fr h2.2.2⟩⟩) h1) (fun _ h1 => kQ _ _ fr h1) h.2⟩
theorem fx_isSameForm_L39 {v1 : Int} {v2 : Int} {v3 : Int} {v4 : Int} {σ0 σ : S} {Q Q2 : Int → S → Prop} (fr : Fr wX_isSameForm σ0 σ) (h : x_isSameForm_L39 v1 v2 v3 v4 σ Q) (kQ : ∀ r s, Fr wX_isSameForm σ0 s → Q r s → Q2 r s) : x_isSameForm_L39 v1 v2 v3 v4 σ Q2 := by
  unfold x_isSameForm_L39 at h ⊢
  intro Y hY
  exact h (fun v3 v4 s => Fr wX_isSameForm σ0 s → Y v3 v4 s) (fun v3 v4 s h f => hY v3 v4 s (fx_isSameForm_L39_b (v1 := v1) (v2 := v2) (v3 := v3) (v4 := v4) (Q := Q) (Q2 := Q2) (X39 := fun v3 v4 s => Fr wX_isSameForm σ0 s → Y v3 v4 s) (X392 := Y) f h kQ (fun v3 v4 s f h => h f))) fr
theorem lx_isSameForm_L39 {v1 : Int} {v2 : Int} {v3 : Int} {v4 : Int} {σ0 : S} {Q : Int → S → Prop} (I : Int → Int → S → Prop) (me : Int → Int → S → Nat) (h0 : I v3 v4 σ0) (step : ∀ (v3 : Int) (v4 : Int) (s : S), Fr wX_isSameForm σ0 s → I v3 v4 s → (fun (Y0 : Int → Int → S → Prop) => inb v1 50 ∧ (if v4 < gA s 45 v1 then (if v3 = 0 then Q v3 s else inb (w32 (w32 (12 * v1) + v4)) 600 ∧ inb (w32 (w32 (12 * v2) + v4)) 600 ∧ Y0 (bi (gA s 46 (w32 (w32 (12 * v1) + v4)) = gA s 46 (w32 (w32 (12 * v2) + v4)))) (w32 (v4 + 1)) s) else Q v3 s)) (fun v3' v4' s' => I v3' v4' s' ∧ me v3' v4' s' < me v3 v4 s)) : x_isSameForm_L39 v1 v2 v3 v4 σ0 Q := by
  unfold x_isSameForm_L39
  intro Y hY
  have key : ∀ (n : Nat) (v3 : Int) (v4 : Int) (s : S), me v3 v4 s < n → Fr wX_isSameForm σ0 s → I v3 v4 s → Y v3 v4 s := by
    intro n
    induction n with
    | zero => intro v3 v4 s h; exact absurd h (Nat.not_lt_zero _)
    | succ n ih =>
      intro v3 v4 s hm fr hi
      exact hY v3 v4 s (fx_isSameForm_L39_b (v1 := v1) (v2 := v2) (v3 := v3) (v4 := v4) (Q := Q) (Q2 := Q) (X39 := (fun v3' v4' s' => I v3' v4' s' ∧ me v3' v4' s' < me v3 v4 s)) (X392 := Y) fr (step v3 v4 s fr hi) (fun _ _ _ h => h) (fun v3 v4 s f h => ih v3 v4 s (by omega) f h.1))
  exact key _ v3 v4 σ0 (Nat.lt_succ_self _) Fr.rf h0
theorem fm_x_isSameForm {v1 : Int} {v2 : Int} {σ0 : S} {Q Q2 : Int → S → Prop} (h : x_isSameForm v1 v2 σ0 Q) (kQ : ∀ r s, Fr wX_isSameForm σ0 s → Q r s → Q2 r s) : x_isSameForm v1 v2 σ0 Q2 := by
  have fr : Fr wX_isSameForm σ0 σ0 := Fr.rf
  unfold x_isSameForm at h ⊢
  exact ⟨h.1, ⟨h.2.1, ⟨h.2.2.1, ⟨h.2.2.2.1, fx_isSameForm_L39 fr h.2.2.2.2 kQ⟩⟩⟩⟩
theorem fx_layRow_j171 {v1 : Int} {v2 : Int} {σ0 σ : S} {Q Q2 : Int → S → Prop} (fr : Fr wX_layRow σ0 σ) (h : x_layRow_j171 v1 v2 σ Q) (kQ : ∀ r s, Fr wX_layRow σ0 s → Q r s → Q2 r s) : x_layRow_j171 v1 v2 σ Q2 := by
  unfold x_layRow_j171 at h ⊢
  exact ⟨h.1, ⟨h.2.1, fun σ_35 e2 => (have f2 : Fr wX_layRow σ0 σ_35 := Fr.putA fr e2 rfl; kQ _ _ f2 (h.2.2 σ_35 e2))⟩⟩
theorem fx_layRow_j113 {v1 : Int} {v2 : Int} {σ0 σ : S} {Q Q2 : Int → S → Prop} (fr : Fr wX_layRow σ0 σ) (h : x_layRow_j113 v1 v2 σ Q) (kQ : ∀ r s, Fr wX_layRow σ0 s → Q r s → Q2 r s) : x_layRow_j113 v1 v2 σ Q2 := by
  unfold x_layRow_j113 at h ⊢
  exact ⟨h.1, fm_x_sortAt h.2 (fun r_22 σ_21 f h1 => (have f1 : Fr wX_layRow σ0 σ_21 := (fr.trans (f.weak (by decide +kernel))); ⟨h1.1, fun σ_23 e3 => (have f3 : Fr wX_layRow σ0 σ_23 := Fr.putA f1 e3 rfl; ⟨(h1.2 σ_23 e3).1, ⟨(h1.2 σ_23 e3).2.1, ite_m (fun _ h6 => ⟨h6.1, fm_x_wrong h6.2 (fun r_41 σ_40 f h8 => (have f8 : Fr wX_layRow σ0 σ_40 := (f3.trans (f.weak (by decide +kernel))); fx_layRow_j171 f8 h8 kQ))⟩) (fun _ h6 => fx_layRow_j171 f3 h6 kQ) (h1.2 σ_23 e3).2.2⟩⟩)⟩))⟩
theorem fx_layRow_j107 {v1 : Int} {v2 : Int} {v3 : Int} {σ0 σ : S} {Q Q2 : Int → S → Prop} {X40 X402 : Int → Int → S → Prop} (fr : Fr wX_layRow σ0 σ) (h : x_layRow_j107 v1 v2 v3 σ Q X40) (kQ : ∀ r s, Fr wX_layRow σ0 s → Q r s → Q2 r s) (kX40 : ∀ a0 a1 s, Fr wX_layRow σ0 s → X40 a0 a1 s → X402 a0 a1 s) : x_layRow_j107 v1 v2 v3 σ Q2 X402 := by
  unfold x_layRow_j107 at h ⊢
  exact kX40 _ _ _ fr h
theorem fx_layRow_L40_b {v1 : Int} {v2 : Int} {v3 : Int} {σ0 σ : S} {Q Q2 : Int → S → Prop} {X40 X402 : Int → Int → S → Prop} (fr : Fr wX_layRow σ0 σ) (h : inb v1 50 ∧ inb v1 50 ∧ (if v3 < w32 (w32 (gA σ 17 v1 - (gA σ 16 v1)) - 1) then inb v1 50 ∧ x_sortAt (w32 (w32 (gA σ 16 v1 + 1) + v3)) σ (fun r_47 σ_46 => (if v3 < 3 then inb (w32 (w32 (3 * v1) + v3)) 150 ∧ ∀ σ_51, σ_51 = pA σ_46 42 (w32 (w32 (3 * v1) + v3)) r_47 → x_layRow_j107 v1 (bAnd v2 (bi (¬ (r_47 = (-2))))) v3 σ_51 Q X40 else x_layRow_j107 v1 (bAnd v2 (bi (¬ (r_47 = (-2))))) v3 σ_46 Q X40)) else x_layRow_j113 v1 v2 σ Q)) (kQ : ∀ r s, Fr wX_layRow σ0 s → Q r s → Q2 r s) (kX40 : ∀ v2 v3 s, Fr wX_layRow σ0 s → X40 v2 v3 s → X402 v2 v3 s) : inb v1 50 ∧ inb v1 50 ∧ (if v3 < w32 (w32 (gA σ 17 v1 - (gA σ 16 v1)) - 1) then inb v1 50 ∧ x_sortAt (w32 (w32 (gA σ 16 v1 + 1) + v3)) σ (fun r_47 σ_46 => (if v3 < 3 then inb (w32 (w32 (3 * v1) + v3)) 150 ∧ ∀ σ_51, σ_51 = pA σ_46 42 (w32 (w32 (3 * v1) + v3)) r_47 → x_layRow_j107 v1 (bAnd v2 (bi (¬ (r_47 = (-2))))) v3 σ_51 Q2 X402 else x_layRow_j107 v1 (bAnd v2 (bi (¬ (r_47 = (-2))))) v3 σ_46 Q2 X402)) else x_layRow_j113 v1 v2 σ Q2) :=
  ⟨h.1, ⟨h.2.1, ite_m (fun _ h2 => ⟨h2.1, fm_x_sortAt h2.2 (fun r_47 σ_46 f h4 => (have f4 : Fr wX_layRow σ0 σ_46 := (fr.trans (f.weak (by decide +kernel))); ite_m (fun _ h5 => ⟨h5.1, fun σ_51 e7 => (have f7 : Fr wX_layRow σ0 σ_51 := Fr.putA f4 e7 rfl; fx_layRow_j107 f7 (h5.2 σ_51 e7) kQ kX40)⟩) (fun _ h5 => fx_layRow_j107 f4 h5 kQ kX40) h4))⟩) (fun _ h2 => fx_layRow_j113 fr h2 kQ) h.2.2⟩⟩
theorem fx_layRow_L40 {v1 : Int} {v2 : Int} {v3 : Int} {σ0 σ : S} {Q Q2 : Int → S → Prop} (fr : Fr wX_layRow σ0 σ) (h : x_layRow_L40 v1 v2 v3 σ Q) (kQ : ∀ r s, Fr wX_layRow σ0 s → Q r s → Q2 r s) : x_layRow_L40 v1 v2 v3 σ Q2 := by
  unfold x_layRow_L40 at h ⊢
  intro Y hY
  exact h (fun v2 v3 s => Fr wX_layRow σ0 s → Y v2 v3 s) (fun v2 v3 s h f => hY v2 v3 s (fx_layRow_L40_b (v1 := v1) (v2 := v2) (v3 := v3) (Q := Q) (Q2 := Q2) (X40 := fun v2 v3 s => Fr wX_layRow σ0 s → Y v2 v3 s) (X402 := Y) f h kQ (fun v2 v3 s f h => h f))) fr
theorem lx_layRow_L40 {v1 : Int} {v2 : Int} {v3 : Int} {σ0 : S} {Q : Int → S → Prop} (I : Int → Int → S → Prop) (me : Int → Int → S → Nat) (h0 : I v2 v3 σ0) (step : ∀ (v2 : Int) (v3 : Int) (s : S), Fr wX_layRow σ0 s → I v2 v3 s → (fun (Y0 : Int → Int → S → Prop) => inb v1 50 ∧ inb v1 50 ∧ (if v3 < w32 (w32 (gA s 17 v1 - (gA s 16 v1)) - 1) then inb v1 50 ∧ x_sortAt (w32 (w32 (gA s 16 v1 + 1) + v3)) s (fun r_47 σ_46 => (if v3 < 3 then inb (w32 (w32 (3 * v1) + v3)) 150 ∧ ∀ σ_51, σ_51 = pA σ_46 42 (w32 (w32 (3 * v1) + v3)) r_47 → x_layRow_j107 v1 (bAnd v2 (bi (¬ (r_47 = (-2))))) v3 σ_51 Q Y0 else x_layRow_j107 v1 (bAnd v2 (bi (¬ (r_47 = (-2))))) v3 σ_46 Q Y0)) else x_layRow_j113 v1 v2 s Q)) (fun v2' v3' s' => I v2' v3' s' ∧ me v2' v3' s' < me v2 v3 s)) : x_layRow_L40 v1 v2 v3 σ0 Q := by
  unfold x_layRow_L40
  intro Y hY
  have key : ∀ (n : Nat) (v2 : Int) (v3 : Int) (s : S), me v2 v3 s < n → Fr wX_layRow σ0 s → I v2 v3 s → Y v2 v3 s := by
    intro n
    induction n with
    | zero => intro v2 v3 s h; exact absurd h (Nat.not_lt_zero _)
    | succ n ih =>
      intro v2 v3 s hm fr hi
      exact hY v2 v3 s (fx_layRow_L40_b (v1 := v1) (v2 := v2) (v3 := v3) (Q := Q) (Q2 := Q) (X40 := (fun v2' v3' s' => I v2' v3' s' ∧ me v2' v3' s' < me v2 v3 s)) (X402 := Y) fr (step v2 v3 s fr hi) (fun _ _ _ h => h) (fun v2 v3 s f h => ih v2 v3 s (by omega) f h.1))
  exact key _ v2 v3 σ0 (Nat.lt_succ_self _) Fr.rf h0
theorem fm_x_layRow {v1 : Int} {σ0 : S} {Q Q2 : Int → S → Prop} (h : x_layRow v1 σ0 Q) (kQ : ∀ r s, Fr wX_layRow σ0 s → Q r s → Q2 r s) : x_layRow v1 σ0 Q2 := by
  have fr : Fr wX_layRow σ0 σ0 := Fr.rf
  unfold x_layRow at h ⊢
  exact fm_x_layForm h (fun r_2 σ_1 f h0 => (have f0 : Fr wX_layRow σ0 σ_1 := (fr.trans (f.weak (by decide +kernel))); ⟨h0.1, fun σ_3 e2 => (have f2 : Fr wX_layRow σ0 σ_3 := Fr.putA f0 e2 rfl; ⟨(h0.2 σ_3 e2).1, ⟨(h0.2 σ_3 e2).2.1, ⟨(h0.2 σ_3 e2).2.2.1, fun σ_10 e6 => (have f6 : Fr wX_layRow σ0 σ_10 := Fr.putA f2 e6 rfl; fx_layRow_L40 f6 ((h0.2 σ_3 e2).2.2.2 σ_10 e6) kQ)⟩⟩⟩)⟩))
theorem fm_x_isSameAttribute {v1 : Int} {v2 : Int} {v3 : Int} {σ0 : S} {Q Q2 : Int → S → Prop} (h : x_isSameAttribute v1 v2 v3 σ0 Q) (kQ : ∀ r s, Fr wX_isSameAttribute σ0 s → Q r s → Q2 r s) : x_isSameAttribute v1 v2 v3 σ0 Q2 := by
  have fr : Fr wX_isSameAttribute σ0 σ0 := Fr.rf
  unfold x_isSameAttribute at h ⊢
  exact ⟨h.1, ⟨h.2.1, kQ _ _ fr h.2.2⟩⟩
theorem fx_checkLater_j341 {v1 : Int} {v3 : Int} {σ0 σ : S} {Q Q2 : Int → S → Prop} (fr : Fr wX_checkLater σ0 σ) (h : x_checkLater_j341 v1 v3 σ Q) (kQ : ∀ r s, Fr wX_checkLater σ0 s → Q r s → Q2 r s) : x_checkLater_j341 v1 v3 σ Q2 := by
  unfold x_checkLater_j341 at h ⊢
  exact ite_m (fun _ h0 => ⟨h0.1, fm_x_wrong h0.2 (fun r_40 σ_39 f h2 => (have f2 : Fr wX_checkLater σ0 σ_39 := (fr.trans (f.weak (by decide +kernel))); kQ _ _ f2 h2))⟩) (fun _ h0 => kQ _ _ fr h0) h
theorem fx_checkLater_j322 {v1 : Int} {v3 : Int} {v4 : Int} {v5 : Int} {σ0 σ : S} {Q Q2 : Int → S → Prop} {X235 X2352 : Int → Int → S → Prop} (fr : Fr wX_checkLater σ0 σ) (h : x_checkLater_j322 v1 v3 v4 v5 σ Q X235) (kQ : ∀ r s, Fr wX_checkLater σ0 s → Q r s → Q2 r s) (kX235 : ∀ a0 a1 s, Fr wX_checkLater σ0 s → X235 a0 a1 s → X2352 a0 a1 s) : x_checkLater_j322 v1 v3 v4 v5 σ Q2 X2352 := by
  unfold x_checkLater_j322 at h ⊢
  exact kX235 _ _ _ fr h
theorem fx_checkLater_L267_b {v1 : Int} {v3 : Int} {v4 : Int} {v5 : Int} {v6 : Int} {σ0 σ : S} {Q Q2 : Int → S → Prop} {X235 X2352 : Int → Int → S → Prop} {X267 X2672 : Int → Int → S → Prop} (fr : Fr wX_checkLater σ0 σ) (h : inb v1 50 ∧ (if v6 < gA σ 43 v1 then (if v4 = 0 then x_checkLater_j322 v1 v3 v4 v5 σ Q X235 else inb (w32 (w32 (3 * v1) + v6)) 150 ∧ inb (w32 (w32 (3 * v5) + v6)) 150 ∧ X267 (bi (gA σ 42 (w32 (w32 (3 * v1) + v6)) = gA σ 42 (w32 (w32 (3 * v5) + v6)))) (w32 (v6 + 1)) σ) else x_checkLater_j322 v1 v3 v4 v5 σ Q X235)) (kQ : ∀ r s, Fr wX_checkLater σ0 s → Q r s → Q2 r s) (kX235 : ∀ a0 a1 s, Fr wX_checkLater σ0 s → X235 a0 a1 s → X2352 a0 a1 s) (kX267 : ∀ v4 v6 s, Fr wX_checkLater σ0 s → X267 v4 v6 s → X2672 v4 v6 s) : inb v1 50 ∧ (if v6 < gA σ 43 v1 then (if v4 = 0 then x_checkLater_j322 v1 v3 v4 v5 σ Q2 X2352 else inb (w32 (w32 (3 * v1) + v6)) 150 ∧ inb (w32 (w32 (3 * v5) + v6)) 150 ∧ X2672 (bi (gA σ 42 (w32 (w32 (3 * v1) + v6)) = gA σ 42 (w32 (w32 (3 * v5) + v6)))) (w32 (v6 + 1)) σ) else x_checkLater_j322 v1 v3 v4 v5 σ Q2 X2352) :=
  ⟨h.1, ite_m (fun _ h1 => ite_m (fun _ h2 => fx_checkLater_j322 fr h2 kQ kX235) (fun _ h2 => ⟨h2.1, ⟨h2.2.1, kX267 _ _ _ fr h2.2.2⟩⟩) h1) (fun _ h1 => fx_checkLater_j322 fr h1 kQ kX235) h.2⟩
theorem fx_checkLater_L267 {v1 : Int} {v3 : Int} {v4 : Int} {v5 : Int} {v6 : Int} {σ0 σ : S} {Q Q2 : Int → S → Prop} {X235 X2352 : Int → Int → S → Prop} (fr : Fr wX_checkLater σ0 σ) (h : x_checkLater_L267 v1 v3 v4 v5 v6 σ Q X235) (kQ : ∀ r s, Fr wX_checkLater σ0 s → Q r s → Q2 r s) (kX235 : ∀ a0 a1 s, Fr wX_checkLater σ0 s → X235 a0 a1 s → X2352 a0 a1 s) : x_checkLater_L267 v1 v3 v4 v5 v6 σ Q2 X2352 := by
  unfold x_checkLater_L267 at h ⊢
  intro Y hY
  exact h (fun v4 v6 s => Fr wX_checkLater σ0 s → Y v4 v6 s) (fun v4 v6 s h f => hY v4 v6 s (fx_checkLater_L267_b (v1 := v1) (v3 := v3) (v4 := v4) (v5 := v5) (v6 := v6) (Q := Q) (Q2 := Q2) (X235 := X235) (X2352 := X2352) (X267 := fun v4 v6 s => Fr wX_checkLater σ0 s → Y v4 v6 s) (X2672 := Y) f h kQ kX235 (fun v4 v6 s f h => h f))) fr
theorem lx_checkLater_L267 {v1 : Int} {v3 : Int} {v4 : Int} {v5 : Int} {v6 : Int} {σ0 : S} {Q : Int → S → Prop} {X235 : Int → Int → S → Prop} (I : Int → Int → S → Prop) (me : Int → Int → S → Nat) (h0 : I v4 v6 σ0) (step : ∀ (v4 : Int) (v6 : Int) (s : S), Fr wX_checkLater σ0 s → I v4 v6 s → (fun (Y0 : Int → Int → S → Prop) => inb v1 50 ∧ (if v6 < gA s 43 v1 then (if v4 = 0 then x_checkLater_j322 v1 v3 v4 v5 s Q X235 else inb (w32 (w32 (3 * v1) + v6)) 150 ∧ inb (w32 (w32 (3 * v5) + v6)) 150 ∧ Y0 (bi (gA s 42 (w32 (w32 (3 * v1) + v6)) = gA s 42 (w32 (w32 (3 * v5) + v6)))) (w32 (v6 + 1)) s) else x_checkLater_j322 v1 v3 v4 v5 s Q X235)) (fun v4' v6' s' => I v4' v6' s' ∧ me v4' v6' s' < me v4 v6 s)) : x_checkLater_L267 v1 v3 v4 v5 v6 σ0 Q X235 := by
  unfold x_checkLater_L267
  intro Y hY
  have key : ∀ (n : Nat) (v4 : Int) (v6 : Int) (s : S), me v4 v6 s < n → Fr wX_checkLater σ0 s → I v4 v6 s → Y v4 v6 s := by
    intro n
    induction n with
    | zero => intro v4 v6 s h; exact absurd h (Nat.not_lt_zero _)
    | succ n ih =>
      intro v4 v6 s hm fr hi
      exact hY v4 v6 s (fx_checkLater_L267_b (v1 := v1) (v3 := v3) (v4 := v4) (v5 := v5) (v6 := v6) (Q := Q) (Q2 := Q) (X235 := X235) (X2352 := X235) (X267 := (fun v4' v6' s' => I v4' v6' s' ∧ me v4' v6' s' < me v4 v6 s)) (X2672 := Y) fr (step v4 v6 s fr hi) (fun _ _ _ h => h) (fun _ _ _ _ h => h) (fun v4 v6 s f h => ih v4 v6 s (by omega) f h.1))
  exact key _ v4 v6 σ0 (Nat.lt_succ_self _) Fr.rf h0
theorem fx_checkLater_L235_b {v1 : Int} {v3 : Int} {v5 : Int} {σ0 σ : S} {Q Q2 : Int → S → Prop} {X235 X2352 : Int → Int → S → Prop} (fr : Fr wX_checkLater σ0 σ) (h : (if v5 < v1 then inb v5 50 ∧ inb v1 50 ∧ x_checkLater_L267 v1 v3 (bi (gA σ 41 v5 = gA σ 41 v1)) v5 0 σ Q X235 else x_checkLater_j341 v1 v3 σ Q)) (kQ : ∀ r s, Fr wX_checkLater σ0 s → Q r s → Q2 r s) (kX235 : ∀ v3 v5 s, Fr wX_checkLater σ0 s → X235 v3 v5 s → X2352 v3 v5 s) : (if v5 < v1 then inb v5 50 ∧ inb v1 50 ∧ x_checkLater_L267 v1 v3 (bi (gA σ 41 v5 = gA σ 41 v1)) v5 0 σ Q2 X2352 else x_checkLater_j341 v1 v3 σ Q2) :=
  ite_m (fun _ h0 => ⟨h0.1, ⟨h0.2.1, fx_checkLater_L267 fr h0.2.2 kQ kX235⟩⟩) (fun _ h0 => fx_checkLater_j341 fr h0 kQ) h
theorem fx_checkLater_L235 {v1 : Int} {v3 : Int} {v5 : Int} {σ0 σ : S} {Q Q2 : Int → S → Prop} (fr : Fr wX_checkLater σ0 σ) (h : x_checkLater_L235 v1 v3 v5 σ Q) (kQ : ∀ r s, Fr wX_checkLater σ0 s → Q r s → Q2 r s) : x_checkLater_L235 v1 v3 v5 σ Q2 := by
  unfold x_checkLater_L235 at h ⊢
  intro Y hY
  exact h (fun v3 v5 s => Fr wX_checkLater σ0 s → Y v3 v5 s) (fun v3 v5 s h f => hY v3 v5 s (fx_checkLater_L235_b (v1 := v1) (v3 := v3) (v5 := v5) (Q := Q) (Q2 := Q2) (X235 := fun v3 v5 s => Fr wX_checkLater σ0 s → Y v3 v5 s) (X2352 := Y) f h kQ (fun v3 v5 s f h => h f))) fr
theorem lx_checkLater_L235 {v1 : Int} {v3 : Int} {v5 : Int} {σ0 : S} {Q : Int → S → Prop} (I : Int → Int → S → Prop) (me : Int → Int → S → Nat) (h0 : I v3 v5 σ0) (step : ∀ (v3 : Int) (v5 : Int) (s : S), Fr wX_checkLater σ0 s → I v3 v5 s → (fun (Y0 : Int → Int → S → Prop) => (if v5 < v1 then inb v5 50 ∧ inb v1 50 ∧ x_checkLater_L267 v1 v3 (bi (gA s 41 v5 = gA s 41 v1)) v5 0 s Q Y0 else x_checkLater_j341 v1 v3 s Q)) (fun v3' v5' s' => I v3' v5' s' ∧ me v3' v5' s' < me v3 v5 s)) : x_checkLater_L235 v1 v3 v5 σ0 Q := by
  unfold x_checkLater_L235
  intro Y hY
  have key : ∀ (n : Nat) (v3 : Int) (v5 : Int) (s : S), me v3 v5 s < n → Fr wX_checkLater σ0 s → I v3 v5 s → Y v3 v5 s := by
    intro n
    induction n with
    | zero => intro v3 v5 s h; exact absurd h (Nat.not_lt_zero _)
    | succ n ih =>
      intro v3 v5 s hm fr hi
      exact hY v3 v5 s (fx_checkLater_L235_b (v1 := v1) (v3 := v3) (v5 := v5) (Q := Q) (Q2 := Q) (X235 := (fun v3' v5' s' => I v3' v5' s' ∧ me v3' v5' s' < me v3 v5 s)) (X2352 := Y) fr (step v3 v5 s fr hi) (fun _ _ _ h => h) (fun v3 v5 s f h => ih v3 v5 s (by omega) f h.1))
  exact key _ v3 v5 σ0 (Nat.lt_succ_self _) Fr.rf h0
theorem fx_checkLater_j229 {v1 : Int} {v3 : Int} {σ0 σ : S} {Q Q2 : Int → S → Prop} (fr : Fr wX_checkLater σ0 σ) (h : x_checkLater_j229 v1 v3 σ Q) (kQ : ∀ r s, Fr wX_checkLater σ0 s → Q r s → Q2 r s) : x_checkLater_j229 v1 v3 σ Q2 := by
  unfold x_checkLater_j229 at h ⊢
  exact fx_checkLater_L235 fr h kQ
theorem fx_checkLater_L161_b {v1 : Int} {v2 : Int} {v3 : Int} {v4 : Int} {σ0 σ : S} {Q Q2 : Int → S → Prop} {X161 X1612 : Int → Int → S → Prop} (fr : Fr wX_checkLater σ0 σ) (h : inb v1 50 ∧ (if v4 < gA σ 22 v1 then (if v3 = 0 then x_checkLater_j229 v1 v3 σ Q else inb v1 50 ∧ inb (w32 (gA σ 21 v1 + v4)) 902 ∧ inb (gA σ 3 (w32 (gA σ 21 v1 + v4))) 6000 ∧ inb v2 50 ∧ inb (w32 (gA σ 21 v2 + v4)) 902 ∧ inb (gA σ 3 (w32 (gA σ 21 v2 + v4))) 6000 ∧ X161 (bi (gA σ 1 (gA σ 3 (w32 (gA σ 21 v1 + v4))) = gA σ 1 (gA σ 3 (w32 (gA σ 21 v2 + v4))))) (w32 (v4 + 1)) σ) else x_checkLater_j229 v1 v3 σ Q)) (kQ : ∀ r s, Fr wX_checkLater σ0 s → Q r s → Q2 r s) (kX161 : ∀ v3 v4 s, Fr wX_checkLater σ0 s → X161 v3 v4 s → X1612 v3 v4 s) : inb v1 50 ∧ (if v4 < gA σ 22 v1 then (if v3 = 0 then x_checkLater_j229 v1 v3 σ Q2 else inb v1 50 ∧ inb (w32 (gA σ 21 v1 + v4)) 902 ∧ inb (gA σ 3 (w32 (gA σ 21 v1 + v4))) 6000 ∧ inb v2 50 ∧ inb (w32 (gA σ 21 v2 + v4)) 902 ∧ inb (gA σ 3 (w32 (gA σ 21 v2 + v4))) 6000 ∧ X1612 (bi (gA σ 1 (gA σ 3 (w32 (gA σ 21 v1 + v4))) = gA σ 1 (gA σ 3 (w32 (gA σ 21 v2 + v4))))) (w32 (v4 + 1)) σ) else x_checkLater_j229 v1 v3 σ Q2) :=
  ⟨h.1, ite_m (fun _ h1 => ite_m (fun _ h2 => fx_checkLater_j229 fr h2 kQ) (fun _ h2 => ⟨h2.1, ⟨h2.2.1, ⟨h2.2.2.1, ⟨h2.2.2.2.1, ⟨h2.2.2.2.2.1, ⟨h2.2.2.2.2.2.1, kX161 _ _ _ fr h2.2.2.2.2.2.2⟩⟩⟩⟩⟩⟩) h1) (fun _ h1 => fx_checkLater_j229 fr h1 kQ) h.2⟩
theorem fx_checkLater_L161 {v1 : Int} {v2 : Int} {v3 : Int} {v4 : Int} {σ0 σ : S} {Q Q2 : Int → S → Prop} (fr : Fr wX_checkLater σ0 σ) (h : x_checkLater_L161 v1 v2 v3 v4 σ Q) (kQ : ∀ r s, Fr wX_checkLater σ0 s → Q r s → Q2 r s) : x_checkLater_L161 v1 v2 v3 v4 σ Q2 := by
  unfold x_checkLater_L161 at h ⊢
  intro Y hY
  exact h (fun v3 v4 s => Fr wX_checkLater σ0 s → Y v3 v4 s) (fun v3 v4 s h f => hY v3 v4 s (fx_checkLater_L161_b (v1 := v1) (v2 := v2) (v3 := v3) (v4 := v4) (Q := Q) (Q2 := Q2) (X161 := fun v3 v4 s => Fr wX_checkLater σ0 s → Y v3 v4 s) (X1612 := Y) f h kQ (fun v3 v4 s f h => h f))) fr
theorem lx_checkLater_L161 {v1 : Int} {v2 : Int} {v3 : Int} {v4 : Int} {σ0 : S} {Q : Int → S → Prop} (I : Int → Int → S → Prop) (me : Int → Int → S → Nat) (h0 : I v3 v4 σ0) (step : ∀ (v3 : Int) (v4 : Int) (s : S), Fr wX_checkLater σ0 s → I v3 v4 s → (fun (Y0 : Int → Int → S → Prop) => inb v1 50 ∧ (if v4 < gA s 22 v1 then (if v3 = 0 then x_checkLater_j229 v1 v3 s Q else inb v1 50 ∧ inb (w32 (gA s 21 v1 + v4)) 902 ∧ inb (gA s 3 (w32 (gA s 21 v1 + v4))) 6000 ∧ inb v2 50 ∧ inb (w32 (gA s 21 v2 + v4)) 902 ∧ inb (gA s 3 (w32 (gA s 21 v2 + v4))) 6000 ∧ Y0 (bi (gA s 1 (gA s 3 (w32 (gA s 21 v1 + v4))) = gA s 1 (gA s 3 (w32 (gA s 21 v2 + v4))))) (w32 (v4 + 1)) s) else x_checkLater_j229 v1 v3 s Q)) (fun v3' v4' s' => I v3' v4' s' ∧ me v3' v4' s' < me v3 v4 s)) : x_checkLater_L161 v1 v2 v3 v4 σ0 Q := by
  unfold x_checkLater_L161
  intro Y hY
  have key : ∀ (n : Nat) (v3 : Int) (v4 : Int) (s : S), me v3 v4 s < n → Fr wX_checkLater σ0 s → I v3 v4 s → Y v3 v4 s := by
    intro n
    induction n with
    | zero => intro v3 v4 s h; exact absurd h (Nat.not_lt_zero _)
    | succ n ih =>
      intro v3 v4 s hm fr hi
      exact hY v3 v4 s (fx_checkLater_L161_b (v1 := v1) (v2 := v2) (v3 := v3) (v4 := v4) (Q := Q) (Q2 := Q) (X161 := (fun v3' v4' s' => I v3' v4' s' ∧ me v3' v4' s' < me v3 v4 s)) (X1612 := Y) fr (step v3 v4 s fr hi) (fun _ _ _ h => h) (fun v3 v4 s f h => ih v3 v4 s (by omega) f h.1))
  exact key _ v3 v4 σ0 (Nat.lt_succ_self _) Fr.rf h0
theorem fx_checkLater_j41 {v1 : Int} {v2 : Int} {s0 : Int} {σ0 σ : S} {Q Q2 : Int → S → Prop} (fr : Fr wX_checkLater σ0 σ) (h : x_checkLater_j41 v1 v2 s0 σ Q) (kQ : ∀ r s, Fr wX_checkLater σ0 s → Q r s → Q2 r s) : x_checkLater_j41 v1 v2 s0 σ Q2 := by
  unfold x_checkLater_j41 at h ⊢
  exact ⟨h.1, ⟨h.2.1, ⟨h.2.2.1, ⟨h.2.2.2.1, ⟨h.2.2.2.2.1, ⟨h.2.2.2.2.2.1, ⟨h.2.2.2.2.2.2.1, ⟨h.2.2.2.2.2.2.2.1, ite_m (fun _ h8 => fx_checkLater_j229 fr h8 kQ) (fun _ h8 => ⟨h8.1, ite_m (fun _ h10 => fx_checkLater_j229 fr h10 kQ) (fun _ h10 => ⟨h10.1, ⟨h10.2.1, fx_checkLater_L161 fr h10.2.2 kQ⟩⟩) h8.2⟩) h.2.2.2.2.2.2.2.2⟩⟩⟩⟩⟩⟩⟩⟩
theorem fx_checkLater_j40 {v1 : Int} {v2 : Int} {σ0 σ : S} {Q Q2 : Int → S → Prop} (fr : Fr wX_checkLater σ0 σ) (h : x_checkLater_j40 v1 v2 σ Q) (kQ : ∀ r s, Fr wX_checkLater σ0 s → Q r s → Q2 r s) : x_checkLater_j40 v1 v2 σ Q2 := by
  unfold x_checkLater_j40 at h ⊢
  exact fx_checkLater_j41 fr h kQ
theorem fm_x_checkLater {v1 : Int} {v2 : Int} {σ0 : S} {Q Q2 : Int → S → Prop} (h : x_checkLater v1 v2 σ0 Q) (kQ : ∀ r s, Fr wX_checkLater σ0 s → Q r s → Q2 r s) : x_checkLater v1 v2 σ0 Q2 := by
  have fr : Fr wX_checkLater σ0 σ0 := Fr.rf
  unfold x_checkLater at h ⊢
  exact ⟨h.1, ⟨h.2.1, ⟨h.2.2.1, ⟨h.2.2.2.1, ite_m (fun _ h4 => fm_x_isSameAttribute h4 (fun r_101 σ_100 f h5 => (have f5 : Fr wX_checkLater σ0 σ_100 := (fr.trans (f.weak (by decide +kernel))); ite_m (fun _ h6 => fx_checkLater_j40 f5 h6 kQ) (fun _ h6 => fx_checkLater_j41 f5 h6 kQ) h5))) (fun _ h4 => fx_checkLater_j40 fr h4 kQ) h.2.2.2.2⟩⟩⟩⟩
theorem fx_isSameKinds_L5_b {v1 : Int} {v2 : Int} {v3 : Int} {v4 : Int} {σ0 σ : S} {Q Q2 : Int → S → Prop} {X5 X52 : Int → Int → S → Prop} (fr : Fr wX_isSameKinds σ0 σ) (h : inb v1 50 ∧ (if v4 < gA σ 43 v1 then inb (w32 (w32 (3 * v1) + v4)) 150 ∧ inb (gA σ 42 (w32 (w32 (3 * v1) + v4))) 20 ∧ inb (w32 (w32 (3 * v2) + v4)) 150 ∧ inb (gA σ 42 (w32 (w32 (3 * v2) + v4))) 20 ∧ X5 (bAnd v3 (bi (gA σ 40 (gA σ 42 (w32 (w32 (3 * v1) + v4))) = gA σ 40 (gA σ 42 (w32 (w32 (3 * v2) + v4)))))) (w32 (v4 + 1)) σ else Q v3 σ)) (kQ : ∀ r s, Fr wX_isSameKinds σ0 s → Q r s → Q2 r s) (kX5 : ∀ v3 v4 s, Fr wX_isSameKinds σ0 s → X5 v3 v4 s → X52 v3 v4 s) : inb v1 50 ∧ (if v4 < gA σ 43 v1 then inb (w32 (w32 (3 * v1) + v4)) 150 ∧ inb (gA σ 42 (w32 (w32 (3 * v1) + v4))) 20 ∧ inb (w32 (w32 (3 * v2) + v4)) 150 ∧ inb (gA σ 42 (w32 (w32 (3 * v2) + v4))) 20 ∧ X52 (bAnd v3 (bi (gA σ 40 (gA σ 42 (w32 (w32 (3 * v1) + v4))) = gA σ 40 (gA σ 42 (w32 (w32 (3 * v2) + v4)))))) (w32 (v4 + 1)) σ else Q2 v3 σ) :=
  ⟨h.1, ite_m (fun _ h1 => ⟨h1.1, ⟨h1.2.1, ⟨h1.2.2.1, ⟨h1.2.2.2.1, kX5 _ _ _ fr h1.2.2.2.2⟩⟩⟩⟩) (fun _ h1 => kQ _ _ fr h1) h.2⟩
theorem fx_isSameKinds_L5 {v1 : Int} {v2 : Int} {v3 : Int} {v4 : Int} {σ0 σ : S} {Q Q2 : Int → S → Prop} (fr : Fr wX_isSameKinds σ0 σ) (h : x_isSameKinds_L5 v1 v2 v3 v4 σ Q) (kQ : ∀ r s, Fr wX_isSameKinds σ0 s → Q r s → Q2 r s) : x_isSameKinds_L5 v1 v2 v3 v4 σ Q2 := by
  unfold x_isSameKinds_L5 at h ⊢
  intro Y hY
  exact h (fun v3 v4 s => Fr wX_isSameKinds σ0 s → Y v3 v4 s) (fun v3 v4 s h f => hY v3 v4 s (fx_isSameKinds_L5_b (v1 := v1) (v2 := v2) (v3 := v3) (v4 := v4) (Q := Q) (Q2 := Q2) (X5 := fun v3 v4 s => Fr wX_isSameKinds σ0 s → Y v3 v4 s) (X52 := Y) f h kQ (fun v3 v4 s f h => h f))) fr
theorem lx_isSameKinds_L5 {v1 : Int} {v2 : Int} {v3 : Int} {v4 : Int} {σ0 : S} {Q : Int → S → Prop} (I : Int → Int → S → Prop) (me : Int → Int → S → Nat) (h0 : I v3 v4 σ0) (step : ∀ (v3 : Int) (v4 : Int) (s : S), Fr wX_isSameKinds σ0 s → I v3 v4 s → (fun (Y0 : Int → Int → S → Prop) => inb v1 50 ∧ (if v4 < gA s 43 v1 then inb (w32 (w32 (3 * v1) + v4)) 150 ∧ inb (gA s 42 (w32 (w32 (3 * v1) + v4))) 20 ∧ inb (w32 (w32 (3 * v2) + v4)) 150 ∧ inb (gA s 42 (w32 (w32 (3 * v2) + v4))) 20 ∧ Y0 (bAnd v3 (bi (gA s 40 (gA s 42 (w32 (w32 (3 * v1) + v4))) = gA s 40 (gA s 42 (w32 (w32 (3 * v2) + v4)))))) (w32 (v4 + 1)) s else Q v3 s)) (fun v3' v4' s' => I v3' v4' s' ∧ me v3' v4' s' < me v3 v4 s)) : x_isSameKinds_L5 v1 v2 v3 v4 σ0 Q := by
  unfold x_isSameKinds_L5
  intro Y hY
  have key : ∀ (n : Nat) (v3 : Int) (v4 : Int) (s : S), me v3 v4 s < n → Fr wX_isSameKinds σ0 s → I v3 v4 s → Y v3 v4 s := by
    intro n
    induction n with
    | zero => intro v3 v4 s h; exact absurd h (Nat.not_lt_zero _)
    | succ n ih =>
      intro v3 v4 s hm fr hi
      exact hY v3 v4 s (fx_isSameKinds_L5_b (v1 := v1) (v2 := v2) (v3 := v3) (v4 := v4) (Q := Q) (Q2 := Q) (X5 := (fun v3' v4' s' => I v3' v4' s' ∧ me v3' v4' s' < me v3 v4 s)) (X52 := Y) fr (step v3 v4 s fr hi) (fun _ _ _ h => h) (fun v3 v4 s f h => ih v3 v4 s (by omega) f h.1))
  exact key _ v3 v4 σ0 (Nat.lt_succ_self _) Fr.rf h0
theorem fm_x_isSameKinds {v1 : Int} {v2 : Int} {σ0 : S} {Q Q2 : Int → S → Prop} (h : x_isSameKinds v1 v2 σ0 Q) (kQ : ∀ r s, Fr wX_isSameKinds σ0 s → Q r s → Q2 r s) : x_isSameKinds v1 v2 σ0 Q2 := by
  have fr : Fr wX_isSameKinds σ0 σ0 := Fr.rf
  unfold x_isSameKinds at h ⊢
  exact fx_isSameKinds_L5 fr h kQ
theorem fm_x_isEnd {v1 : Int} {v2 : Int} {σ0 : S} {Q Q2 : Int → S → Prop} (h : x_isEnd v1 v2 σ0 Q) (kQ : ∀ r s, Fr wX_isEnd σ0 s → Q r s → Q2 r s) : x_isEnd v1 v2 σ0 Q2 := by
  have fr : Fr wX_isEnd σ0 σ0 := Fr.rf
  unfold x_isEnd at h ⊢
  exact ⟨h.1, kQ _ _ fr h.2⟩
theorem fx_layFirst_j352 {v1 : Int} {v2 : Int} {v3 : Int} {v8 : Int} {σ0 σ : S} {Q Q2 : Int → S → Prop} (fr : Fr wX_layFirst σ0 σ) (h : x_layFirst_j352 v1 v2 v3 v8 σ Q) (kQ : ∀ r s, Fr wX_layFirst σ0 s → Q r s → Q2 r s) : x_layFirst_j352 v1 v2 v3 v8 σ Q2 := by
  unfold x_layFirst_j352 at h ⊢
  exact ⟨h.1, ⟨h.2.1, ⟨h.2.2.1, ⟨h.2.2.2.1, ⟨h.2.2.2.2.1, ⟨h.2.2.2.2.2.1, ⟨h.2.2.2.2.2.2.1, ⟨h.2.2.2.2.2.2.2.1, ⟨h.2.2.2.2.2.2.2.2.1, ⟨h.2.2.2.2.2.2.2.2.2.1, ⟨h.2.2.2.2.2.2.2.2.2.2.1, ⟨h.2.2.2.2.2.2.2.2.2.2.2.1, ⟨h.2.2.2.2.2.2.2.2.2.2.2.2.1, ⟨h.2.2.2.2.2.2.2.2.2.2.2.2.2.1, ⟨h.2.2.2.2.2.2.2.2.2.2.2.2.2.2.1, ite_m (fun _ h15 => ⟨h15.1, fm_x_wrong h15.2 (fun r_110 σ_109 f h17 => (have f17 : Fr wX_layFirst σ0 σ_109 := (fr.trans (f.weak (by decide +kernel))); kQ _ _ f17 h17))⟩) (fun _ h15 => kQ _ _ fr h15) h.2.2.2.2.2.2.2.2.2.2.2.2.2.2.2⟩⟩⟩⟩⟩⟩⟩⟩⟩⟩⟩⟩⟩⟩⟩
theorem fx_layFirst_j333 {v1 : Int} {v2 : Int} {v3 : Int} {v5 : Int} {v6 : Int} {v7 : Int} {v8 : Int} {v9 : Int} {v10 : Int} {σ0 σ : S} {Q Q2 : Int → S → Prop} {X197 X1972 : Int → S → Prop} (fr : Fr wX_layFirst σ0 σ) (h : x_layFirst_j333 v1 v2 v3 v5 v6 v7 v8 v9 v10 σ Q X197) (kQ : ∀ r s, Fr wX_layFirst σ0 s → Q r s → Q2 r s) (kX197 : ∀ a0 s, Fr wX_layFirst σ0 s → X197 a0 s → X1972 a0 s) : x_layFirst_j333 v1 v2 v3 v5 v6 v7 v8 v9 v10 σ Q2 X1972 := by
  unfold x_layFirst_j333 at h ⊢
  exact ⟨h.1, fun σ_155 e1 => (have f1 : Fr wX_layFirst σ0 σ_155 := Fr.putA fr e1 rfl; kX197 _ _ f1 (h.2 σ_155 e1))⟩
theorem fx_layFirst_L197_b {v1 : Int} {v2 : Int} {v3 : Int} {v5 : Int} {v6 : Int} {v7 : Int} {v8 : Int} {v9 : Int} {σ0 σ : S} {Q Q2 : Int → S → Prop} {X197 X1972 : Int → S → Prop} (fr : Fr wX_layFirst σ0 σ) (h : (if v9 < v3 then ((¬ v9 = 0) → (v9 = w32 (v3 - 1)) → (¬ v6 = 0) → (v5 = 0) → (inb v1 50)) ∧ ((¬ v9 = 0) → (v9 = w32 (v3 - 1)) → (¬ v6 = 0) → (¬ v5 = 0) → (inb v1 50)) ∧ ((v9 = 0) → (v5 = 0) → (v9 = w32 (v3 - 1)) → (¬ v6 = 0) → (v5 = 0) → (inb v1 50)) ∧ ((v9 = 0) → (v5 = 0) → (v9 = w32 (v3 - 1)) → (¬ v6 = 0) → (¬ v5 = 0) → (inb v1 50)) ∧ ((v9 = 0) → (¬ v5 = 0) → (inb v1 50)) ∧ (if ¬ (v7 = 0) ∧ (¬ (v8 = 0)) then inb v2 50 ∧ inb (w32 (gA σ 21 v2 + v9)) 902 ∧ inb (gA σ 3 (w32 (gA σ 21 v2 + v9))) 6000 ∧ ((¬ gA σ 1 (gA σ 3 (w32 (gA σ 21 v2 + v9))) = 38) → (¬ gA σ 1 (gA σ 3 (w32 (gA σ 21 v2 + v9))) = 101) → (inb v1 50)) ∧ ((¬ gA σ 1 (gA σ 3 (w32 (gA σ 21 v2 + v9))) = 38) → (gA σ 1 (gA σ 3 (w32 (gA σ 21 v2 + v9))) = 101) → (inb v1 50)) ∧ x_layFirst_j333 v1 v2 v3 v5 v6 v7 v8 v9 (if gA σ 1 (gA σ 3 (w32 (gA σ 21 v2 + v9))) = 38 then 99 else (if gA σ 1 (gA σ 3 (w32 (gA σ 21 v2 + v9))) = 101 then gA σ 50 v1 else w32 (gA σ 50 v1 - 1))) σ Q X197 else x_layFirst_j333 v1 v2 v3 v5 v6 v7 v8 v9 (if v9 = 0 then (if v5 = 0 then (if v9 = w32 (v3 - 1) then (if v6 = 0 then 99 else (if v5 = 0 then gA σ 50 v1 else w32 (gA σ 50 v1 - 1))) else 99) else gA σ 50 v1) else (if v9 = w32 (v3 - 1) then (if v6 = 0 then 99 else (if v5 = 0 then gA σ 50 v1 else w32 (gA σ 50 v1 - 1))) else 99)) σ Q X197) else x_layFirst_j352 v1 v2 v3 v8 σ Q)) (kQ : ∀ r s, Fr wX_layFirst σ0 s → Q r s → Q2 r s) (kX197 : ∀ v9 s, Fr wX_layFirst σ0 s → X197 v9 s → X1972 v9 s) : (if v9 < v3 then ((¬ v9 = 0) → (v9 = w32 (v3 - 1)) → (¬ v6 = 0) → (v5 = 0) → (inb v1 50)) ∧ ((¬ v9 = 0) → (v9 = w32 (v3 - 1)) → (¬ v6 = 0) → (¬ v5 = 0) → (inb v1 50)) ∧ ((v9 = 0) → (v5 = 0) → (v9 = w32 (v3 - 1)) → (¬ v6 = 0) → (v5 = 0) → (inb v1 50)) ∧ ((v9 = 0) → (v5 = 0) → (v9 = w32 (v3 - 1)) → (¬ v6 = 0) → (¬ v5 = 0) → (inb v1 50)) ∧ ((v9 = 0) → (¬ v5 = 0) → (inb v1 50)) ∧ (if ¬ (v7 = 0) ∧ (¬ (v8 = 0)) then inb v2 50 ∧ inb (w32 (gA σ 21 v2 + v9)) 902 ∧ inb (gA σ 3 (w32 (gA σ 21 v2 + v9))) 6000 ∧ ((¬ gA σ 1 (gA σ 3 (w32 (gA σ 21 v2 + v9))) = 38) → (¬ gA σ 1 (gA σ 3 (w32 (gA σ 21 v2 + v9))) = 101) → (inb v1 50)) ∧ ((¬ gA σ 1 (gA σ 3 (w32 (gA σ 21 v2 + v9))) = 38) → (gA σ 1 (gA σ 3 (w32 (gA σ 21 v2 + v9))) = 101) → (inb v1 50)) ∧ x_layFirst_j333 v1 v2 v3 v5 v6 v7 v8 v9 (if gA σ 1 (gA σ 3 (w32 (gA σ 21 v2 + v9))) = 38 then 99 else (if gA σ 1 (gA σ 3 (w32 (gA σ 21 v2 + v9))) = 101 then gA σ 50 v1 else w32 (gA σ 50 v1 - 1))) σ Q2 X1972 else x_layFirst_j333 v1 v2 v3 v5 v6 v7 v8 v9 (if v9 = 0 then (if v5 = 0 then (if v9 = w32 (v3 - 1) then (if v6 = 0 then 99 else (if v5 = 0 then gA σ 50 v1 else w32 (gA σ 50 v1 - 1))) else 99) else gA σ 50 v1) else (if v9 = w32 (v3 - 1) then (if v6 = 0 then 99 else (if v5 = 0 then gA σ 50 v1 else w32 (gA σ 50 v1 - 1))) else 99)) σ Q2 X1972) else x_layFirst_j352 v1 v2 v3 v8 σ Q2) :=
  ite_m (fun _ h0 => ⟨h0.1, ⟨h0.2.1, ⟨h0.2.2.1, ⟨h0.2.2.2.1, ⟨h0.2.2.2.2.1, ite_m (fun _ h6 => ⟨h6.1, ⟨h6.2.1, ⟨h6.2.2.1, ⟨h6.2.2.2.1, ⟨h6.2.2.2.2.1, fx_layFirst_j333 fr h6.2.2.2.2.2 kQ kX197⟩⟩⟩⟩⟩) (fun _ h6 => fx_layFirst_j333 fr h6 kQ kX197) h0.2.2.2.2.2⟩⟩⟩⟩⟩) (fun _ h0 => fx_layFirst_j352 fr h0 kQ) h
theorem fx_layFirst_L197 {v1 : Int} {v2 : Int} {v3 : Int} {v5 : Int} {v6 : Int} {v7 : Int} {v8 : Int} {v9 : Int} {σ0 σ : S} {Q Q2 : Int → S → Prop} (fr : Fr wX_layFirst σ0 σ) (h : x_layFirst_L197 v1 v2 v3 v5 v6 v7 v8 v9 σ Q) (kQ : ∀ r s, Fr wX_layFirst σ0 s → Q r s → Q2 r s) : x_layFirst_L197 v1 v2 v3 v5 v6 v7 v8 v9 σ Q2 := by
  unfold x_layFirst_L197 at h ⊢
  intro Y hY
  exact h (fun v9 s => Fr wX_layFirst σ0 s → Y v9 s) (fun v9 s h f => hY v9 s (fx_layFirst_L197_b (v1 := v1) (v2 := v2) (v3 := v3) (v5 := v5) (v6 := v6) (v7 := v7) (v8 := v8) (v9 := v9) (Q := Q) (Q2 := Q2) (X197 := fun v9 s => Fr wX_layFirst σ0 s → Y v9 s) (X1972 := Y) f h kQ (fun v9 s f h => h f))) fr
theorem lx_layFirst_L197 {v1 : Int} {v2 : Int} {v3 : Int} {v5 : Int} {v6 : Int} {v7 : Int} {v8 : Int} {v9 : Int} {σ0 : S} {Q : Int → S → Prop} (I : Int → S → Prop) (me : Int → S → Nat) (h0 : I v9 σ0) (step : ∀ (v9 : Int) (s : S), Fr wX_layFirst σ0 s → I v9 s → (fun (Y0 : Int → S → Prop) => (if v9 < v3 then ((¬ v9 = 0) → (v9 = w32 (v3 - 1)) → (¬ v6 = 0) → (v5 = 0) → (inb v1 50)) ∧ ((¬ v9 = 0) → (v9 = w32 (v3 - 1)) → (¬ v6 = 0) → (¬ v5 = 0) → (inb v1 50)) ∧ ((v9 = 0) → (v5 = 0) → (v9 = w32 (v3 - 1)) → (¬ v6 = 0) → (v5 = 0) → (inb v1 50)) ∧ ((v9 = 0) → (v5 = 0) → (v9 = w32 (v3 - 1)) → (¬ v6 = 0) → (¬ v5 = 0) → (inb v1 50)) ∧ ((v9 = 0) → (¬ v5 = 0) → (inb v1 50)) ∧ (if ¬ (v7 = 0) ∧ (¬ (v8 = 0)) then inb v2 50 ∧ inb (w32 (gA s 21 v2 + v9)) 902 ∧ inb (gA s 3 (w32 (gA s 21 v2 + v9))) 6000 ∧ ((¬ gA s 1 (gA s 3 (w32 (gA s 21 v2 + v9))) = 38) → (¬ gA s 1 (gA s 3 (w32 (gA s 21 v2 + v9))) = 101) → (inb v1 50)) ∧ ((¬ gA s 1 (gA s 3 (w32 (gA s 21 v2 + v9))) = 38) → (gA s 1 (gA s 3 (w32 (gA s 21 v2 + v9))) = 101) → (inb v1 50)) ∧ x_layFirst_j333 v1 v2 v3 v5 v6 v7 v8 v9 (if gA s 1 (gA s 3 (w32 (gA s 21 v2 + v9))) = 38 then 99 else (if gA s 1 (gA s 3 (w32 (gA s 21 v2 + v9))) = 101 then gA s 50 v1 else w32 (gA s 50 v1 - 1))) s Q Y0 else x_layFirst_j333 v1 v2 v3 v5 v6 v7 v8 v9 (if v9 = 0 then (if v5 = 0 then (if v9 = w32 (v3 - 1) then (if v6 = 0 then 99 else (if v5 = 0 then gA s 50 v1 else w32 (gA s 50 v1 - 1))) else 99) else gA s 50 v1) else (if v9 = w32 (v3 - 1) then (if v6 = 0 then 99 else (if v5 = 0 then gA s 50 v1 else w32 (gA s 50 v1 - 1))) else 99)) s Q Y0) else x_layFirst_j352 v1 v2 v3 v8 s Q)) (fun v9' s' => I v9' s' ∧ me v9' s' < me v9 s)) : x_layFirst_L197 v1 v2 v3 v5 v6 v7 v8 v9 σ0 Q := by
  unfold x_layFirst_L197
  intro Y hY
  have key : ∀ (n : Nat) (v9 : Int) (s : S), me v9 s < n → Fr wX_layFirst σ0 s → I v9 s → Y v9 s := by
    intro n
    induction n with
    | zero => intro v9 s h; exact absurd h (Nat.not_lt_zero _)
    | succ n ih =>
      intro v9 s hm fr hi
      exact hY v9 s (fx_layFirst_L197_b (v1 := v1) (v2 := v2) (v3 := v3) (v5 := v5) (v6 := v6) (v7 := v7) (v8 := v8) (v9 := v9) (Q := Q) (Q2 := Q) (X197 := (fun v9' s' => I v9' s' ∧ me v9' s' < me v9 s)) (X1972 := Y) fr (step v9 s fr hi) (fun _ _ _ h => h) (fun v9 s f h => ih v9 s (by omega) f h.1))
  exact key _ v9 σ0 (Nat.lt_succ_self _) Fr.rf h0
theorem fm_x_layFirst {v1 : Int} {v2 : Int} {σ0 : S} {Q Q2 : Int → S → Prop} (h : x_layFirst v1 v2 σ0 Q) (kQ : ∀ r s, Fr wX_layFirst σ0 s → Q r s → Q2 r s) : x_layFirst v1 v2 σ0 Q2 := by
  have fr : Fr wX_layFirst σ0 σ0 := Fr.rf
  unfold x_layFirst at h ⊢
  exact ⟨h.1, ⟨h.2.1, fm_x_isEnd h.2.2 (fun r_6 σ_5 f h2 => (have f2 : Fr wX_layFirst σ0 σ_5 := (fr.trans (f.weak (by decide +kernel))); fm_x_isEnd h2 (fun r_8 σ_7 f h3 => (have f3 : Fr wX_layFirst σ0 σ_7 := (f2.trans (f.weak (by decide +kernel))); ⟨h3.1, fun σ_9 e5 => (have f5 : Fr wX_layFirst σ0 σ_9 := Fr.putA f3 e5 rfl; ⟨(h3.2 σ_9 e5).1, ⟨(h3.2 σ_9 e5).2.1, ⟨(h3.2 σ_9 e5).2.2.1, fun σ_16 e9 => (have f9 : Fr wX_layFirst σ0 σ_16 := Fr.putA f5 e9 rfl; ⟨((h3.2 σ_9 e5).2.2.2 σ_16 e9).1, ⟨((h3.2 σ_9 e5).2.2.2 σ_16 e9).2.1, ⟨((h3.2 σ_9 e5).2.2.2 σ_16 e9).2.2.1, fun σ_29 e13 => (have f13 : Fr wX_layFirst σ0 σ_29 := Fr.putA f9 e13 rfl; ⟨(((h3.2 σ_9 e5).2.2.2 σ_16 e9).2.2.2 σ_29 e13).1, ⟨(((h3.2 σ_9 e5).2.2.2 σ_16 e9).2.2.2 σ_29 e13).2.1, fun σ_35 e16 => (have f16 : Fr wX_layFirst σ0 σ_35 := Fr.putA f13 e16 rfl; ⟨((((h3.2 σ_9 e5).2.2.2 σ_16 e9).2.2.2 σ_29 e13).2.2 σ_35 e16).1, ⟨((((h3.2 σ_9 e5).2.2.2 σ_16 e9).2.2.2 σ_29 e13).2.2 σ_35 e16).2.1, fun σ_41 e19 => (have f19 : Fr wX_layFirst σ0 σ_41 := Fr.putA f16 e19 rfl; ⟨(((((h3.2 σ_9 e5).2.2.2 σ_16 e9).2.2.2 σ_29 e13).2.2 σ_35 e16).2.2 σ_41 e19).1, fun σ_44 e21 => (have f21 : Fr wX_layFirst σ0 σ_44 := Fr.putA f19 e21 rfl; ⟨((((((h3.2 σ_9 e5).2.2.2 σ_16 e9).2.2.2 σ_29 e13).2.2 σ_35 e16).2.2 σ_41 e19).2 σ_44 e21).1, ⟨((((((h3.2 σ_9 e5).2.2.2 σ_16 e9).2.2.2 σ_29 e13).2.2 σ_35 e16).2.2 σ_41 e19).2 σ_44 e21).2.1, fx_layFirst_L197 f21 ((((((h3.2 σ_9 e5).2.2.2 σ_16 e9).2.2.2 σ_29 e13).2.2 σ_35 e16).2.2 σ_41 e19).2 σ_44 e21).2.2 kQ⟩⟩)⟩)⟩⟩)⟩⟩)⟩⟩⟩)⟩⟩⟩)⟩))))⟩⟩
theorem fx_layUnit_j109 {v1 : Int} {v2 : Int} {σ0 σ : S} {Q Q2 : Int → S → Prop} (fr : Fr wX_layUnit σ0 σ) (h : x_layUnit_j109 v1 v2 σ Q) (kQ : ∀ r s, Fr wX_layUnit σ0 s → Q r s → Q2 r s) : x_layUnit_j109 v1 v2 σ Q2 := by
  unfold x_layUnit_j109 at h ⊢
  exact ⟨h.1, ite_m (fun _ h1 => ⟨h1.1, fm_x_wrong h1.2 (fun r_17 σ_16 f h3 => (have f3 : Fr wX_layUnit σ0 σ_16 := (fr.trans (f.weak (by decide +kernel))); kQ _ _ f3 h3))⟩) (fun _ h1 => kQ _ _ fr h1) h.2⟩
theorem fx_layUnit_j103 {v1 : Int} {v2 : Int} {v3 : Int} {σ0 σ : S} {Q Q2 : Int → S → Prop} {X21 X212 : Int → S → Prop} (fr : Fr wX_layUnit σ0 σ) (h : x_layUnit_j103 v1 v2 v3 σ Q X21) (kQ : ∀ r s, Fr wX_layUnit σ0 s → Q r s → Q2 r s) (kX21 : ∀ a0 s, Fr wX_layUnit σ0 s → X21 a0 s → X212 a0 s) : x_layUnit_j103 v1 v2 v3 σ Q2 X212 := by
  unfold x_layUnit_j103 at h ⊢
  exact kX21 _ _ fr h
theorem fx_layUnit_L21_b {v1 : Int} {v2 : Int} {v3 : Int} {σ0 σ : S} {Q Q2 : Int → S → Prop} {X21 X212 : Int → S → Prop} (fr : Fr wX_layUnit σ0 σ) (h : (if v3 < gI σ 63 then inb v3 50 ∧ inb v3 50 ∧ ((gA σ 49 v3 = 0) → (inb (gA σ 48 v3) 50)) ∧ ((gA σ 49 v3 = 0) → (gA σ 45 (gA σ 48 v3) = 1) → (inb (w32 (12 * (gA σ 48 v3))) 600)) ∧ ((gA σ 49 v3 = 0) → (gA σ 45 (gA σ 48 v3) = 1) → (inb v2 50)) ∧ ((gA σ 49 v3 = 0) → (gA σ 45 (gA σ 48 v3) = 1) → (inb (gA σ 19 v2) 902)) ∧ ((gA σ 49 v3 = 0) → (gA σ 45 (gA σ 48 v3) = 1) → (gA σ 46 (w32 (12 * (gA σ 48 v3))) = gA σ 5 (gA σ 19 v2)) → (inb v3 50)) ∧ ((gA σ 49 v3 = 0) → (gA σ 45 (gA σ 48 v3) = 1) → (gA σ 46 (w32 (12 * (gA σ 48 v3))) = gA σ 5 (gA σ 19 v2)) → (inb v1 50)) ∧ (if (gA σ 49 v3 = 0) ∧ ((gA σ 45 (gA σ 48 v3) = 1) ∧ ((gA σ 46 (w32 (12 * (gA σ 48 v3))) = gA σ 5 (gA σ 19 v2)) ∧ (gA σ 55 v3 = gA σ 55 v1))) then inb v1 50 ∧ ∀ σ_38, σ_38 = pA σ 54 v1 v3 → x_layUnit_j103 v1 v2 v3 σ_38 Q X21 else x_layUnit_j103 v1 v2 v3 σ Q X21) else x_layUnit_j109 v1 v2 σ Q)) (kQ : ∀ r s, Fr wX_layUnit σ0 s → Q r s → Q2 r s) (kX21 : ∀ v3 s, Fr wX_layUnit σ0 s → X21 v3 s → X212 v3 s) : (if v3 < gI σ 63 then inb v3 50 ∧ inb v3 50 ∧ ((gA σ 49 v3 = 0) → (inb (gA σ 48 v3) 50)) ∧ ((gA σ 49 v3 = 0) → (gA σ 45 (gA σ 48 v3) = 1) → (inb (w32 (12 * (gA σ 48 v3))) 600)) ∧ ((gA σ 49 v3 = 0) → (gA σ 45 (gA σ 48 v3) = 1) → (inb v2 50)) ∧ ((gA σ 49 v3 = 0) → (gA σ 45 (gA σ 48 v3) = 1) → (inb (gA σ 19 v2) 902)) ∧ ((gA σ 49 v3 = 0) → (gA σ 45 (gA σ 48 v3) = 1) → (gA σ 46 (w32 (12 * (gA σ 48 v3))) = gA σ 5 (gA σ 19 v2)) → (inb v3 50)) ∧ ((gA σ 49 v3 = 0) → (gA σ 45 (gA σ 48 v3) = 1) → (gA σ 46 (w32 (12 * (gA σ 48 v3))) = gA σ 5 (gA σ 19 v2)) → (inb v1 50)) ∧ (if (gA σ 49 v3 = 0) ∧ ((gA σ 45 (gA σ 48 v3) = 1) ∧ ((gA σ 46 (w32 (12 * (gA σ 48 v3))) = gA σ 5 (gA σ 19 v2)) ∧ (gA σ 55 v3 = gA σ 55 v1))) then inb v1 50 ∧ ∀ σ_38, σ_38 = pA σ 54 v1 v3 → x_layUnit_j103 v1 v2 v3 σ_38 Q2 X212 else x_layUnit_j103 v1 v2 v3 σ Q2 X212) else x_layUnit_j109 v1 v2 σ Q2) :=
  ite_m (fun _ h0 => ⟨h0.1, ⟨h0.2.1, ⟨h0.2.2.1, ⟨h0.2.2.2.1, ⟨h0.2.2.2.2.1, ⟨h0.2.2.2.2.2.1, ⟨h0.2.2.2.2.2.2.1, ⟨h0.2.2.2.2.2.2.2.1, ite_m (fun _ h9 => ⟨h9.1, fun σ_38 e11 => (have f11 : Fr wX_layUnit σ0 σ_38 := Fr.putA fr e11 rfl; fx_layUnit_j103 f11 (h9.2 σ_38 e11) kQ kX21)⟩) (fun _ h9 => fx_layUnit_j103 fr h9 kQ kX21) h0.2.2.2.2.2.2.2.2⟩⟩⟩⟩⟩⟩⟩⟩) (fun _ h0 => fx_layUnit_j109 fr h0 kQ) h
theorem fx_layUnit_L21 {v1 : Int} {v2 : Int} {v3 : Int} {σ0 σ : S} {Q Q2 : Int → S → Prop} (fr : Fr wX_layUnit σ0 σ) (h : x_layUnit_L21 v1 v2 v3 σ Q) (kQ : ∀ r s, Fr wX_layUnit σ0 s → Q r s → Q2 r s) : x_layUnit_L21 v1 v2 v3 σ Q2 := by
  unfold x_layUnit_L21 at h ⊢
  intro Y hY
  exact h (fun v3 s => Fr wX_layUnit σ0 s → Y v3 s) (fun v3 s h f => hY v3 s (fx_layUnit_L21_b (v1 := v1) (v2 := v2) (v3 := v3) (Q := Q) (Q2 := Q2) (X21 := fun v3 s => Fr wX_layUnit σ0 s → Y v3 s) (X212 := Y) f h kQ (fun v3 s f h => h f))) fr
theorem lx_layUnit_L21 {v1 : Int} {v2 : Int} {v3 : Int} {σ0 : S} {Q : Int → S → Prop} (I : Int → S → Prop) (me : Int → S → Nat) (h0 : I v3 σ0) (step : ∀ (v3 : Int) (s : S), Fr wX_layUnit σ0 s → I v3 s → (fun (Y0 : Int → S → Prop) => (if v3 < gI s 63 then inb v3 50 ∧ inb v3 50 ∧ ((gA s 49 v3 = 0) → (inb (gA s 48 v3) 50)) ∧ ((gA s 49 v3 = 0) → (gA s 45 (gA s 48 v3) = 1) → (inb (w32 (12 * (gA s 48 v3))) 600)) ∧ ((gA s 49 v3 = 0) → (gA s 45 (gA s 48 v3) = 1) → (inb v2 50)) ∧ ((gA s 49 v3 = 0) → (gA s 45 (gA s 48 v3) = 1) → (inb (gA s 19 v2) 902)) ∧ ((gA s 49 v3 = 0) → (gA s 45 (gA s 48 v3) = 1) → (gA s 46 (w32 (12 * (gA s 48 v3))) = gA s 5 (gA s 19 v2)) → (inb v3 50)) ∧ ((gA s 49 v3 = 0) → (gA s 45 (gA s 48 v3) = 1) → (gA s 46 (w32 (12 * (gA s 48 v3))) = gA s 5 (gA s 19 v2)) → (inb v1 50)) ∧ (if (gA s 49 v3 = 0) ∧ ((gA s 45 (gA s 48 v3) = 1) ∧ ((gA s 46 (w32 (12 * (gA s 48 v3))) = gA s 5 (gA s 19 v2)) ∧ (gA s 55 v3 = gA s 55 v1))) then inb v1 50 ∧ ∀ σ_38, σ_38 = pA s 54 v1 v3 → x_layUnit_j103 v1 v2 v3 σ_38 Q Y0 else x_layUnit_j103 v1 v2 v3 s Q Y0) else x_layUnit_j109 v1 v2 s Q)) (fun v3' s' => I v3' s' ∧ me v3' s' < me v3 s)) : x_layUnit_L21 v1 v2 v3 σ0 Q := by
  unfold x_layUnit_L21
  intro Y hY
  have key : ∀ (n : Nat) (v3 : Int) (s : S), me v3 s < n → Fr wX_layUnit σ0 s → I v3 s → Y v3 s := by
    intro n
    induction n with
    | zero => intro v3 s h; exact absurd h (Nat.not_lt_zero _)
    | succ n ih =>
      intro v3 s hm fr hi
      exact hY v3 s (fx_layUnit_L21_b (v1 := v1) (v2 := v2) (v3 := v3) (Q := Q) (Q2 := Q) (X21 := (fun v3' s' => I v3' s' ∧ me v3' s' < me v3 s)) (X212 := Y) fr (step v3 s fr hi) (fun _ _ _ h => h) (fun v3 s f h => ih v3 s (by omega) f h.1))
  exact key _ v3 σ0 (Nat.lt_succ_self _) Fr.rf h0
theorem fm_x_layUnit {v1 : Int} {σ0 : S} {Q Q2 : Int → S → Prop} (h : x_layUnit v1 σ0 Q) (kQ : ∀ r s, Fr wX_layUnit σ0 s → Q r s → Q2 r s) : x_layUnit v1 σ0 Q2 := by
  have fr : Fr wX_layUnit σ0 σ0 := Fr.rf
  unfold x_layUnit at h ⊢
  exact ⟨h.1, ⟨h.2.1, ite_m (fun _ h2 => kQ _ _ fr h2) (fun _ h2 => fx_layUnit_L21 fr h2 kQ) h.2.2⟩⟩
theorem fx_layOperators_L151_b {v1 : Int} {σ0 σ : S} {Q Q2 : Int → S → Prop} {X151 X1512 : Int → S → Prop} (fr : Fr wX_layOperators σ0 σ) (h : (if v1 < gI σ 63 then x_layUnit v1 σ (fun _ σ_9 => X151 (w32 (v1 + 1)) σ_9) else Q 0 σ)) (kQ : ∀ r s, Fr wX_layOperators σ0 s → Q r s → Q2 r s) (kX151 : ∀ v1 s, Fr wX_layOperators σ0 s → X151 v1 s → X1512 v1 s) : (if v1 < gI σ 63 then x_layUnit v1 σ (fun _ σ_9 => X1512 (w32 (v1 + 1)) σ_9) else Q2 0 σ) :=
  ite_m (fun _ h0 => fm_x_layUnit h0 (fun _ σ_9 f h1 => (have f1 : Fr wX_layOperators σ0 σ_9 := (fr.trans (f.weak (by decide +kernel))); kX151 _ _ f1 h1))) (fun _ h0 => kQ _ _ fr h0) h
theorem fx_layOperators_L151 {v1 : Int} {σ0 σ : S} {Q Q2 : Int → S → Prop} (fr : Fr wX_layOperators σ0 σ) (h : x_layOperators_L151 v1 σ Q) (kQ : ∀ r s, Fr wX_layOperators σ0 s → Q r s → Q2 r s) : x_layOperators_L151 v1 σ Q2 := by
  unfold x_layOperators_L151 at h ⊢
  intro Y hY
  exact h (fun v1 s => Fr wX_layOperators σ0 s → Y v1 s) (fun v1 s h f => hY v1 s (fx_layOperators_L151_b (v1 := v1) (Q := Q) (Q2 := Q2) (X151 := fun v1 s => Fr wX_layOperators σ0 s → Y v1 s) (X1512 := Y) f h kQ (fun v1 s f h => h f))) fr
theorem lx_layOperators_L151 {v1 : Int} {σ0 : S} {Q : Int → S → Prop} (I : Int → S → Prop) (me : Int → S → Nat) (h0 : I v1 σ0) (step : ∀ (v1 : Int) (s : S), Fr wX_layOperators σ0 s → I v1 s → (fun (Y0 : Int → S → Prop) => (if v1 < gI s 63 then x_layUnit v1 s (fun _ σ_9 => Y0 (w32 (v1 + 1)) σ_9) else Q 0 s)) (fun v1' s' => I v1' s' ∧ me v1' s' < me v1 s)) : x_layOperators_L151 v1 σ0 Q := by
  unfold x_layOperators_L151
  intro Y hY
  have key : ∀ (n : Nat) (v1 : Int) (s : S), me v1 s < n → Fr wX_layOperators σ0 s → I v1 s → Y v1 s := by
    intro n
    induction n with
    | zero => intro v1 s h; exact absurd h (Nat.not_lt_zero _)
    | succ n ih =>
      intro v1 s hm fr hi
      exact hY v1 s (fx_layOperators_L151_b (v1 := v1) (Q := Q) (Q2 := Q) (X151 := (fun v1' s' => I v1' s' ∧ me v1' s' < me v1 s)) (X1512 := Y) fr (step v1 s fr hi) (fun _ _ _ h => h) (fun v1 s f h => ih v1 s (by omega) f h.1))
  exact key _ v1 σ0 (Nat.lt_succ_self _) Fr.rf h0
theorem fx_layOperators_j149 {σ0 σ : S} {Q Q2 : Int → S → Prop} (fr : Fr wX_layOperators σ0 σ) (h : x_layOperators_j149  σ Q) (kQ : ∀ r s, Fr wX_layOperators σ0 s → Q r s → Q2 r s) : x_layOperators_j149  σ Q2 := by
  unfold x_layOperators_j149 at h ⊢
  exact fx_layOperators_L151 fr h kQ
theorem fx_layOperators_j71 {v1 : Int} {v2 : Int} {σ0 σ : S} {Q Q2 : Int → S → Prop} {X7 X72 : Int → S → Prop} {X25 X252 : Int → S → Prop} (fr : Fr wX_layOperators σ0 σ) (h : x_layOperators_j71 v1 v2 σ Q X7 X25) (kQ : ∀ r s, Fr wX_layOperators σ0 s → Q r s → Q2 r s) (kX7 : ∀ a0 s, Fr wX_layOperators σ0 s → X7 a0 s → X72 a0 s) (kX25 : ∀ a0 s, Fr wX_layOperators σ0 s → X25 a0 s → X252 a0 s) : x_layOperators_j71 v1 v2 σ Q2 X72 X252 := by
  unfold x_layOperators_j71 at h ⊢
  exact kX25 _ _ fr h
theorem fx_layOperators_j143 {v1 : Int} {σ0 σ : S} {Q Q2 : Int → S → Prop} {X7 X72 : Int → S → Prop} (fr : Fr wX_layOperators σ0 σ) (h : x_layOperators_j143 v1 σ Q X7) (kQ : ∀ r s, Fr wX_layOperators σ0 s → Q r s → Q2 r s) (kX7 : ∀ a0 s, Fr wX_layOperators σ0 s → X7 a0 s → X72 a0 s) : x_layOperators_j143 v1 σ Q2 X72 := by
  unfold x_layOperators_j143 at h ⊢
  exact kX7 _ _ fr h
theorem fx_layOperators_j77 {v1 : Int} {σ0 σ : S} {Q Q2 : Int → S → Prop} {X7 X72 : Int → S → Prop} (fr : Fr wX_layOperators σ0 σ) (h : x_layOperators_j77 v1 σ Q X7) (kQ : ∀ r s, Fr wX_layOperators σ0 s → Q r s → Q2 r s) (kX7 : ∀ a0 s, Fr wX_layOperators σ0 s → X7 a0 s → X72 a0 s) : x_layOperators_j77 v1 σ Q2 X72 := by
  unfold x_layOperators_j77 at h ⊢
  exact ⟨h.1, ite_m (fun _ h1 => ⟨h1.1, fun σ_40 e3 => (have f3 : Fr wX_layOperators σ0 σ_40 := Fr.putA fr e3 rfl; ⟨(h1.2 σ_40 e3).1, fun σ_44 e5 => (have f5 : Fr wX_layOperators σ0 σ_44 := Fr.putA f3 e5 rfl; fun σ_48 e6 => (have f6 : Fr wX_layOperators σ0 σ_48 := Fr.putI f5 e6 rfl; fm_x_layFirst (((h1.2 σ_40 e3).2 σ_44 e5) σ_48 e6) (fun _ σ_50 f h7 => (have f7 : Fr wX_layOperators σ0 σ_50 := (f6.trans (f.weak (by decide +kernel))); fx_layOperators_j143 f7 h7 kQ kX7))))⟩)⟩) (fun _ h1 => ⟨h1.1, ⟨h1.2.1, fm_x_checkLater h1.2.2 (fun _ σ_38 f h4 => (have f4 : Fr wX_layOperators σ0 σ_38 := (fr.trans (f.weak (by decide +kernel))); fx_layOperators_j143 f4 h4 kQ kX7))⟩⟩) h.2⟩
theorem fx_layOperators_L25_b {v1 : Int} {v2 : Int} {σ0 σ : S} {Q Q2 : Int → S → Prop} {X7 X72 : Int → S → Prop} {X25 X252 : Int → S → Prop} (fr : Fr wX_layOperators σ0 σ) (h : ((v2 < v1) → (inb v1 50)) ∧ (if (v2 < v1) ∧ (gA σ 41 v1 = (-2)) then x_isSameForm v1 v2 σ (fun r_18 σ_17 => (if r_18 = 0 then x_layOperators_j71 v1 v2 σ_17 Q X7 X25 else x_isSameKinds v1 v2 σ_17 (fun r_22 σ_21 => (if r_22 = 0 then x_layOperators_j71 v1 v2 σ_21 Q X7 X25 else inb v2 50 ∧ inb v1 50 ∧ ∀ σ_27, σ_27 = pA σ_21 41 v1 (gA σ_21 41 v2) → x_layOperators_j71 v1 v2 σ_27 Q X7 X25)))) else x_layOperators_j77 v1 σ Q X7)) (kQ : ∀ r s, Fr wX_layOperators σ0 s → Q r s → Q2 r s) (kX7 : ∀ a0 s, Fr wX_layOperators σ0 s → X7 a0 s → X72 a0 s) (kX25 : ∀ v2 s, Fr wX_layOperators σ0 s → X25 v2 s → X252 v2 s) : ((v2 < v1) → (inb v1 50)) ∧ (if (v2 < v1) ∧ (gA σ 41 v1 = (-2)) then x_isSameForm v1 v2 σ (fun r_18 σ_17 => (if r_18 = 0 then x_layOperators_j71 v1 v2 σ_17 Q2 X72 X252 else x_isSameKinds v1 v2 σ_17 (fun r_22 σ_21 => (if r_22 = 0 then x_layOperators_j71 v1 v2 σ_21 Q2 X72 X252 else inb v2 50 ∧ inb v1 50 ∧ ∀ σ_27, σ_27 = pA σ_21 41 v1 (gA σ_21 41 v2) → x_layOperators_j71 v1 v2 σ_27 Q2 X72 X252)))) else x_layOperators_j77 v1 σ Q2 X72) :=
  ⟨h.1, ite_m (fun _ h1 => fm_x_isSameForm h1 (fun r_18 σ_17 f h2 => (have f2 : Fr wX_layOperators σ0 σ_17 := (fr.trans (f.weak (by decide +kernel))); ite_m (fun _ h3 => fx_layOperators_j71 f2 h3 kQ kX7 kX25) (fun _ h3 => fm_x_isSameKinds h3 (fun r_22 σ_21 f h4 => (have f4 : Fr wX_layOperators σ0 σ_21 := (f2.trans (f.weak (by decide +kernel))); ite_m (fun _ h5 => fx_layOperators_j71 f4 h5 kQ kX7 kX25) (fun _ h5 => ⟨h5.1, ⟨h5.2.1, fun σ_27 e8 => (have f8 : Fr wX_layOperators σ0 σ_27 := Fr.putA f4 e8 rfl; fx_layOperators_j71 f8 (h5.2.2 σ_27 e8) kQ kX7 kX25)⟩⟩) h4))) h2))) (fun _ h1 => fx_layOperators_j77 fr h1 kQ kX7) h.2⟩
theorem fx_layOperators_L25 {v1 : Int} {v2 : Int} {σ0 σ : S} {Q Q2 : Int → S → Prop} {X7 X72 : Int → S → Prop} (fr : Fr wX_layOperators σ0 σ) (h : x_layOperators_L25 v1 v2 σ Q X7) (kQ : ∀ r s, Fr wX_layOperators σ0 s → Q r s → Q2 r s) (kX7 : ∀ a0 s, Fr wX_layOperators σ0 s → X7 a0 s → X72 a0 s) : x_layOperators_L25 v1 v2 σ Q2 X72 := by
  unfold x_layOperators_L25 at h ⊢
  intro Y hY
  exact h (fun v2 s => Fr wX_layOperators σ0 s → Y v2 s) (fun v2 s h f => hY v2 s (fx_layOperators_L25_b (v1 := v1) (v2 := v2) (Q := Q) (Q2 := Q2) (X7 := X7) (X72 := X72) (X25 := fun v2 s => Fr wX_layOperators σ0 s → Y v2 s) (X252 := Y) f h kQ kX7 (fun v2 s f h => h f))) fr
theorem lx_layOperators_L25 {v1 : Int} {v2 : Int} {σ0 : S} {Q : Int → S → Prop} {X7 : Int → S → Prop} (I : Int → S → Prop) (me : Int → S → Nat) (h0 : I v2 σ0) (step : ∀ (v2 : Int) (s : S), Fr wX_layOperators σ0 s → I v2 s → (fun (Y0 : Int → S → Prop) => ((v2 < v1) → (inb v1 50)) ∧ (if (v2 < v1) ∧ (gA s 41 v1 = (-2)) then x_isSameForm v1 v2 s (fun r_18 σ_17 => (if r_18 = 0 then x_layOperators_j71 v1 v2 σ_17 Q X7 Y0 else x_isSameKinds v1 v2 σ_17 (fun r_22 σ_21 => (if r_22 = 0 then x_layOperators_j71 v1 v2 σ_21 Q X7 Y0 else inb v2 50 ∧ inb v1 50 ∧ ∀ σ_27, σ_27 = pA σ_21 41 v1 (gA σ_21 41 v2) → x_layOperators_j71 v1 v2 σ_27 Q X7 Y0)))) else x_layOperators_j77 v1 s Q X7)) (fun v2' s' => I v2' s' ∧ me v2' s' < me v2 s)) : x_layOperators_L25 v1 v2 σ0 Q X7 := by
  unfold x_layOperators_L25
  intro Y hY
  have key : ∀ (n : Nat) (v2 : Int) (s : S), me v2 s < n → Fr wX_layOperators σ0 s → I v2 s → Y v2 s := by
    intro n
    induction n with
    | zero => intro v2 s h; exact absurd h (Nat.not_lt_zero _)
    | succ n ih =>
      intro v2 s hm fr hi
      exact hY v2 s (fx_layOperators_L25_b (v1 := v1) (v2 := v2) (Q := Q) (Q2 := Q) (X7 := X7) (X72 := X7) (X25 := (fun v2' s' => I v2' s' ∧ me v2' s' < me v2 s)) (X252 := Y) fr (step v2 s fr hi) (fun _ _ _ h => h) (fun _ _ _ h => h) (fun v2 s f h => ih v2 s (by omega) f h.1))
  exact key _ v2 σ0 (Nat.lt_succ_self _) Fr.rf h0
theorem fx_layOperators_L7_b {v1 : Int} {σ0 σ : S} {Q Q2 : Int → S → Prop} {X7 X72 : Int → S → Prop} (fr : Fr wX_layOperators σ0 σ) (h : (if v1 < gI σ 29 then inb v1 50 ∧ ∀ σ_10, σ_10 = pA σ 41 v1 (-2) → x_layOperators_L25 v1 0 σ_10 Q X7 else x_layOperators_j149 σ Q)) (kQ : ∀ r s, Fr wX_layOperators σ0 s → Q r s → Q2 r s) (kX7 : ∀ v1 s, Fr wX_layOperators σ0 s → X7 v1 s → X72 v1 s) : (if v1 < gI σ 29 then inb v1 50 ∧ ∀ σ_10, σ_10 = pA σ 41 v1 (-2) → x_layOperators_L25 v1 0 σ_10 Q2 X72 else x_layOperators_j149 σ Q2) :=
  ite_m (fun _ h0 => ⟨h0.1, fun σ_10 e2 => (have f2 : Fr wX_layOperators σ0 σ_10 := Fr.putA fr e2 rfl; fx_layOperators_L25 f2 (h0.2 σ_10 e2) kQ kX7)⟩) (fun _ h0 => fx_layOperators_j149 fr h0 kQ) h
theorem fx_layOperators_L7 {v1 : Int} {σ0 σ : S} {Q Q2 : Int → S → Prop} (fr : Fr wX_layOperators σ0 σ) (h : x_layOperators_L7 v1 σ Q) (kQ : ∀ r s, Fr wX_layOperators σ0 s → Q r s → Q2 r s) : x_layOperators_L7 v1 σ Q2 := by
  unfold x_layOperators_L7 at h ⊢
  intro Y hY
  exact h (fun v1 s => Fr wX_layOperators σ0 s → Y v1 s) (fun v1 s h f => hY v1 s (fx_layOperators_L7_b (v1 := v1) (Q := Q) (Q2 := Q2) (X7 := fun v1 s => Fr wX_layOperators σ0 s → Y v1 s) (X72 := Y) f h kQ (fun v1 s f h => h f))) fr
theorem lx_layOperators_L7 {v1 : Int} {σ0 : S} {Q : Int → S → Prop} (I : Int → S → Prop) (me : Int → S → Nat) (h0 : I v1 σ0) (step : ∀ (v1 : Int) (s : S), Fr wX_layOperators σ0 s → I v1 s → (fun (Y0 : Int → S → Prop) => (if v1 < gI s 29 then inb v1 50 ∧ ∀ σ_10, σ_10 = pA s 41 v1 (-2) → x_layOperators_L25 v1 0 σ_10 Q Y0 else x_layOperators_j149 s Q)) (fun v1' s' => I v1' s' ∧ me v1' s' < me v1 s)) : x_layOperators_L7 v1 σ0 Q := by
  unfold x_layOperators_L7
  intro Y hY
  have key : ∀ (n : Nat) (v1 : Int) (s : S), me v1 s < n → Fr wX_layOperators σ0 s → I v1 s → Y v1 s := by
    intro n
    induction n with
    | zero => intro v1 s h; exact absurd h (Nat.not_lt_zero _)
    | succ n ih =>
      intro v1 s hm fr hi
      exact hY v1 s (fx_layOperators_L7_b (v1 := v1) (Q := Q) (Q2 := Q) (X7 := (fun v1' s' => I v1' s' ∧ me v1' s' < me v1 s)) (X72 := Y) fr (step v1 s fr hi) (fun _ _ _ h => h) (fun v1 s f h => ih v1 s (by omega) f h.1))
  exact key _ v1 σ0 (Nat.lt_succ_self _) Fr.rf h0
theorem fm_x_layOperators {σ0 : S} {Q Q2 : Int → S → Prop} (h : x_layOperators  σ0 Q) (kQ : ∀ r s, Fr wX_layOperators σ0 s → Q r s → Q2 r s) : x_layOperators  σ0 Q2 := by
  have fr : Fr wX_layOperators σ0 σ0 := Fr.rf
  unfold x_layOperators at h ⊢
  exact fun σ_1 e0 => (have f0 : Fr wX_layOperators σ0 σ_1 := Fr.putI fr e0 rfl; fx_layOperators_L7 f0 (h σ_1 e0) kQ)
theorem fx_layVariables_j58 {v1 : Int} {v2 : Int} {σ0 σ : S} {Q Q2 : Int → S → Prop} {X2 X22 : Int → S → Prop} (fr : Fr wX_layVariables σ0 σ) (h : x_layVariables_j58 v1 v2 σ Q X2) (kQ : ∀ r s, Fr wX_layVariables σ0 s → Q r s → Q2 r s) (kX2 : ∀ a0 s, Fr wX_layVariables σ0 s → X2 a0 s → X22 a0 s) : x_layVariables_j58 v1 v2 σ Q2 X22 := by
  unfold x_layVariables_j58 at h ⊢
  exact ⟨h.1, fun σ_10 e1 => (have f1 : Fr wX_layVariables σ0 σ_10 := Fr.putA fr e1 rfl; ⟨(h.2 σ_10 e1).1, fm_x_sortAt (h.2 σ_10 e1).2 (fun r_16 σ_15 f h3 => (have f3 : Fr wX_layVariables σ0 σ_15 := (f1.trans (f.weak (by decide +kernel))); ⟨h3.1, fun σ_17 e5 => (have f5 : Fr wX_layVariables σ0 σ_17 := Fr.putA f3 e5 rfl; kX2 _ _ f5 (h3.2 σ_17 e5))⟩))⟩)⟩
theorem fx_layVariables_j52 {v1 : Int} {v2 : Int} {v3 : Int} {σ0 σ : S} {Q Q2 : Int → S → Prop} {X2 X22 : Int → S → Prop} {X24 X242 : Int → S → Prop} (fr : Fr wX_layVariables σ0 σ) (h : x_layVariables_j52 v1 v2 v3 σ Q X2 X24) (kQ : ∀ r s, Fr wX_layVariables σ0 s → Q r s → Q2 r s) (kX2 : ∀ a0 s, Fr wX_layVariables σ0 s → X2 a0 s → X22 a0 s) (kX24 : ∀ a0 s, Fr wX_layVariables σ0 s → X24 a0 s → X242 a0 s) : x_layVariables_j52 v1 v2 v3 σ Q2 X22 X242 := by
  unfold x_layVariables_j52 at h ⊢
  exact kX24 _ _ fr h
theorem fx_layVariables_L24_b {v1 : Int} {v2 : Int} {v3 : Int} {σ0 σ : S} {Q Q2 : Int → S → Prop} {X2 X22 : Int → S → Prop} {X24 X242 : Int → S → Prop} (fr : Fr wX_layVariables σ0 σ) (h : (if v3 < v1 then inb v3 30 ∧ (if gA σ 57 v3 = v2 then inb v1 30 ∧ x_wrong 3 (gA σ 23 v1) σ (fun r_27 σ_26 => x_layVariables_j52 v1 v2 v3 σ_26 Q X2 X24) else x_layVariables_j52 v1 v2 v3 σ Q X2 X24) else x_layVariables_j58 v1 v2 σ Q X2)) (kQ : ∀ r s, Fr wX_layVariables σ0 s → Q r s → Q2 r s) (kX2 : ∀ a0 s, Fr wX_layVariables σ0 s → X2 a0 s → X22 a0 s) (kX24 : ∀ v3 s, Fr wX_layVariables σ0 s → X24 v3 s → X242 v3 s) : (if v3 < v1 then inb v3 30 ∧ (if gA σ 57 v3 = v2 then inb v1 30 ∧ x_wrong 3 (gA σ 23 v1) σ (fun r_27 σ_26 => x_layVariables_j52 v1 v2 v3 σ_26 Q2 X22 X242) else x_layVariables_j52 v1 v2 v3 σ Q2 X22 X242) else x_layVariables_j58 v1 v2 σ Q2 X22) :=
  ite_m (fun _ h0 => ⟨h0.1, ite_m (fun _ h2 => ⟨h2.1, fm_x_wrong h2.2 (fun r_27 σ_26 f h4 => (have f4 : Fr wX_layVariables σ0 σ_26 := (fr.trans (f.weak (by decide +kernel))); fx_layVariables_j52 f4 h4 kQ kX2 kX24))⟩) (fun _ h2 => fx_layVariables_j52 fr h2 kQ kX2 kX24) h0.2⟩) (fun _ h0 => fx_layVariables_j58 fr h0 kQ kX2) h
theorem fx_layVariables_L24 {v1 : Int} {v2 : Int} {v3 : Int} {σ0 σ : S} {Q Q2 : Int → S → Prop} {X2 X22 : Int → S → Prop} (fr : Fr wX_layVariables σ0 σ) (h : x_layVariables_L24 v1 v2 v3 σ Q X2) (kQ : ∀ r s, Fr wX_layVariables σ0 s → Q r s → Q2 r s) (kX2 : ∀ a0 s, Fr wX_layVariables σ0 s → X2 a0 s → X22 a0 s) : x_layVariables_L24 v1 v2 v3 σ Q2 X22 := by
  unfold x_layVariables_L24 at h ⊢
  intro Y hY
  exact h (fun v3 s => Fr wX_layVariables σ0 s → Y v3 s) (fun v3 s h f => hY v3 s (fx_layVariables_L24_b (v1 := v1) (v2 := v2) (v3 := v3) (Q := Q) (Q2 := Q2) (X2 := X2) (X22 := X22) (X24 := fun v3 s => Fr wX_layVariables σ0 s → Y v3 s) (X242 := Y) f h kQ kX2 (fun v3 s f h => h f))) fr
theorem lx_layVariables_L24 {v1 : Int} {v2 : Int} {v3 : Int} {σ0 : S} {Q : Int → S → Prop} {X2 : Int → S → Prop} (I : Int → S → Prop) (me : Int → S → Nat) (h0 : I v3 σ0) (step : ∀ (v3 : Int) (s : S), Fr wX_layVariables σ0 s → I v3 s → (fun (Y0 : Int → S → Prop) => (if v3 < v1 then inb v3 30 ∧ (if gA s 57 v3 = v2 then inb v1 30 ∧ x_wrong 3 (gA s 23 v1) s (fun r_27 σ_26 => x_layVariables_j52 v1 v2 v3 σ_26 Q X2 Y0) else x_layVariables_j52 v1 v2 v3 s Q X2 Y0) else x_layVariables_j58 v1 v2 s Q X2)) (fun v3' s' => I v3' s' ∧ me v3' s' < me v3 s)) : x_layVariables_L24 v1 v2 v3 σ0 Q X2 := by
  unfold x_layVariables_L24
  intro Y hY
  have key : ∀ (n : Nat) (v3 : Int) (s : S), me v3 s < n → Fr wX_layVariables σ0 s → I v3 s → Y v3 s := by
    intro n
    induction n with
    | zero => intro v3 s h; exact absurd h (Nat.not_lt_zero _)
    | succ n ih =>
      intro v3 s hm fr hi
      exact hY v3 s (fx_layVariables_L24_b (v1 := v1) (v2 := v2) (v3 := v3) (Q := Q) (Q2 := Q) (X2 := X2) (X22 := X2) (X24 := (fun v3' s' => I v3' s' ∧ me v3' s' < me v3 s)) (X242 := Y) fr (step v3 s fr hi) (fun _ _ _ h => h) (fun _ _ _ h => h) (fun v3 s f h => ih v3 s (by omega) f h.1))
  exact key _ v3 σ0 (Nat.lt_succ_self _) Fr.rf h0
theorem fx_layVariables_L2_b {v1 : Int} {σ0 σ : S} {Q Q2 : Int → S → Prop} {X2 X22 : Int → S → Prop} (fr : Fr wX_layVariables σ0 σ) (h : (if v1 < gI σ 39 then inb v1 30 ∧ inb (gA σ 23 v1) 902 ∧ x_layVariables_L24 v1 (gA σ 5 (gA σ 23 v1)) 0 σ Q X2 else Q 0 σ)) (kQ : ∀ r s, Fr wX_layVariables σ0 s → Q r s → Q2 r s) (kX2 : ∀ v1 s, Fr wX_layVariables σ0 s → X2 v1 s → X22 v1 s) : (if v1 < gI σ 39 then inb v1 30 ∧ inb (gA σ 23 v1) 902 ∧ x_layVariables_L24 v1 (gA σ 5 (gA σ 23 v1)) 0 σ Q2 X22 else Q2 0 σ) :=
  ite_m (fun _ h0 => ⟨h0.1, ⟨h0.2.1, fx_layVariables_L24 fr h0.2.2 kQ kX2⟩⟩) (fun _ h0 => kQ _ _ fr h0) h
theorem fx_layVariables_L2 {v1 : Int} {σ0 σ : S} {Q Q2 : Int → S → Prop} (fr : Fr wX_layVariables σ0 σ) (h : x_layVariables_L2 v1 σ Q) (kQ : ∀ r s, Fr wX_layVariables σ0 s → Q r s → Q2 r s) : x_layVariables_L2 v1 σ Q2 := by
  unfold x_layVariables_L2 at h ⊢
  intro Y hY
  exact h (fun v1 s => Fr wX_layVariables σ0 s → Y v1 s) (fun v1 s h f => hY v1 s (fx_layVariables_L2_b (v1 := v1) (Q := Q) (Q2 := Q2) (X2 := fun v1 s => Fr wX_layVariables σ0 s → Y v1 s) (X22 := Y) f h kQ (fun v1 s f h => h f))) fr
theorem lx_layVariables_L2 {v1 : Int} {σ0 : S} {Q : Int → S → Prop} (I : Int → S → Prop) (me : Int → S → Nat) (h0 : I v1 σ0) (step : ∀ (v1 : Int) (s : S), Fr wX_layVariables σ0 s → I v1 s → (fun (Y0 : Int → S → Prop) => (if v1 < gI s 39 then inb v1 30 ∧ inb (gA s 23 v1) 902 ∧ x_layVariables_L24 v1 (gA s 5 (gA s 23 v1)) 0 s Q Y0 else Q 0 s)) (fun v1' s' => I v1' s' ∧ me v1' s' < me v1 s)) : x_layVariables_L2 v1 σ0 Q := by
  unfold x_layVariables_L2
  intro Y hY
  have key : ∀ (n : Nat) (v1 : Int) (s : S), me v1 s < n → Fr wX_layVariables σ0 s → I v1 s → Y v1 s := by
    intro n
    induction n with
    | zero => intro v1 s h; exact absurd h (Nat.not_lt_zero _)
    | succ n ih =>
      intro v1 s hm fr hi
      exact hY v1 s (fx_layVariables_L2_b (v1 := v1) (Q := Q) (Q2 := Q) (X2 := (fun v1' s' => I v1' s' ∧ me v1' s' < me v1 s)) (X22 := Y) fr (step v1 s fr hi) (fun _ _ _ h => h) (fun v1 s f h => ih v1 s (by omega) f h.1))
  exact key _ v1 σ0 (Nat.lt_succ_self _) Fr.rf h0
theorem fm_x_layVariables {σ0 : S} {Q Q2 : Int → S → Prop} (h : x_layVariables  σ0 Q) (kQ : ∀ r s, Fr wX_layVariables σ0 s → Q r s → Q2 r s) : x_layVariables  σ0 Q2 := by
  have fr : Fr wX_layVariables σ0 σ0 := Fr.rf
  unfold x_layVariables at h ⊢
  exact fx_layVariables_L2 fr h kQ
theorem fx_addReading_j142 {v1 : Int} {v7 : Int} {σ0 σ : S} {Q Q2 : Int → S → Prop} (fr : Fr wX_addReading σ0 σ) (h : x_addReading_j142 v1 v7 σ Q) (kQ : ∀ r s, Fr wX_addReading σ0 s → Q r s → Q2 r s) : x_addReading_j142 v1 v7 σ Q2 := by
  unfold x_addReading_j142 at h ⊢
  exact ⟨h.1, ⟨h.2.1, fun σ_23 e2 => (have f2 : Fr wX_addReading σ0 σ_23 := Fr.putA fr e2 rfl; ⟨(h.2.2 σ_23 e2).1, fun σ_26 e4 => (have f4 : Fr wX_addReading σ0 σ_26 := Fr.putA f2 e4 rfl; kQ _ _ f4 ((h.2.2 σ_23 e2).2 σ_26 e4))⟩)⟩⟩
theorem fx_addReading_L110_b {v1 : Int} {v5 : Int} {v7 : Int} {v8 : Int} {σ0 σ : S} {Q Q2 : Int → S → Prop} {X110 X1102 : Int → S → Prop} (fr : Fr wX_addReading σ0 σ) (h : (if v8 < v5 then inb v8 3 ∧ inb (w32 (w32 (3 * v7) + v8)) 228000 ∧ ∀ σ_31, σ_31 = pA σ 62 (w32 (w32 (3 * v7) + v8)) (gA σ 65 v8) → X110 (w32 (v8 + 1)) σ_31 else x_addReading_j142 v1 v7 σ Q)) (kQ : ∀ r s, Fr wX_addReading σ0 s → Q r s → Q2 r s) (kX110 : ∀ v8 s, Fr wX_addReading σ0 s → X110 v8 s → X1102 v8 s) : (if v8 < v5 then inb v8 3 ∧ inb (w32 (w32 (3 * v7) + v8)) 228000 ∧ ∀ σ_31, σ_31 = pA σ 62 (w32 (w32 (3 * v7) + v8)) (gA σ 65 v8) → X1102 (w32 (v8 + 1)) σ_31 else x_addReading_j142 v1 v7 σ Q2) :=
  ite_m (fun _ h0 => ⟨h0.1, ⟨h0.2.1, fun σ_31 e3 => (have f3 : Fr wX_addReading σ0 σ_31 := Fr.putA fr e3 rfl; kX110 _ _ f3 (h0.2.2 σ_31 e3))⟩⟩) (fun _ h0 => fx_addReading_j142 fr h0 kQ) h
theorem fx_addReading_L110 {v1 : Int} {v5 : Int} {v7 : Int} {v8 : Int} {σ0 σ : S} {Q Q2 : Int → S → Prop} (fr : Fr wX_addReading σ0 σ) (h : x_addReading_L110 v1 v5 v7 v8 σ Q) (kQ : ∀ r s, Fr wX_addReading σ0 s → Q r s → Q2 r s) : x_addReading_L110 v1 v5 v7 v8 σ Q2 := by
  unfold x_addReading_L110 at h ⊢
  intro Y hY
  exact h (fun v8 s => Fr wX_addReading σ0 s → Y v8 s) (fun v8 s h f => hY v8 s (fx_addReading_L110_b (v1 := v1) (v5 := v5) (v7 := v7) (v8 := v8) (Q := Q) (Q2 := Q2) (X110 := fun v8 s => Fr wX_addReading σ0 s → Y v8 s) (X1102 := Y) f h kQ (fun v8 s f h => h f))) fr
theorem lx_addReading_L110 {v1 : Int} {v5 : Int} {v7 : Int} {v8 : Int} {σ0 : S} {Q : Int → S → Prop} (I : Int → S → Prop) (me : Int → S → Nat) (h0 : I v8 σ0) (step : ∀ (v8 : Int) (s : S), Fr wX_addReading σ0 s → I v8 s → (fun (Y0 : Int → S → Prop) => (if v8 < v5 then inb v8 3 ∧ inb (w32 (w32 (3 * v7) + v8)) 228000 ∧ ∀ σ_31, σ_31 = pA s 62 (w32 (w32 (3 * v7) + v8)) (gA s 65 v8) → Y0 (w32 (v8 + 1)) σ_31 else x_addReading_j142 v1 v7 s Q)) (fun v8' s' => I v8' s' ∧ me v8' s' < me v8 s)) : x_addReading_L110 v1 v5 v7 v8 σ0 Q := by
  unfold x_addReading_L110
  intro Y hY
  have key : ∀ (n : Nat) (v8 : Int) (s : S), me v8 s < n → Fr wX_addReading σ0 s → I v8 s → Y v8 s := by
    intro n
    induction n with
    | zero => intro v8 s h; exact absurd h (Nat.not_lt_zero _)
    | succ n ih =>
      intro v8 s hm fr hi
      exact hY v8 s (fx_addReading_L110_b (v1 := v1) (v5 := v5) (v7 := v7) (v8 := v8) (Q := Q) (Q2 := Q) (X110 := (fun v8' s' => I v8' s' ∧ me v8' s' < me v8 s)) (X1102 := Y) fr (step v8 s fr hi) (fun _ _ _ h => h) (fun v8 s f h => ih v8 s (by omega) f h.1))
  exact key _ v8 σ0 (Nat.lt_succ_self _) Fr.rf h0
theorem fx_addReading_j62 {v1 : Int} {v2 : Int} {v3 : Int} {v4 : Int} {v5 : Int} {v6 : Int} {σ0 σ : S} {Q Q2 : Int → S → Prop} (fr : Fr wX_addReading σ0 σ) (h : x_addReading_j62 v1 v2 v3 v4 v5 v6 σ Q) (kQ : ∀ r s, Fr wX_addReading σ0 s → Q r s → Q2 r s) : x_addReading_j62 v1 v2 v3 v4 v5 v6 σ Q2 := by
  unfold x_addReading_j62 at h ⊢
  exact ite_m (fun _ h0 => fun σ_8 e1 => (have f1 : Fr wX_addReading σ0 σ_8 := Fr.putI fr e1 rfl; ⟨(h0 σ_8 e1).1, fun σ_10 e3 => (have f3 : Fr wX_addReading σ0 σ_10 := Fr.putA f1 e3 rfl; ⟨((h0 σ_8 e1).2 σ_10 e3).1, fun σ_13 e5 => (have f5 : Fr wX_addReading σ0 σ_13 := Fr.putA f3 e5 rfl; ⟨(((h0 σ_8 e1).2 σ_10 e3).2 σ_13 e5).1, fun σ_16 e7 => (have f7 : Fr wX_addReading σ0 σ_16 := Fr.putA f5 e7 rfl; fx_addReading_L110 f7 ((((h0 σ_8 e1).2 σ_10 e3).2 σ_13 e5).2 σ_16 e7) kQ)⟩)⟩)⟩)) (fun _ h0 => kQ _ _ fr h0) h
theorem fx_addReading_L11_b {v1 : Int} {v2 : Int} {v3 : Int} {v4 : Int} {v5 : Int} {v6 : Int} {v7 : Int} {σ0 σ : S} {Q Q2 : Int → S → Prop} {X11 X112 : Int → Int → S → Prop} (fr : Fr wX_addReading σ0 σ) (h : (if v7 = (-2) then x_addReading_j62 v1 v2 v3 v4 v5 v6 σ Q else inb v7 76000 ∧ ((gA σ 59 v7 = v2) → (inb v7 76000)) ∧ inb v7 76000 ∧ X11 (w32 (v6 + (bi ((gA σ 59 v7 = v2) ∧ (gA σ 60 v7 = v3))))) (gA σ 63 v7) σ)) (kQ : ∀ r s, Fr wX_addReading σ0 s → Q r s → Q2 r s) (kX11 : ∀ v6 v7 s, Fr wX_addReading σ0 s → X11 v6 v7 s → X112 v6 v7 s) : (if v7 = (-2) then x_addReading_j62 v1 v2 v3 v4 v5 v6 σ Q2 else inb v7 76000 ∧ ((gA σ 59 v7 = v2) → (inb v7 76000)) ∧ inb v7 76000 ∧ X112 (w32 (v6 + (bi ((gA σ 59 v7 = v2) ∧ (gA σ 60 v7 = v3))))) (gA σ 63 v7) σ) :=
  ite_m (fun _ h0 => fx_addReading_j62 fr h0 kQ) (fun _ h0 => ⟨h0.1, ⟨h0.2.1, ⟨h0.2.2.1, kX11 _ _ _ fr h0.2.2.2⟩⟩⟩) h
theorem fx_addReading_L11 {v1 : Int} {v2 : Int} {v3 : Int} {v4 : Int} {v5 : Int} {v6 : Int} {v7 : Int} {σ0 σ : S} {Q Q2 : Int → S → Prop} (fr : Fr wX_addReading σ0 σ) (h : x_addReading_L11 v1 v2 v3 v4 v5 v6 v7 σ Q) (kQ : ∀ r s, Fr wX_addReading σ0 s → Q r s → Q2 r s) : x_addReading_L11 v1 v2 v3 v4 v5 v6 v7 σ Q2 := by
  unfold x_addReading_L11 at h ⊢
  intro Y hY
  exact h (fun v6 v7 s => Fr wX_addReading σ0 s → Y v6 v7 s) (fun v6 v7 s h f => hY v6 v7 s (fx_addReading_L11_b (v1 := v1) (v2 := v2) (v3 := v3) (v4 := v4) (v5 := v5) (v6 := v6) (v7 := v7) (Q := Q) (Q2 := Q2) (X11 := fun v6 v7 s => Fr wX_addReading σ0 s → Y v6 v7 s) (X112 := Y) f h kQ (fun v6 v7 s f h => h f))) fr
theorem lx_addReading_L11 {v1 : Int} {v2 : Int} {v3 : Int} {v4 : Int} {v5 : Int} {v6 : Int} {v7 : Int} {σ0 : S} {Q : Int → S → Prop} (I : Int → Int → S → Prop) (me : Int → Int → S → Nat) (h0 : I v6 v7 σ0) (step : ∀ (v6 : Int) (v7 : Int) (s : S), Fr wX_addReading σ0 s → I v6 v7 s → (fun (Y0 : Int → Int → S → Prop) => (if v7 = (-2) then x_addReading_j62 v1 v2 v3 v4 v5 v6 s Q else inb v7 76000 ∧ ((gA s 59 v7 = v2) → (inb v7 76000)) ∧ inb v7 76000 ∧ Y0 (w32 (v6 + (bi ((gA s 59 v7 = v2) ∧ (gA s 60 v7 = v3))))) (gA s 63 v7) s)) (fun v6' v7' s' => I v6' v7' s' ∧ me v6' v7' s' < me v6 v7 s)) : x_addReading_L11 v1 v2 v3 v4 v5 v6 v7 σ0 Q := by
  unfold x_addReading_L11
  intro Y hY
  have key : ∀ (n : Nat) (v6 : Int) (v7 : Int) (s : S), me v6 v7 s < n → Fr wX_addReading σ0 s → I v6 v7 s → Y v6 v7 s := by
    intro n
    induction n with
    | zero => intro v6 v7 s h; exact absurd h (Nat.not_lt_zero _)
    | succ n ih =>
      intro v6 v7 s hm fr hi
      exact hY v6 v7 s (fx_addReading_L11_b (v1 := v1) (v2 := v2) (v3 := v3) (v4 := v4) (v5 := v5) (v6 := v6) (v7 := v7) (Q := Q) (Q2 := Q) (X11 := (fun v6' v7' s' => I v6' v7' s' ∧ me v6' v7' s' < me v6 v7 s)) (X112 := Y) fr (step v6 v7 s fr hi) (fun _ _ _ h => h) (fun v6 v7 s f h => ih v6 v7 s (by omega) f h.1))
  exact key _ v6 v7 σ0 (Nat.lt_succ_self _) Fr.rf h0
theorem fm_x_addReading {v1 : Int} {v2 : Int} {v3 : Int} {v4 : Int} {v5 : Int} {σ0 : S} {Q Q2 : Int → S → Prop} (h : x_addReading v1 v2 v3 v4 v5 σ0 Q) (kQ : ∀ r s, Fr wX_addReading σ0 s → Q r s → Q2 r s) : x_addReading v1 v2 v3 v4 v5 σ0 Q2 := by
  have fr : Fr wX_addReading σ0 σ0 := Fr.rf
  unfold x_addReading at h ⊢
  exact ⟨h.1, fx_addReading_L11 fr h.2 kQ⟩
theorem fm_x_cellOf {v0 : Int} {v1 : Int} {σ0 : S} {Q Q2 : Int → S → Prop} (h : x_cellOf v0 v1 σ0 Q) (kQ : ∀ r s, Fr wX_cellOf σ0 s → Q r s → Q2 r s) : x_cellOf v0 v1 σ0 Q2 := by
  have fr : Fr wX_cellOf σ0 σ0 := Fr.rf
  unfold x_cellOf at h ⊢
  exact kQ _ _ fr h
theorem fx_fit_j298 {v1 : Int} {v2 : Int} {v3 : Int} {v4 : Int} {v5 : Int} {v6 : Int} {v9 : Int} {v10 : Int} {v12 : Int} {σ0 σ : S} {Q Q2 : Int → S → Prop} {X186 X1862 : Int → S → Prop} {G : Orc} (hG : FrO wX_fit G) (fr : Fr wX_fit σ0 σ) (h : x_fit_j298 G v1 v2 v3 v4 v5 v6 v9 v10 v12 σ Q X186) (kQ : ∀ r s, Fr wX_fit σ0 s → Q r s → Q2 r s) (kX186 : ∀ a0 s, Fr wX_fit σ0 s → X186 a0 s → X1862 a0 s) : x_fit_j298 G v1 v2 v3 v4 v5 v6 v9 v10 v12 σ Q2 X1862 := by
  unfold x_fit_j298 at h ⊢
  exact kX186 _ _ fr h
theorem fx_fit_j286 {v1 : Int} {v2 : Int} {v3 : Int} {v4 : Int} {v5 : Int} {v6 : Int} {v9 : Int} {v10 : Int} {v12 : Int} {v13 : Int} {v14 : Int} {σ0 σ : S} {Q Q2 : Int → S → Prop} {X186 X1862 : Int → S → Prop} {X213 X2132 : Int → Int → S → Prop} {G : Orc} (hG : FrO wX_fit G) (fr : Fr wX_fit σ0 σ) (h : x_fit_j286 G v1 v2 v3 v4 v5 v6 v9 v10 v12 v13 v14 σ Q X186 X213) (kQ : ∀ r s, Fr wX_fit σ0 s → Q r s → Q2 r s) (kX186 : ∀ a0 s, Fr wX_fit σ0 s → X186 a0 s → X1862 a0 s) (kX213 : ∀ a0 a1 s, Fr wX_fit σ0 s → X213 a0 a1 s → X2132 a0 a1 s) : x_fit_j286 G v1 v2 v3 v4 v5 v6 v9 v10 v12 v13 v14 σ Q2 X1862 X2132 := by
  unfold x_fit_j286 at h ⊢
  exact ⟨h.1, kX213 _ _ _ fr h.2⟩
theorem fx_fit_L213_b {v1 : Int} {v2 : Int} {v3 : Int} {v4 : Int} {v5 : Int} {v6 : Int} {v9 : Int} {v10 : Int} {v12 : Int} {v13 : Int} {v14 : Int} {σ0 σ : S} {Q Q2 : Int → S → Prop} {X186 X1862 : Int → S → Prop} {X213 X2132 : Int → Int → S → Prop} {G : Orc} (hG : FrO wX_fit G) (fr : Fr wX_fit σ0 σ) (h : (if v14 = (-2) then x_fit_j298 G v1 v2 v3 v4 v5 v6 v9 v10 v12 σ Q X186 else (if v13 < 2 then inb v14 76000 ∧ ((gA σ 59 v14 = v9) → (inb v14 76000)) ∧ ((gA σ 59 v14 = v9) → (inb (w32 (w32 (3 * v1) + v3)) 150)) ∧ (if (gA σ 59 v14 = v9) ∧ (gA σ 60 v14 ≤ gA σ 51 (w32 (w32 (3 * v1) + v3))) then inb v3 3 ∧ ∀ σ_42, σ_42 = pA σ 65 v3 v14 → G 0 [v1, (w32 (v2 + 1)), (w32 (v3 + 1)), v12, v5, v6] σ_42 (fun _ σ_45 => x_fit_j286 G v1 v2 v3 v4 v5 v6 v9 v10 v12 (w32 (v13 + 1)) v14 σ_45 Q X186 X213) (fun _ => False) else x_fit_j286 G v1 v2 v3 v4 v5 v6 v9 v10 v12 v13 v14 σ Q X186 X213) else x_fit_j298 G v1 v2 v3 v4 v5 v6 v9 v10 v12 σ Q X186))) (kQ : ∀ r s, Fr wX_fit σ0 s → Q r s → Q2 r s) (kX186 : ∀ a0 s, Fr wX_fit σ0 s → X186 a0 s → X1862 a0 s) (kX213 : ∀ v13 v14 s, Fr wX_fit σ0 s → X213 v13 v14 s → X2132 v13 v14 s) : (if v14 = (-2) then x_fit_j298 G v1 v2 v3 v4 v5 v6 v9 v10 v12 σ Q2 X1862 else (if v13 < 2 then inb v14 76000 ∧ ((gA σ 59 v14 = v9) → (inb v14 76000)) ∧ ((gA σ 59 v14 = v9) → (inb (w32 (w32 (3 * v1) + v3)) 150)) ∧ (if (gA σ 59 v14 = v9) ∧ (gA σ 60 v14 ≤ gA σ 51 (w32 (w32 (3 * v1) + v3))) then inb v3 3 ∧ ∀ σ_42, σ_42 = pA σ 65 v3 v14 → G 0 [v1, (w32 (v2 + 1)), (w32 (v3 + 1)), v12, v5, v6] σ_42 (fun _ σ_45 => x_fit_j286 G v1 v2 v3 v4 v5 v6 v9 v10 v12 (w32 (v13 + 1)) v14 σ_45 Q2 X1862 X2132) (fun _ => False) else x_fit_j286 G v1 v2 v3 v4 v5 v6 v9 v10 v12 v13 v14 σ Q2 X1862 X2132) else x_fit_j298 G v1 v2 v3 v4 v5 v6 v9 v10 v12 σ Q2 X1862)) :=
  ite_m (fun _ h0 => fx_fit_j298 hG fr h0 kQ kX186) (fun _ h0 => ite_m (fun _ h1 => ⟨h1.1, ⟨h1.2.1, ⟨h1.2.2.1, ite_m (fun _ h5 => ⟨h5.1, fun σ_42 e7 => (have f7 : Fr wX_fit σ0 σ_42 := Fr.putA fr e7 rfl; hG _ _ _ _ _ _ _ (h5.2 σ_42 e7) (fun _ σ_45 f h8 => (have f8 : Fr wX_fit σ0 σ_45 := (f7.trans f); fx_fit_j286 hG f8 h8 kQ kX186 kX213)) (fun _ _ h => h))⟩) (fun _ h5 => fx_fit_j286 hG fr h5 kQ kX186 kX213) h1.2.2.2⟩⟩⟩) (fun _ h1 => fx_fit_j298 hG fr h1 kQ kX186) h0) h
theorem fx_fit_L213 {v1 : Int} {v2 : Int} {v3 : Int} {v4 : Int} {v5 : Int} {v6 : Int} {v9 : Int} {v10 : Int} {v12 : Int} {v13 : Int} {v14 : Int} {σ0 σ : S} {Q Q2 : Int → S → Prop} {X186 X1862 : Int → S → Prop} {G : Orc} (hG : FrO wX_fit G) (fr : Fr wX_fit σ0 σ) (h : x_fit_L213 G v1 v2 v3 v4 v5 v6 v9 v10 v12 v13 v14 σ Q X186) (kQ : ∀ r s, Fr wX_fit σ0 s → Q r s → Q2 r s) (kX186 : ∀ a0 s, Fr wX_fit σ0 s → X186 a0 s → X1862 a0 s) : x_fit_L213 G v1 v2 v3 v4 v5 v6 v9 v10 v12 v13 v14 σ Q2 X1862 := by
  unfold x_fit_L213 at h ⊢
  intro Y hY
  exact h (fun v13 v14 s => Fr wX_fit σ0 s → Y v13 v14 s) (fun v13 v14 s h f => hY v13 v14 s (fx_fit_L213_b (v1 := v1) (v2 := v2) (v3 := v3) (v4 := v4) (v5 := v5) (v6 := v6) (v9 := v9) (v10 := v10) (v12 := v12) (v13 := v13) (v14 := v14) (Q := Q) (Q2 := Q2) (X186 := X186) (X1862 := X1862) (X213 := fun v13 v14 s => Fr wX_fit σ0 s → Y v13 v14 s) (X2132 := Y) hG f h kQ kX186 (fun v13 v14 s f h => h f))) fr
theorem lx_fit_L213 {v1 : Int} {v2 : Int} {v3 : Int} {v4 : Int} {v5 : Int} {v6 : Int} {v9 : Int} {v10 : Int} {v12 : Int} {v13 : Int} {v14 : Int} {σ0 : S} {Q : Int → S → Prop} {X186 : Int → S → Prop} {G : Orc} (hG : FrO wX_fit G) (I : Int → Int → S → Prop) (me : Int → Int → S → Nat) (h0 : I v13 v14 σ0) (step : ∀ (v13 : Int) (v14 : Int) (s : S), Fr wX_fit σ0 s → I v13 v14 s → (fun (Y0 : Int → Int → S → Prop) => (if v14 = (-2) then x_fit_j298 G v1 v2 v3 v4 v5 v6 v9 v10 v12 s Q X186 else (if v13 < 2 then inb v14 76000 ∧ ((gA s 59 v14 = v9) → (inb v14 76000)) ∧ ((gA s 59 v14 = v9) → (inb (w32 (w32 (3 * v1) + v3)) 150)) ∧ (if (gA s 59 v14 = v9) ∧ (gA s 60 v14 ≤ gA s 51 (w32 (w32 (3 * v1) + v3))) then inb v3 3 ∧ ∀ σ_42, σ_42 = pA s 65 v3 v14 → G 0 [v1, (w32 (v2 + 1)), (w32 (v3 + 1)), v12, v5, v6] σ_42 (fun _ σ_45 => x_fit_j286 G v1 v2 v3 v4 v5 v6 v9 v10 v12 (w32 (v13 + 1)) v14 σ_45 Q X186 Y0) (fun _ => False) else x_fit_j286 G v1 v2 v3 v4 v5 v6 v9 v10 v12 v13 v14 s Q X186 Y0) else x_fit_j298 G v1 v2 v3 v4 v5 v6 v9 v10 v12 s Q X186))) (fun v13' v14' s' => I v13' v14' s' ∧ me v13' v14' s' < me v13 v14 s)) : x_fit_L213 G v1 v2 v3 v4 v5 v6 v9 v10 v12 v13 v14 σ0 Q X186 := by
  unfold x_fit_L213
  intro Y hY
  have key : ∀ (n : Nat) (v13 : Int) (v14 : Int) (s : S), me v13 v14 s < n → Fr wX_fit σ0 s → I v13 v14 s → Y v13 v14 s := by
    intro n
    induction n with
    | zero => intro v13 v14 s h; exact absurd h (Nat.not_lt_zero _)
    | succ n ih =>
      intro v13 v14 s hm fr hi
      exact hY v13 v14 s (fx_fit_L213_b (v1 := v1) (v2 := v2) (v3 := v3) (v4 := v4) (v5 := v5) (v6 := v6) (v9 := v9) (v10 := v10) (v12 := v12) (v13 := v13) (v14 := v14) (Q := Q) (Q2 := Q) (X186 := X186) (X1862 := X186) (X213 := (fun v13' v14' s' => I v13' v14' s' ∧ me v13' v14' s' < me v13 v14 s)) (X2132 := Y) hG fr (step v13 v14 s fr hi) (fun _ _ _ h => h) (fun _ _ _ h => h) (fun v13 v14 s f h => ih v13 v14 s (by omega) f h.1))
  exact key _ v13 v14 σ0 (Nat.lt_succ_self _) Fr.rf h0
theorem fx_fit_L186_b {v1 : Int} {v2 : Int} {v3 : Int} {v4 : Int} {v5 : Int} {v6 : Int} {v9 : Int} {v10 : Int} {v12 : Int} {σ0 σ : S} {Q Q2 : Int → S → Prop} {X186 X1862 : Int → S → Prop} {G : Orc} (hG : FrO wX_fit G) (fr : Fr wX_fit σ0 σ) (h : (if v12 ≤ w32 (v5 - v10) then x_cellOf v4 v12 σ (fun r_27 σ_26 => inb r_27 1089 ∧ x_fit_L213 G v1 v2 v3 v4 v5 v6 v9 v10 v12 0 (gA σ_26 64 r_27) σ_26 Q X186) else Q 0 σ)) (kQ : ∀ r s, Fr wX_fit σ0 s → Q r s → Q2 r s) (kX186 : ∀ v12 s, Fr wX_fit σ0 s → X186 v12 s → X1862 v12 s) : (if v12 ≤ w32 (v5 - v10) then x_cellOf v4 v12 σ (fun r_27 σ_26 => inb r_27 1089 ∧ x_fit_L213 G v1 v2 v3 v4 v5 v6 v9 v10 v12 0 (gA σ_26 64 r_27) σ_26 Q2 X1862) else Q2 0 σ) :=
  ite_m (fun _ h0 => fm_x_cellOf h0 (fun r_27 σ_26 f h1 => (have f1 : Fr wX_fit σ0 σ_26 := (fr.trans (f.weak (by decide +kernel))); ⟨h1.1, fx_fit_L213 hG f1 h1.2 kQ kX186⟩))) (fun _ h0 => kQ _ _ fr h0) h
theorem fx_fit_L186 {v1 : Int} {v2 : Int} {v3 : Int} {v4 : Int} {v5 : Int} {v6 : Int} {v9 : Int} {v10 : Int} {v12 : Int} {σ0 σ : S} {Q Q2 : Int → S → Prop} {G : Orc} (hG : FrO wX_fit G) (fr : Fr wX_fit σ0 σ) (h : x_fit_L186 G v1 v2 v3 v4 v5 v6 v9 v10 v12 σ Q) (kQ : ∀ r s, Fr wX_fit σ0 s → Q r s → Q2 r s) : x_fit_L186 G v1 v2 v3 v4 v5 v6 v9 v10 v12 σ Q2 := by
  unfold x_fit_L186 at h ⊢
  intro Y hY
  exact h (fun v12 s => Fr wX_fit σ0 s → Y v12 s) (fun v12 s h f => hY v12 s (fx_fit_L186_b (v1 := v1) (v2 := v2) (v3 := v3) (v4 := v4) (v5 := v5) (v6 := v6) (v9 := v9) (v10 := v10) (v12 := v12) (Q := Q) (Q2 := Q2) (X186 := fun v12 s => Fr wX_fit σ0 s → Y v12 s) (X1862 := Y) hG f h kQ (fun v12 s f h => h f))) fr
theorem lx_fit_L186 {v1 : Int} {v2 : Int} {v3 : Int} {v4 : Int} {v5 : Int} {v6 : Int} {v9 : Int} {v10 : Int} {v12 : Int} {σ0 : S} {Q : Int → S → Prop} {G : Orc} (hG : FrO wX_fit G) (I : Int → S → Prop) (me : Int → S → Nat) (h0 : I v12 σ0) (step : ∀ (v12 : Int) (s : S), Fr wX_fit σ0 s → I v12 s → (fun (Y0 : Int → S → Prop) => (if v12 ≤ w32 (v5 - v10) then x_cellOf v4 v12 s (fun r_27 σ_26 => inb r_27 1089 ∧ x_fit_L213 G v1 v2 v3 v4 v5 v6 v9 v10 v12 0 (gA σ_26 64 r_27) σ_26 Q Y0) else Q 0 s)) (fun v12' s' => I v12' s' ∧ me v12' s' < me v12 s)) : x_fit_L186 G v1 v2 v3 v4 v5 v6 v9 v10 v12 σ0 Q := by
  unfold x_fit_L186
  intro Y hY
  have key : ∀ (n : Nat) (v12 : Int) (s : S), me v12 s < n → Fr wX_fit σ0 s → I v12 s → Y v12 s := by
    intro n
    induction n with
    | zero => intro v12 s h; exact absurd h (Nat.not_lt_zero _)
    | succ n ih =>
      intro v12 s hm fr hi
      exact hY v12 s (fx_fit_L186_b (v1 := v1) (v2 := v2) (v3 := v3) (v4 := v4) (v5 := v5) (v6 := v6) (v9 := v9) (v10 := v10) (v12 := v12) (Q := Q) (Q2 := Q) (X186 := (fun v12' s' => I v12' s' ∧ me v12' s' < me v12 s)) (X1862 := Y) hG fr (step v12 s fr hi) (fun _ _ _ h => h) (fun v12 s f h => ih v12 s (by omega) f h.1))
  exact key _ v12 σ0 (Nat.lt_succ_self _) Fr.rf h0
theorem fx_fit_F {v1 : Int} {v2 : Int} {v3 : Int} {v4 : Int} {v5 : Int} {v6 : Int} {σ0 : S} {Q Q2 : Int → S → Prop} {G : Orc} (hG : FrO wX_fit G) (h : x_fit_F G v1 v2 v3 v4 v5 v6 σ0 Q) (kQ : ∀ r s, Fr wX_fit σ0 s → Q r s → Q2 r s) : x_fit_F G v1 v2 v3 v4 v5 v6 σ0 Q2 := by
  have fr : Fr wX_fit σ0 σ0 := Fr.rf
  unfold x_fit_F at h ⊢
  exact ⟨h.1, ite_m (fun _ h1 => ⟨h1.1, ite_m (fun _ h3 => ite_m (fun _ h4 => ⟨h4.1, ⟨h4.2.1, fm_x_addReading h4.2.2 (fun _ σ_66 f h7 => (have f7 : Fr wX_fit σ0 σ_66 := (fr.trans (f.weak (by decide +kernel))); fun σ_68 e8 => (have f8 : Fr wX_fit σ0 σ_68 := Fr.putI f7 e8 rfl; kQ _ _ f8 (h7 σ_68 e8))))⟩⟩) (fun _ h4 => kQ _ _ fr h4) h3) (fun _ h3 => ⟨h3.1, ite_m (fun _ h5 => ⟨h5.1, ⟨h5.2.1, ⟨h5.2.2.1, fx_fit_L186 hG fr h5.2.2.2 kQ⟩⟩⟩) (fun _ h5 => ⟨h5.1, ite_m (fun _ h7 => hG _ _ _ _ _ _ _ h7 (fun _ σ_56 f h8 => (have f8 : Fr wX_fit σ0 σ_56 := (fr.trans f); kQ _ _ f8 h8)) (fun _ _ h => h)) (fun _ h7 => kQ _ _ fr h7) h5.2⟩) h3.2⟩) h1.2⟩) (fun _ h1 => kQ _ _ fr h1) h.2⟩
theorem fo_x_S_fit : ∀ n, FrO wX_fit (x_S_fit n)
  | 0 => fun _ _ _ _ _ _ _ h _ _ => h.elim
  | n + 1 => fun i a σ Q Q2 E E2 h kQ kE => by
    unfold x_S_fit at h ⊢
    split at h
    · exact fx_fit_F (fo_x_S_fit n) h kQ
    · exact h.elim
theorem fm_x_fit {v1 : Int} {v2 : Int} {v3 : Int} {v4 : Int} {v5 : Int} {v6 : Int} {σ0 : S} {Q Q2 : Int → S → Prop} (h : x_fit v1 v2 v3 v4 v5 v6 σ0 Q) (kQ : ∀ r s, Fr wX_fit σ0 s → Q r s → Q2 r s) : x_fit v1 v2 v3 v4 v5 v6 σ0 Q2 := fo_x_S_fit 16 _ _ _ _ _ _ _ h kQ (fun _ _ h => h)
theorem fx_addBracket_j29 {v1 : Int} {v2 : Int} {σ0 σ : S} {Q Q2 : Int → S → Prop} (fr : Fr wX_addBracket σ0 σ) (h : x_addBracket_j29 v1 v2 σ Q) (kQ : ∀ r s, Fr wX_addBracket σ0 s → Q r s → Q2 r s) : x_addBracket_j29 v1 v2 σ Q2 := by
  unfold x_addBracket_j29 at h ⊢
  exact ⟨h.1, ⟨h.2.1, fm_x_addReading h.2.2 (fun _ σ_7 f h2 => (have f2 : Fr wX_addBracket σ0 σ_7 := (fr.trans (f.weak (by decide +kernel))); kQ _ _ f2 h2))⟩⟩
theorem fx_addBracket_L2_b {v1 : Int} {v2 : Int} {v3 : Int} {σ0 σ : S} {Q Q2 : Int → S → Prop} {X2 X22 : Int → S → Prop} (fr : Fr wX_addBracket σ0 σ) (h : (if v3 < 3 then inb (w32 (w32 (3 * v2) + v3)) 228000 ∧ inb v3 3 ∧ ∀ σ_10, σ_10 = pA σ 65 v3 (gA σ 62 (w32 (w32 (3 * v2) + v3))) → X2 (w32 (v3 + 1)) σ_10 else x_addBracket_j29 v1 v2 σ Q)) (kQ : ∀ r s, Fr wX_addBracket σ0 s → Q r s → Q2 r s) (kX2 : ∀ v3 s, Fr wX_addBracket σ0 s → X2 v3 s → X22 v3 s) : (if v3 < 3 then inb (w32 (w32 (3 * v2) + v3)) 228000 ∧ inb v3 3 ∧ ∀ σ_10, σ_10 = pA σ 65 v3 (gA σ 62 (w32 (w32 (3 * v2) + v3))) → X22 (w32 (v3 + 1)) σ_10 else x_addBracket_j29 v1 v2 σ Q2) :=
  ite_m (fun _ h0 => ⟨h0.1, ⟨h0.2.1, fun σ_10 e3 => (have f3 : Fr wX_addBracket σ0 σ_10 := Fr.putA fr e3 rfl; kX2 _ _ f3 (h0.2.2 σ_10 e3))⟩⟩) (fun _ h0 => fx_addBracket_j29 fr h0 kQ) h
theorem fx_addBracket_L2 {v1 : Int} {v2 : Int} {v3 : Int} {σ0 σ : S} {Q Q2 : Int → S → Prop} (fr : Fr wX_addBracket σ0 σ) (h : x_addBracket_L2 v1 v2 v3 σ Q) (kQ : ∀ r s, Fr wX_addBracket σ0 s → Q r s → Q2 r s) : x_addBracket_L2 v1 v2 v3 σ Q2 := by
  unfold x_addBracket_L2 at h ⊢
  intro Y hY
  exact h (fun v3 s => Fr wX_addBracket σ0 s → Y v3 s) (fun v3 s h f => hY v3 s (fx_addBracket_L2_b (v1 := v1) (v2 := v2) (v3 := v3) (Q := Q) (Q2 := Q2) (X2 := fun v3 s => Fr wX_addBracket σ0 s → Y v3 s) (X22 := Y) f h kQ (fun v3 s f h => h f))) fr
theorem lx_addBracket_L2 {v1 : Int} {v2 : Int} {v3 : Int} {σ0 : S} {Q : Int → S → Prop} (I : Int → S → Prop) (me : Int → S → Nat) (h0 : I v3 σ0) (step : ∀ (v3 : Int) (s : S), Fr wX_addBracket σ0 s → I v3 s → (fun (Y0 : Int → S → Prop) => (if v3 < 3 then inb (w32 (w32 (3 * v2) + v3)) 228000 ∧ inb v3 3 ∧ ∀ σ_10, σ_10 = pA s 65 v3 (gA s 62 (w32 (w32 (3 * v2) + v3))) → Y0 (w32 (v3 + 1)) σ_10 else x_addBracket_j29 v1 v2 s Q)) (fun v3' s' => I v3' s' ∧ me v3' s' < me v3 s)) : x_addBracket_L2 v1 v2 v3 σ0 Q := by
  unfold x_addBracket_L2
  intro Y hY
  have key : ∀ (n : Nat) (v3 : Int) (s : S), me v3 s < n → Fr wX_addBracket σ0 s → I v3 s → Y v3 s := by
    intro n
    induction n with
    | zero => intro v3 s h; exact absurd h (Nat.not_lt_zero _)
    | succ n ih =>
      intro v3 s hm fr hi
      exact hY v3 s (fx_addBracket_L2_b (v1 := v1) (v2 := v2) (v3 := v3) (Q := Q) (Q2 := Q) (X2 := (fun v3' s' => I v3' s' ∧ me v3' s' < me v3 s)) (X22 := Y) fr (step v3 s fr hi) (fun _ _ _ h => h) (fun v3 s f h => ih v3 s (by omega) f h.1))
  exact key _ v3 σ0 (Nat.lt_succ_self _) Fr.rf h0
theorem fm_x_addBracket {v1 : Int} {v2 : Int} {σ0 : S} {Q Q2 : Int → S → Prop} (h : x_addBracket v1 v2 σ0 Q) (kQ : ∀ r s, Fr wX_addBracket σ0 s → Q r s → Q2 r s) : x_addBracket v1 v2 σ0 Q2 := by
  have fr : Fr wX_addBracket σ0 σ0 := Fr.rf
  unfold x_addBracket at h ⊢
  exact fx_addBracket_L2 fr h kQ
theorem fx_layCell_L219_b {v1 : Int} {v2 : Int} {v3 : Int} {v7 : Int} {σ0 σ : S} {Q Q2 : Int → S → Prop} {X219 X2192 : Int → S → Prop} (fr : Fr wX_layCell σ0 σ) (h : (if v7 < gI σ 63 then ∀ σ_34, σ_34 = pI σ 92 0 → x_fit v7 0 0 v1 v2 v3 σ_34 (fun _ σ_36 => X219 (w32 (v7 + 1)) σ_36) else Q 0 σ)) (kQ : ∀ r s, Fr wX_layCell σ0 s → Q r s → Q2 r s) (kX219 : ∀ v7 s, Fr wX_layCell σ0 s → X219 v7 s → X2192 v7 s) : (if v7 < gI σ 63 then ∀ σ_34, σ_34 = pI σ 92 0 → x_fit v7 0 0 v1 v2 v3 σ_34 (fun _ σ_36 => X2192 (w32 (v7 + 1)) σ_36) else Q2 0 σ) :=
  ite_m (fun _ h0 => fun σ_34 e1 => (have f1 : Fr wX_layCell σ0 σ_34 := Fr.putI fr e1 rfl; fm_x_fit (h0 σ_34 e1) (fun _ σ_36 f h2 => (have f2 : Fr wX_layCell σ0 σ_36 := (f1.trans (f.weak (by decide +kernel))); kX219 _ _ f2 h2)))) (fun _ h0 => kQ _ _ fr h0) h
theorem fx_layCell_L219 {v1 : Int} {v2 : Int} {v3 : Int} {v7 : Int} {σ0 σ : S} {Q Q2 : Int → S → Prop} (fr : Fr wX_layCell σ0 σ) (h : x_layCell_L219 v1 v2 v3 v7 σ Q) (kQ : ∀ r s, Fr wX_layCell σ0 s → Q r s → Q2 r s) : x_layCell_L219 v1 v2 v3 v7 σ Q2 := by
  unfold x_layCell_L219 at h ⊢
  intro Y hY
  exact h (fun v7 s => Fr wX_layCell σ0 s → Y v7 s) (fun v7 s h f => hY v7 s (fx_layCell_L219_b (v1 := v1) (v2 := v2) (v3 := v3) (v7 := v7) (Q := Q) (Q2 := Q2) (X219 := fun v7 s => Fr wX_layCell σ0 s → Y v7 s) (X2192 := Y) f h kQ (fun v7 s f h => h f))) fr
theorem lx_layCell_L219 {v1 : Int} {v2 : Int} {v3 : Int} {v7 : Int} {σ0 : S} {Q : Int → S → Prop} (I : Int → S → Prop) (me : Int → S → Nat) (h0 : I v7 σ0) (step : ∀ (v7 : Int) (s : S), Fr wX_layCell σ0 s → I v7 s → (fun (Y0 : Int → S → Prop) => (if v7 < gI s 63 then ∀ σ_34, σ_34 = pI s 92 0 → x_fit v7 0 0 v1 v2 v3 σ_34 (fun _ σ_36 => Y0 (w32 (v7 + 1)) σ_36) else Q 0 s)) (fun v7' s' => I v7' s' ∧ me v7' s' < me v7 s)) : x_layCell_L219 v1 v2 v3 v7 σ0 Q := by
  unfold x_layCell_L219
  intro Y hY
  have key : ∀ (n : Nat) (v7 : Int) (s : S), me v7 s < n → Fr wX_layCell σ0 s → I v7 s → Y v7 s := by
    intro n
    induction n with
    | zero => intro v7 s h; exact absurd h (Nat.not_lt_zero _)
    | succ n ih =>
      intro v7 s hm fr hi
      exact hY v7 s (fx_layCell_L219_b (v1 := v1) (v2 := v2) (v3 := v3) (v7 := v7) (Q := Q) (Q2 := Q) (X219 := (fun v7' s' => I v7' s' ∧ me v7' s' < me v7 s)) (X2192 := Y) fr (step v7 s fr hi) (fun _ _ _ h => h) (fun v7 s f h => ih v7 s (by omega) f h.1))
  exact key _ v7 σ0 (Nat.lt_succ_self _) Fr.rf h0
theorem fx_layCell_j216 {v1 : Int} {v2 : Int} {v3 : Int} {σ0 σ : S} {Q Q2 : Int → S → Prop} (fr : Fr wX_layCell σ0 σ) (h : x_layCell_j216 v1 v2 v3 σ Q) (kQ : ∀ r s, Fr wX_layCell σ0 s → Q r s → Q2 r s) : x_layCell_j216 v1 v2 v3 σ Q2 := by
  unfold x_layCell_j216 at h ⊢
  exact fx_layCell_L219 fr h kQ
theorem fx_layCell_L190_b {v1 : Int} {v2 : Int} {v3 : Int} {v7 : Int} {σ0 σ : S} {Q Q2 : Int → S → Prop} {X190 X1902 : Int → S → Prop} (fr : Fr wX_layCell σ0 σ) (h : (if v7 = (-2) then x_layCell_j216 v1 v2 v3 σ Q else x_addBracket v3 v7 σ (fun _ σ_37 => inb v7 76000 ∧ X190 (gA σ_37 63 v7) σ_37))) (kQ : ∀ r s, Fr wX_layCell σ0 s → Q r s → Q2 r s) (kX190 : ∀ v7 s, Fr wX_layCell σ0 s → X190 v7 s → X1902 v7 s) : (if v7 = (-2) then x_layCell_j216 v1 v2 v3 σ Q2 else x_addBracket v3 v7 σ (fun _ σ_37 => inb v7 76000 ∧ X1902 (gA σ_37 63 v7) σ_37)) :=
  ite_m (fun _ h0 => fx_layCell_j216 fr h0 kQ) (fun _ h0 => fm_x_addBracket h0 (fun _ σ_37 f h1 => (have f1 : Fr wX_layCell σ0 σ_37 := (fr.trans (f.weak (by decide +kernel))); ⟨h1.1, kX190 _ _ f1 h1.2⟩))) h
theorem fx_layCell_L190 {v1 : Int} {v2 : Int} {v3 : Int} {v7 : Int} {σ0 σ : S} {Q Q2 : Int → S → Prop} (fr : Fr wX_layCell σ0 σ) (h : x_layCell_L190 v1 v2 v3 v7 σ Q) (kQ : ∀ r s, Fr wX_layCell σ0 s → Q r s → Q2 r s) : x_layCell_L190 v1 v2 v3 v7 σ Q2 := by
  unfold x_layCell_L190 at h ⊢
  intro Y hY
  exact h (fun v7 s => Fr wX_layCell σ0 s → Y v7 s) (fun v7 s h f => hY v7 s (fx_layCell_L190_b (v1 := v1) (v2 := v2) (v3 := v3) (v7 := v7) (Q := Q) (Q2 := Q2) (X190 := fun v7 s => Fr wX_layCell σ0 s → Y v7 s) (X1902 := Y) f h kQ (fun v7 s f h => h f))) fr
theorem lx_layCell_L190 {v1 : Int} {v2 : Int} {v3 : Int} {v7 : Int} {σ0 : S} {Q : Int → S → Prop} (I : Int → S → Prop) (me : Int → S → Nat) (h0 : I v7 σ0) (step : ∀ (v7 : Int) (s : S), Fr wX_layCell σ0 s → I v7 s → (fun (Y0 : Int → S → Prop) => (if v7 = (-2) then x_layCell_j216 v1 v2 v3 s Q else x_addBracket v3 v7 s (fun _ σ_37 => inb v7 76000 ∧ Y0 (gA σ_37 63 v7) σ_37))) (fun v7' s' => I v7' s' ∧ me v7' s' < me v7 s)) : x_layCell_L190 v1 v2 v3 v7 σ0 Q := by
  unfold x_layCell_L190
  intro Y hY
  have key : ∀ (n : Nat) (v7 : Int) (s : S), me v7 s < n → Fr wX_layCell σ0 s → I v7 s → Y v7 s := by
    intro n
    induction n with
    | zero => intro v7 s h; exact absurd h (Nat.not_lt_zero _)
    | succ n ih =>
      intro v7 s hm fr hi
      exact hY v7 s (fx_layCell_L190_b (v1 := v1) (v2 := v2) (v3 := v3) (v7 := v7) (Q := Q) (Q2 := Q) (X190 := (fun v7' s' => I v7' s' ∧ me v7' s' < me v7 s)) (X1902 := Y) fr (step v7 s fr hi) (fun _ _ _ h => h) (fun v7 s f h => ih v7 s (by omega) f h.1))
  exact key _ v7 σ0 (Nat.lt_succ_self _) Fr.rf h0
theorem fx_layCell_j89 {v1 : Int} {v2 : Int} {v3 : Int} {v4 : Int} {σ0 σ : S} {Q Q2 : Int → S → Prop} (fr : Fr wX_layCell σ0 σ) (h : x_layCell_j89 v1 v2 v3 v4 σ Q) (kQ : ∀ r s, Fr wX_layCell σ0 s → Q r s → Q2 r s) : x_layCell_j89 v1 v2 v3 v4 σ Q2 := by
  unfold x_layCell_j89 at h ⊢
  exact ⟨h.1, ⟨h.2.1, ⟨h.2.2.1, ⟨h.2.2.2.1, ⟨h.2.2.2.2.1, ⟨h.2.2.2.2.2.1, ite_m (fun _ h6 => fm_x_cellOf h6 (fun r_26 σ_25 f h7 => (have f7 : Fr wX_layCell σ0 σ_25 := (fr.trans (f.weak (by decide +kernel))); ⟨h7.1, fx_layCell_L190 f7 h7.2 kQ⟩))) (fun _ h6 => fx_layCell_j216 fr h6 kQ) h.2.2.2.2.2.2⟩⟩⟩⟩⟩⟩
theorem fx_layCell_j83 {v1 : Int} {v2 : Int} {v3 : Int} {v4 : Int} {v5 : Int} {σ0 σ : S} {Q Q2 : Int → S → Prop} {X24 X242 : Int → S → Prop} (fr : Fr wX_layCell σ0 σ) (h : x_layCell_j83 v1 v2 v3 v4 v5 σ Q X24) (kQ : ∀ r s, Fr wX_layCell σ0 s → Q r s → Q2 r s) (kX24 : ∀ a0 s, Fr wX_layCell σ0 s → X24 a0 s → X242 a0 s) : x_layCell_j83 v1 v2 v3 v4 v5 σ Q2 X242 := by
  unfold x_layCell_j83 at h ⊢
  exact kX24 _ _ fr h
theorem fx_layCell_L24_b {v1 : Int} {v2 : Int} {v3 : Int} {v4 : Int} {v5 : Int} {σ0 σ : S} {Q Q2 : Int → S → Prop} {X24 X242 : Int → S → Prop} (fr : Fr wX_layCell σ0 σ) (h : (if v5 < gI σ 39 then inb v4 902 ∧ ((gA σ 2 v4 = 0) → (inb v5 30)) ∧ ((gA σ 2 v4 = 0) → (inb v4 902)) ∧ (if (gA σ 2 v4 = 0) ∧ (gA σ 57 v5 = gA σ 5 v4) then inb v5 30 ∧ inb (gA σ 58 v5) 20 ∧ x_addReading v3 (gA σ 40 (gA σ 58 v5)) 0 (w32 ((-1) - v5)) 0 σ (fun _ σ_60 => x_layCell_j83 v1 v2 v3 v4 v5 σ_60 Q X24) else x_layCell_j83 v1 v2 v3 v4 v5 σ Q X24) else x_layCell_j89 v1 v2 v3 v4 σ Q)) (kQ : ∀ r s, Fr wX_layCell σ0 s → Q r s → Q2 r s) (kX24 : ∀ v5 s, Fr wX_layCell σ0 s → X24 v5 s → X242 v5 s) : (if v5 < gI σ 39 then inb v4 902 ∧ ((gA σ 2 v4 = 0) → (inb v5 30)) ∧ ((gA σ 2 v4 = 0) → (inb v4 902)) ∧ (if (gA σ 2 v4 = 0) ∧ (gA σ 57 v5 = gA σ 5 v4) then inb v5 30 ∧ inb (gA σ 58 v5) 20 ∧ x_addReading v3 (gA σ 40 (gA σ 58 v5)) 0 (w32 ((-1) - v5)) 0 σ (fun _ σ_60 => x_layCell_j83 v1 v2 v3 v4 v5 σ_60 Q2 X242) else x_layCell_j83 v1 v2 v3 v4 v5 σ Q2 X242) else x_layCell_j89 v1 v2 v3 v4 σ Q2) :=
  ite_m (fun _ h0 => ⟨h0.1, ⟨h0.2.1, ⟨h0.2.2.1, ite_m (fun _ h4 => ⟨h4.1, ⟨h4.2.1, fm_x_addReading h4.2.2 (fun _ σ_60 f h7 => (have f7 : Fr wX_layCell σ0 σ_60 := (fr.trans (f.weak (by decide +kernel))); fx_layCell_j83 f7 h7 kQ kX24))⟩⟩) (fun _ h4 => fx_layCell_j83 fr h4 kQ kX24) h0.2.2.2⟩⟩⟩) (fun _ h0 => fx_layCell_j89 fr h0 kQ) h
theorem fx_layCell_L24 {v1 : Int} {v2 : Int} {v3 : Int} {v4 : Int} {v5 : Int} {σ0 σ : S} {Q Q2 : Int → S → Prop} (fr : Fr wX_layCell σ0 σ) (h : x_layCell_L24 v1 v2 v3 v4 v5 σ Q) (kQ : ∀ r s, Fr wX_layCell σ0 s → Q r s → Q2 r s) : x_layCell_L24 v1 v2 v3 v4 v5 σ Q2 := by
  unfold x_layCell_L24 at h ⊢
  intro Y hY
  exact h (fun v5 s => Fr wX_layCell σ0 s → Y v5 s) (fun v5 s h f => hY v5 s (fx_layCell_L24_b (v1 := v1) (v2 := v2) (v3 := v3) (v4 := v4) (v5 := v5) (Q := Q) (Q2 := Q2) (X24 := fun v5 s => Fr wX_layCell σ0 s → Y v5 s) (X242 := Y) f h kQ (fun v5 s f h => h f))) fr
theorem lx_layCell_L24 {v1 : Int} {v2 : Int} {v3 : Int} {v4 : Int} {v5 : Int} {σ0 : S} {Q : Int → S → Prop} (I : Int → S → Prop) (me : Int → S → Nat) (h0 : I v5 σ0) (step : ∀ (v5 : Int) (s : S), Fr wX_layCell σ0 s → I v5 s → (fun (Y0 : Int → S → Prop) => (if v5 < gI s 39 then inb v4 902 ∧ ((gA s 2 v4 = 0) → (inb v5 30)) ∧ ((gA s 2 v4 = 0) → (inb v4 902)) ∧ (if (gA s 2 v4 = 0) ∧ (gA s 57 v5 = gA s 5 v4) then inb v5 30 ∧ inb (gA s 58 v5) 20 ∧ x_addReading v3 (gA s 40 (gA s 58 v5)) 0 (w32 ((-1) - v5)) 0 s (fun _ σ_60 => x_layCell_j83 v1 v2 v3 v4 v5 σ_60 Q Y0) else x_layCell_j83 v1 v2 v3 v4 v5 s Q Y0) else x_layCell_j89 v1 v2 v3 v4 s Q)) (fun v5' s' => I v5' s' ∧ me v5' s' < me v5 s)) : x_layCell_L24 v1 v2 v3 v4 v5 σ0 Q := by
  unfold x_layCell_L24
  intro Y hY
  have key : ∀ (n : Nat) (v5 : Int) (s : S), me v5 s < n → Fr wX_layCell σ0 s → I v5 s → Y v5 s := by
    intro n
    induction n with
    | zero => intro v5 s h; exact absurd h (Nat.not_lt_zero _)
    | succ n ih =>
      intro v5 s hm fr hi
      exact hY v5 s (fx_layCell_L24_b (v1 := v1) (v2 := v2) (v3 := v3) (v4 := v4) (v5 := v5) (Q := Q) (Q2 := Q) (X24 := (fun v5' s' => I v5' s' ∧ me v5' s' < me v5 s)) (X242 := Y) fr (step v5 s fr hi) (fun _ _ _ h => h) (fun v5 s f h => ih v5 s (by omega) f h.1))
  exact key _ v5 σ0 (Nat.lt_succ_self _) Fr.rf h0
theorem fm_x_layCell {v1 : Int} {v2 : Int} {σ0 : S} {Q Q2 : Int → S → Prop} (h : x_layCell v1 v2 σ0 Q) (kQ : ∀ r s, Fr wX_layCell σ0 s → Q r s → Q2 r s) : x_layCell v1 v2 σ0 Q2 := by
  have fr : Fr wX_layCell σ0 σ0 := Fr.rf
  unfold x_layCell at h ⊢
  exact fm_x_cellOf h (fun r_2 σ_1 f h0 => (have f0 : Fr wX_layCell σ0 σ_1 := (fr.trans (f.weak (by decide +kernel))); ite_m (fun _ h1 => fx_layCell_L24 f0 h1 kQ) (fun _ h1 => fx_layCell_j89 f0 h1 kQ) h0))
theorem fx_layReadings_j80 {v3 : Int} {σ0 σ : S} {Q Q2 : Int → S → Prop} {X42 X422 : Int → S → Prop} (fr : Fr wX_layReadings σ0 σ) (h : x_layReadings_j80 v3 σ Q X42) (kQ : ∀ r s, Fr wX_layReadings σ0 s → Q r s → Q2 r s) (kX42 : ∀ a0 s, Fr wX_layReadings σ0 s → X42 a0 s → X422 a0 s) : x_layReadings_j80 v3 σ Q2 X422 := by
  unfold x_layReadings_j80 at h ⊢
  exact kX42 _ _ fr h
theorem fx_layReadings_L53_b {v3 : Int} {v4 : Int} {σ0 σ : S} {Q Q2 : Int → S → Prop} {X42 X422 : Int → S → Prop} {X53 X532 : Int → S → Prop} (fr : Fr wX_layReadings σ0 σ) (h : (if w32 (v4 + v3) ≤ gI σ 90 then x_layCell v4 (w32 (v4 + v3)) σ (fun _ σ_15 => X53 (w32 (v4 + 1)) σ_15) else x_layReadings_j80 v3 σ Q X42)) (kQ : ∀ r s, Fr wX_layReadings σ0 s → Q r s → Q2 r s) (kX42 : ∀ a0 s, Fr wX_layReadings σ0 s → X42 a0 s → X422 a0 s) (kX53 : ∀ v4 s, Fr wX_layReadings σ0 s → X53 v4 s → X532 v4 s) : (if w32 (v4 + v3) ≤ gI σ 90 then x_layCell v4 (w32 (v4 + v3)) σ (fun _ σ_15 => X532 (w32 (v4 + 1)) σ_15) else x_layReadings_j80 v3 σ Q2 X422) :=
  ite_m (fun _ h0 => fm_x_layCell h0 (fun _ σ_15 f h1 => (have f1 : Fr wX_layReadings σ0 σ_15 := (fr.trans (f.weak (by decide +kernel))); kX53 _ _ f1 h1))) (fun _ h0 => fx_layReadings_j80 fr h0 kQ kX42) h
theorem fx_layReadings_L53 {v3 : Int} {v4 : Int} {σ0 σ : S} {Q Q2 : Int → S → Prop} {X42 X422 : Int → S → Prop} (fr : Fr wX_layReadings σ0 σ) (h : x_layReadings_L53 v3 v4 σ Q X42) (kQ : ∀ r s, Fr wX_layReadings σ0 s → Q r s → Q2 r s) (kX42 : ∀ a0 s, Fr wX_layReadings σ0 s → X42 a0 s → X422 a0 s) : x_layReadings_L53 v3 v4 σ Q2 X422 := by
  unfold x_layReadings_L53 at h ⊢
  intro Y hY
  exact h (fun v4 s => Fr wX_layReadings σ0 s → Y v4 s) (fun v4 s h f => hY v4 s (fx_layReadings_L53_b (v3 := v3) (v4 := v4) (Q := Q) (Q2 := Q2) (X42 := X42) (X422 := X422) (X53 := fun v4 s => Fr wX_layReadings σ0 s → Y v4 s) (X532 := Y) f h kQ kX42 (fun v4 s f h => h f))) fr
theorem lx_layReadings_L53 {v3 : Int} {v4 : Int} {σ0 : S} {Q : Int → S → Prop} {X42 : Int → S → Prop} (I : Int → S → Prop) (me : Int → S → Nat) (h0 : I v4 σ0) (step : ∀ (v4 : Int) (s : S), Fr wX_layReadings σ0 s → I v4 s → (fun (Y0 : Int → S → Prop) => (if w32 (v4 + v3) ≤ gI s 90 then x_layCell v4 (w32 (v4 + v3)) s (fun _ σ_15 => Y0 (w32 (v4 + 1)) σ_15) else x_layReadings_j80 v3 s Q X42)) (fun v4' s' => I v4' s' ∧ me v4' s' < me v4 s)) : x_layReadings_L53 v3 v4 σ0 Q X42 := by
  unfold x_layReadings_L53
  intro Y hY
  have key : ∀ (n : Nat) (v4 : Int) (s : S), me v4 s < n → Fr wX_layReadings σ0 s → I v4 s → Y v4 s := by
    intro n
    induction n with
    | zero => intro v4 s h; exact absurd h (Nat.not_lt_zero _)
    | succ n ih =>
      intro v4 s hm fr hi
      exact hY v4 s (fx_layReadings_L53_b (v3 := v3) (v4 := v4) (Q := Q) (Q2 := Q) (X42 := X42) (X422 := X42) (X53 := (fun v4' s' => I v4' s' ∧ me v4' s' < me v4 s)) (X532 := Y) fr (step v4 s fr hi) (fun _ _ _ h => h) (fun _ _ _ h => h) (fun v4 s f h => ih v4 s (by omega) f h.1))
  exact key _ v4 σ0 (Nat.lt_succ_self _) Fr.rf h0
theorem fx_layReadings_L42_b {v3 : Int} {σ0 σ : S} {Q Q2 : Int → S → Prop} {X42 X422 : Int → S → Prop} (fr : Fr wX_layReadings σ0 σ) (h : (if v3 ≤ gI σ 90 then x_layReadings_L53 v3 0 σ Q X42 else Q 0 σ)) (kQ : ∀ r s, Fr wX_layReadings σ0 s → Q r s → Q2 r s) (kX42 : ∀ v3 s, Fr wX_layReadings σ0 s → X42 v3 s → X422 v3 s) : (if v3 ≤ gI σ 90 then x_layReadings_L53 v3 0 σ Q2 X422 else Q2 0 σ) :=
  ite_m (fun _ h0 => fx_layReadings_L53 fr h0 kQ kX42) (fun _ h0 => kQ _ _ fr h0) h
theorem fx_layReadings_L42 {v3 : Int} {σ0 σ : S} {Q Q2 : Int → S → Prop} (fr : Fr wX_layReadings σ0 σ) (h : x_layReadings_L42 v3 σ Q) (kQ : ∀ r s, Fr wX_layReadings σ0 s → Q r s → Q2 r s) : x_layReadings_L42 v3 σ Q2 := by
  unfold x_layReadings_L42 at h ⊢
  intro Y hY
  exact h (fun v3 s => Fr wX_layReadings σ0 s → Y v3 s) (fun v3 s h f => hY v3 s (fx_layReadings_L42_b (v3 := v3) (Q := Q) (Q2 := Q2) (X42 := fun v3 s => Fr wX_layReadings σ0 s → Y v3 s) (X422 := Y) f h kQ (fun v3 s f h => h f))) fr
theorem lx_layReadings_L42 {v3 : Int} {σ0 : S} {Q : Int → S → Prop} (I : Int → S → Prop) (me : Int → S → Nat) (h0 : I v3 σ0) (step : ∀ (v3 : Int) (s : S), Fr wX_layReadings σ0 s → I v3 s → (fun (Y0 : Int → S → Prop) => (if v3 ≤ gI s 90 then x_layReadings_L53 v3 0 s Q Y0 else Q 0 s)) (fun v3' s' => I v3' s' ∧ me v3' s' < me v3 s)) : x_layReadings_L42 v3 σ0 Q := by
  unfold x_layReadings_L42
  intro Y hY
  have key : ∀ (n : Nat) (v3 : Int) (s : S), me v3 s < n → Fr wX_layReadings σ0 s → I v3 s → Y v3 s := by
    intro n
    induction n with
    | zero => intro v3 s h; exact absurd h (Nat.not_lt_zero _)
    | succ n ih =>
      intro v3 s hm fr hi
      exact hY v3 s (fx_layReadings_L42_b (v3 := v3) (Q := Q) (Q2 := Q) (X42 := (fun v3' s' => I v3' s' ∧ me v3' s' < me v3 s)) (X422 := Y) fr (step v3 s fr hi) (fun _ _ _ h => h) (fun v3 s f h => ih v3 s (by omega) f h.1))
  exact key _ v3 σ0 (Nat.lt_succ_self _) Fr.rf h0
theorem fx_layReadings_j40 {σ0 σ : S} {Q Q2 : Int → S → Prop} (fr : Fr wX_layReadings σ0 σ) (h : x_layReadings_j40  σ Q) (kQ : ∀ r s, Fr wX_layReadings σ0 s → Q r s → Q2 r s) : x_layReadings_j40  σ Q2 := by
  unfold x_layReadings_j40 at h ⊢
  exact fx_layReadings_L42 fr h kQ
theorem fx_layReadings_L19_b {v3 : Int} {σ0 σ : S} {Q Q2 : Int → S → Prop} {X19 X192 : Int → S → Prop} (fr : Fr wX_layReadings σ0 σ) (h : (if v3 < 1089 then inb v3 1089 ∧ ∀ σ_16, σ_16 = pA σ 64 v3 (-2) → X19 (w32 (v3 + 1)) σ_16 else x_layReadings_j40 σ Q)) (kQ : ∀ r s, Fr wX_layReadings σ0 s → Q r s → Q2 r s) (kX19 : ∀ v3 s, Fr wX_layReadings σ0 s → X19 v3 s → X192 v3 s) : (if v3 < 1089 then inb v3 1089 ∧ ∀ σ_16, σ_16 = pA σ 64 v3 (-2) → X192 (w32 (v3 + 1)) σ_16 else x_layReadings_j40 σ Q2) :=
  ite_m (fun _ h0 => ⟨h0.1, fun σ_16 e2 => (have f2 : Fr wX_layReadings σ0 σ_16 := Fr.putA fr e2 rfl; kX19 _ _ f2 (h0.2 σ_16 e2))⟩) (fun _ h0 => fx_layReadings_j40 fr h0 kQ) h
theorem fx_layReadings_L19 {v3 : Int} {σ0 σ : S} {Q Q2 : Int → S → Prop} (fr : Fr wX_layReadings σ0 σ) (h : x_layReadings_L19 v3 σ Q) (kQ : ∀ r s, Fr wX_layReadings σ0 s → Q r s → Q2 r s) : x_layReadings_L19 v3 σ Q2 := by
  unfold x_layReadings_L19 at h ⊢
  intro Y hY
  exact h (fun v3 s => Fr wX_layReadings σ0 s → Y v3 s) (fun v3 s h f => hY v3 s (fx_layReadings_L19_b (v3 := v3) (Q := Q) (Q2 := Q2) (X19 := fun v3 s => Fr wX_layReadings σ0 s → Y v3 s) (X192 := Y) f h kQ (fun v3 s f h => h f))) fr
theorem lx_layReadings_L19 {v3 : Int} {σ0 : S} {Q : Int → S → Prop} (I : Int → S → Prop) (me : Int → S → Nat) (h0 : I v3 σ0) (step : ∀ (v3 : Int) (s : S), Fr wX_layReadings σ0 s → I v3 s → (fun (Y0 : Int → S → Prop) => (if v3 < 1089 then inb v3 1089 ∧ ∀ σ_16, σ_16 = pA s 64 v3 (-2) → Y0 (w32 (v3 + 1)) σ_16 else x_layReadings_j40 s Q)) (fun v3' s' => I v3' s' ∧ me v3' s' < me v3 s)) : x_layReadings_L19 v3 σ0 Q := by
  unfold x_layReadings_L19
  intro Y hY
  have key : ∀ (n : Nat) (v3 : Int) (s : S), me v3 s < n → Fr wX_layReadings σ0 s → I v3 s → Y v3 s := by
    intro n
    induction n with
    | zero => intro v3 s h; exact absurd h (Nat.not_lt_zero _)
    | succ n ih =>
      intro v3 s hm fr hi
      exact hY v3 s (fx_layReadings_L19_b (v3 := v3) (Q := Q) (Q2 := Q) (X19 := (fun v3' s' => I v3' s' ∧ me v3' s' < me v3 s)) (X192 := Y) fr (step v3 s fr hi) (fun _ _ _ h => h) (fun v3 s f h => ih v3 s (by omega) f h.1))
  exact key _ v3 σ0 (Nat.lt_succ_self _) Fr.rf h0
theorem fm_x_layReadings {v1 : Int} {v2 : Int} {σ0 : S} {Q Q2 : Int → S → Prop} (h : x_layReadings v1 v2 σ0 Q) (kQ : ∀ r s, Fr wX_layReadings σ0 s → Q r s → Q2 r s) : x_layReadings v1 v2 σ0 Q2 := by
  have fr : Fr wX_layReadings σ0 σ0 := Fr.rf
  unfold x_layReadings at h ⊢
  exact fun σ_1 e0 => (have f0 : Fr wX_layReadings σ0 σ_1 := Fr.putI fr e0 rfl; fun σ_3 e1 => (have f1 : Fr wX_layReadings σ0 σ_3 := Fr.putI f0 e1 rfl; fun σ_5 e2 => (have f2 : Fr wX_layReadings σ0 σ_5 := Fr.putI f1 e2 rfl; fx_layReadings_L19 f2 (((h σ_1 e0) σ_3 e1) σ_5 e2) kQ)))
theorem fx_readingOf_j65 {v3 : Int} {v4 : Int} {v5 : Int} {σ0 σ : S} {Q Q2 : Int → S → Prop} {X25 X252 : Int → Int → S → Prop} (fr : Fr wX_readingOf σ0 σ) (h : x_readingOf_j65 v3 v4 v5 σ Q X25) (kQ : ∀ r s, Fr wX_readingOf σ0 s → Q r s → Q2 r s) (kX25 : ∀ a0 a1 s, Fr wX_readingOf σ0 s → X25 a0 a1 s → X252 a0 a1 s) : x_readingOf_j65 v3 v4 v5 σ Q2 X252 := by
  unfold x_readingOf_j65 at h ⊢
  exact ⟨h.1, kX25 _ _ _ fr h.2⟩
theorem fx_readingOf_j49 {v3 : Int} {v4 : Int} {v5 : Int} {σ0 σ : S} {Q Q2 : Int → S → Prop} {X25 X252 : Int → Int → S → Prop} (fr : Fr wX_readingOf σ0 σ) (h : x_readingOf_j49 v3 v4 v5 σ Q X25) (kQ : ∀ r s, Fr wX_readingOf σ0 s → Q r s → Q2 r s) (kX25 : ∀ a0 a1 s, Fr wX_readingOf σ0 s → X25 a0 a1 s → X252 a0 a1 s) : x_readingOf_j49 v3 v4 v5 σ Q2 X252 := by
  unfold x_readingOf_j49 at h ⊢
  exact fx_readingOf_j65 fr h kQ kX25
theorem fx_readingOf_L25_b {v3 : Int} {v4 : Int} {v5 : Int} {σ0 σ : S} {Q Q2 : Int → S → Prop} {X25 X252 : Int → Int → S → Prop} (fr : Fr wX_readingOf σ0 σ) (h : (if v5 = (-2) then Q v4 σ else (if v3 = (-2) then x_readingOf_j49 v3 v4 v5 σ Q X25 else inb v5 76000 ∧ (if gA σ 59 v5 = v3 then x_readingOf_j49 v3 v4 v5 σ Q X25 else x_readingOf_j65 v3 v4 v5 σ Q X25)))) (kQ : ∀ r s, Fr wX_readingOf σ0 s → Q r s → Q2 r s) (kX25 : ∀ v4 v5 s, Fr wX_readingOf σ0 s → X25 v4 v5 s → X252 v4 v5 s) : (if v5 = (-2) then Q2 v4 σ else (if v3 = (-2) then x_readingOf_j49 v3 v4 v5 σ Q2 X252 else inb v5 76000 ∧ (if gA σ 59 v5 = v3 then x_readingOf_j49 v3 v4 v5 σ Q2 X252 else x_readingOf_j65 v3 v4 v5 σ Q2 X252))) :=
  ite_m (fun _ h0 => kQ _ _ fr h0) (fun _ h0 => ite_m (fun _ h1 => fx_readingOf_j49 fr h1 kQ kX25) (fun _ h1 => ⟨h1.1, ite_m (fun _ h3 => fx_readingOf_j49 fr h3 kQ kX25) (fun _ h3 => fx_readingOf_j65 fr h3 kQ kX25) h1.2⟩) h0) h
theorem fx_readingOf_L25 {v3 : Int} {v4 : Int} {v5 : Int} {σ0 σ : S} {Q Q2 : Int → S → Prop} (fr : Fr wX_readingOf σ0 σ) (h : x_readingOf_L25 v3 v4 v5 σ Q) (kQ : ∀ r s, Fr wX_readingOf σ0 s → Q r s → Q2 r s) : x_readingOf_L25 v3 v4 v5 σ Q2 := by
  unfold x_readingOf_L25 at h ⊢
  intro Y hY
  exact h (fun v4 v5 s => Fr wX_readingOf σ0 s → Y v4 v5 s) (fun v4 v5 s h f => hY v4 v5 s (fx_readingOf_L25_b (v3 := v3) (v4 := v4) (v5 := v5) (Q := Q) (Q2 := Q2) (X25 := fun v4 v5 s => Fr wX_readingOf σ0 s → Y v4 v5 s) (X252 := Y) f h kQ (fun v4 v5 s f h => h f))) fr
theorem lx_readingOf_L25 {v3 : Int} {v4 : Int} {v5 : Int} {σ0 : S} {Q : Int → S → Prop} (I : Int → Int → S → Prop) (me : Int → Int → S → Nat) (h0 : I v4 v5 σ0) (step : ∀ (v4 : Int) (v5 : Int) (s : S), Fr wX_readingOf σ0 s → I v4 v5 s → (fun (Y0 : Int → Int → S → Prop) => (if v5 = (-2) then Q v4 s else (if v3 = (-2) then x_readingOf_j49 v3 v4 v5 s Q Y0 else inb v5 76000 ∧ (if gA s 59 v5 = v3 then x_readingOf_j49 v3 v4 v5 s Q Y0 else x_readingOf_j65 v3 v4 v5 s Q Y0)))) (fun v4' v5' s' => I v4' v5' s' ∧ me v4' v5' s' < me v4 v5 s)) : x_readingOf_L25 v3 v4 v5 σ0 Q := by
  unfold x_readingOf_L25
  intro Y hY
  have key : ∀ (n : Nat) (v4 : Int) (v5 : Int) (s : S), me v4 v5 s < n → Fr wX_readingOf σ0 s → I v4 v5 s → Y v4 v5 s := by
    intro n
    induction n with
    | zero => intro v4 v5 s h; exact absurd h (Nat.not_lt_zero _)
    | succ n ih =>
      intro v4 v5 s hm fr hi
      exact hY v4 v5 s (fx_readingOf_L25_b (v3 := v3) (v4 := v4) (v5 := v5) (Q := Q) (Q2 := Q) (X25 := (fun v4' v5' s' => I v4' v5' s' ∧ me v4' v5' s' < me v4 v5 s)) (X252 := Y) fr (step v4 v5 s fr hi) (fun _ _ _ h => h) (fun v4 v5 s f h => ih v4 v5 s (by omega) f h.1))
  exact key _ v4 v5 σ0 (Nat.lt_succ_self _) Fr.rf h0
theorem fm_x_readingOf {v1 : Int} {v2 : Int} {v3 : Int} {σ0 : S} {Q Q2 : Int → S → Prop} (h : x_readingOf v1 v2 v3 σ0 Q) (kQ : ∀ r s, Fr wX_readingOf σ0 s → Q r s → Q2 r s) : x_readingOf v1 v2 v3 σ0 Q2 := by
  have fr : Fr wX_readingOf σ0 σ0 := Fr.rf
  unfold x_readingOf at h ⊢
  exact fm_x_layReadings h (fun _ σ_1 f h0 => (have f0 : Fr wX_readingOf σ0 σ_1 := (fr.trans (f.weak (by decide +kernel))); fm_x_cellOf h0 (fun r_4 σ_3 f h1 => (have f1 : Fr wX_readingOf σ0 σ_3 := (f0.trans (f.weak (by decide +kernel))); ⟨h1.1, fx_readingOf_L25 f1 h1.2 kQ⟩))))
theorem fx_slotOf_L11_b {v2 : Int} {v3 : Int} {v4 : Int} {v5 : Int} {σ0 σ : S} {Q Q2 : Int → S → Prop} {X11 X112 : Int → Int → S → Prop} (fr : Fr wX_slotOf σ0 σ) (h : (if v5 < v3 then inb (w32 (v2 + v5)) 20000 ∧ X11 (bXor (w32 (w32 (v4 * 1000003) + (gA σ 74 (w32 (v2 + v5))))) (bUsh (w32 (w32 (v4 * 1000003) + (gA σ 74 (w32 (v2 + v5))))) 15)) (w32 (v5 + 1)) σ else Q (bAnd v4 131071) σ)) (kQ : ∀ r s, Fr wX_slotOf σ0 s → Q r s → Q2 r s) (kX11 : ∀ v4 v5 s, Fr wX_slotOf σ0 s → X11 v4 v5 s → X112 v4 v5 s) : (if v5 < v3 then inb (w32 (v2 + v5)) 20000 ∧ X112 (bXor (w32 (w32 (v4 * 1000003) + (gA σ 74 (w32 (v2 + v5))))) (bUsh (w32 (w32 (v4 * 1000003) + (gA σ 74 (w32 (v2 + v5))))) 15)) (w32 (v5 + 1)) σ else Q2 (bAnd v4 131071) σ) :=
  ite_m (fun _ h0 => ⟨h0.1, kX11 _ _ _ fr h0.2⟩) (fun _ h0 => kQ _ _ fr h0) h
theorem fx_slotOf_L11 {v2 : Int} {v3 : Int} {v4 : Int} {v5 : Int} {σ0 σ : S} {Q Q2 : Int → S → Prop} (fr : Fr wX_slotOf σ0 σ) (h : x_slotOf_L11 v2 v3 v4 v5 σ Q) (kQ : ∀ r s, Fr wX_slotOf σ0 s → Q r s → Q2 r s) : x_slotOf_L11 v2 v3 v4 v5 σ Q2 := by
  unfold x_slotOf_L11 at h ⊢
  intro Y hY
  exact h (fun v4 v5 s => Fr wX_slotOf σ0 s → Y v4 v5 s) (fun v4 v5 s h f => hY v4 v5 s (fx_slotOf_L11_b (v2 := v2) (v3 := v3) (v4 := v4) (v5 := v5) (Q := Q) (Q2 := Q2) (X11 := fun v4 v5 s => Fr wX_slotOf σ0 s → Y v4 v5 s) (X112 := Y) f h kQ (fun v4 v5 s f h => h f))) fr
theorem lx_slotOf_L11 {v2 : Int} {v3 : Int} {v4 : Int} {v5 : Int} {σ0 : S} {Q : Int → S → Prop} (I : Int → Int → S → Prop) (me : Int → Int → S → Nat) (h0 : I v4 v5 σ0) (step : ∀ (v4 : Int) (v5 : Int) (s : S), Fr wX_slotOf σ0 s → I v4 v5 s → (fun (Y0 : Int → Int → S → Prop) => (if v5 < v3 then inb (w32 (v2 + v5)) 20000 ∧ Y0 (bXor (w32 (w32 (v4 * 1000003) + (gA s 74 (w32 (v2 + v5))))) (bUsh (w32 (w32 (v4 * 1000003) + (gA s 74 (w32 (v2 + v5))))) 15)) (w32 (v5 + 1)) s else Q (bAnd v4 131071) s)) (fun v4' v5' s' => I v4' v5' s' ∧ me v4' v5' s' < me v4 v5 s)) : x_slotOf_L11 v2 v3 v4 v5 σ0 Q := by
  unfold x_slotOf_L11
  intro Y hY
  have key : ∀ (n : Nat) (v4 : Int) (v5 : Int) (s : S), me v4 v5 s < n → Fr wX_slotOf σ0 s → I v4 v5 s → Y v4 v5 s := by
    intro n
    induction n with
    | zero => intro v4 v5 s h; exact absurd h (Nat.not_lt_zero _)
    | succ n ih =>
      intro v4 v5 s hm fr hi
      exact hY v4 v5 s (fx_slotOf_L11_b (v2 := v2) (v3 := v3) (v4 := v4) (v5 := v5) (Q := Q) (Q2 := Q) (X11 := (fun v4' v5' s' => I v4' v5' s' ∧ me v4' v5' s' < me v4 v5 s)) (X112 := Y) fr (step v4 v5 s fr hi) (fun _ _ _ h => h) (fun v4 v5 s f h => ih v4 v5 s (by omega) f h.1))
  exact key _ v4 v5 σ0 (Nat.lt_succ_self _) Fr.rf h0
theorem fm_x_slotOf {v1 : Int} {v2 : Int} {v3 : Int} {σ0 : S} {Q Q2 : Int → S → Prop} (h : x_slotOf v1 v2 v3 σ0 Q) (kQ : ∀ r s, Fr wX_slotOf σ0 s → Q r s → Q2 r s) : x_slotOf v1 v2 v3 σ0 Q2 := by
  have fr : Fr wX_slotOf σ0 σ0 := Fr.rf
  unfold x_slotOf at h ⊢
  exact fx_slotOf_L11 fr h kQ
theorem fm_x_at {v1 : Int} {v2 : Int} {σ0 : S} {Q Q2 : Int → S → Prop} (h : x_at v1 v2 σ0 Q) (kQ : ∀ r s, Fr wX_at σ0 s → Q r s → Q2 r s) : x_at v1 v2 σ0 Q2 := by
  have fr : Fr wX_at σ0 σ0 := Fr.rf
  unfold x_at at h ⊢
  exact ⟨h.1, ⟨h.2.1, kQ _ _ fr h.2.2⟩⟩
theorem fx_isRowAbove_L3_b {v1 : Int} {v2 : Nat} {v3 : Int} {v4 : Int} {v5 : Int} {σ0 σ : S} {Q Q2 : Int → S → Prop} {X3 X32 : Int → S → Prop} (fr : Fr wX_isRowAbove σ0 σ) (h : (if v5 < v3 then inb (if v4 = 0 then v5 else w32 (w32 (v3 - 1) - v5)) ((dAln dX v2 : Nat) : Int) ∧ (if gA σ v2 (if v4 = 0 then v5 else w32 (w32 (v3 - 1) - v5)) = (-2) then Q 0 σ else inb (w32 (w32 (3 * v1) + v5)) 150 ∧ x_isBelow (gA σ v2 (if v4 = 0 then v5 else w32 (w32 (v3 - 1) - v5))) (gA σ 42 (w32 (w32 (3 * v1) + v5))) σ (fun r_14 σ_13 => (if r_14 = 0 then Q 0 σ_13 else X3 (w32 (v5 + 1)) σ_13))) else Q 1 σ)) (kQ : ∀ r s, Fr wX_isRowAbove σ0 s → Q r s → Q2 r s) (kX3 : ∀ v5 s, Fr wX_isRowAbove σ0 s → X3 v5 s → X32 v5 s) : (if v5 < v3 then inb (if v4 = 0 then v5 else w32 (w32 (v3 - 1) - v5)) ((dAln dX v2 : Nat) : Int) ∧ (if gA σ v2 (if v4 = 0 then v5 else w32 (w32 (v3 - 1) - v5)) = (-2) then Q2 0 σ else inb (w32 (w32 (3 * v1) + v5)) 150 ∧ x_isBelow (gA σ v2 (if v4 = 0 then v5 else w32 (w32 (v3 - 1) - v5))) (gA σ 42 (w32 (w32 (3 * v1) + v5))) σ (fun r_14 σ_13 => (if r_14 = 0 then Q2 0 σ_13 else X32 (w32 (v5 + 1)) σ_13))) else Q2 1 σ) :=
  ite_m (fun _ h0 => ⟨h0.1, ite_m (fun _ h2 => kQ _ _ fr h2) (fun _ h2 => ⟨h2.1, fm_x_isBelow h2.2 (fun r_14 σ_13 f h4 => (have f4 : Fr wX_isRowAbove σ0 σ_13 := (fr.trans (f.weak (by decide +kernel))); ite_m (fun _ h5 => kQ _ _ f4 h5) (fun _ h5 => kX3 _ _ f4 h5) h4))⟩) h0.2⟩) (fun _ h0 => kQ _ _ fr h0) h
theorem fx_isRowAbove_L3 {v1 : Int} {v2 : Nat} {v3 : Int} {v4 : Int} {v5 : Int} {σ0 σ : S} {Q Q2 : Int → S → Prop} (fr : Fr wX_isRowAbove σ0 σ) (h : x_isRowAbove_L3 v1 v2 v3 v4 v5 σ Q) (kQ : ∀ r s, Fr wX_isRowAbove σ0 s → Q r s → Q2 r s) : x_isRowAbove_L3 v1 v2 v3 v4 v5 σ Q2 := by
  unfold x_isRowAbove_L3 at h ⊢
  intro Y hY
  exact h (fun v5 s => Fr wX_isRowAbove σ0 s → Y v5 s) (fun v5 s h f => hY v5 s (fx_isRowAbove_L3_b (v1 := v1) (v2 := v2) (v3 := v3) (v4 := v4) (v5 := v5) (Q := Q) (Q2 := Q2) (X3 := fun v5 s => Fr wX_isRowAbove σ0 s → Y v5 s) (X32 := Y) f h kQ (fun v5 s f h => h f))) fr
theorem lx_isRowAbove_L3 {v1 : Int} {v2 : Nat} {v3 : Int} {v4 : Int} {v5 : Int} {σ0 : S} {Q : Int → S → Prop} (I : Int → S → Prop) (me : Int → S → Nat) (h0 : I v5 σ0) (step : ∀ (v5 : Int) (s : S), Fr wX_isRowAbove σ0 s → I v5 s → (fun (Y0 : Int → S → Prop) => (if v5 < v3 then inb (if v4 = 0 then v5 else w32 (w32 (v3 - 1) - v5)) ((dAln dX v2 : Nat) : Int) ∧ (if gA s v2 (if v4 = 0 then v5 else w32 (w32 (v3 - 1) - v5)) = (-2) then Q 0 s else inb (w32 (w32 (3 * v1) + v5)) 150 ∧ x_isBelow (gA s v2 (if v4 = 0 then v5 else w32 (w32 (v3 - 1) - v5))) (gA s 42 (w32 (w32 (3 * v1) + v5))) s (fun r_14 σ_13 => (if r_14 = 0 then Q 0 σ_13 else Y0 (w32 (v5 + 1)) σ_13))) else Q 1 s)) (fun v5' s' => I v5' s' ∧ me v5' s' < me v5 s)) : x_isRowAbove_L3 v1 v2 v3 v4 v5 σ0 Q := by
  unfold x_isRowAbove_L3
  intro Y hY
  have key : ∀ (n : Nat) (v5 : Int) (s : S), me v5 s < n → Fr wX_isRowAbove σ0 s → I v5 s → Y v5 s := by
    intro n
    induction n with
    | zero => intro v5 s h; exact absurd h (Nat.not_lt_zero _)
    | succ n ih =>
      intro v5 s hm fr hi
      exact hY v5 s (fx_isRowAbove_L3_b (v1 := v1) (v2 := v2) (v3 := v3) (v4 := v4) (v5 := v5) (Q := Q) (Q2 := Q) (X3 := (fun v5' s' => I v5' s' ∧ me v5' s' < me v5 s)) (X32 := Y) fr (step v5 s fr hi) (fun _ _ _ h => h) (fun v5 s f h => ih v5 s (by omega) f h.1))
  exact key _ v5 σ0 (Nat.lt_succ_self _) Fr.rf h0
theorem fm_x_isRowAbove {v1 : Int} {v2 : Nat} {v3 : Int} {v4 : Int} {σ0 : S} {Q Q2 : Int → S → Prop} (h : x_isRowAbove v1 v2 v3 v4 σ0 Q) (kQ : ∀ r s, Fr wX_isRowAbove σ0 s → Q r s → Q2 r s) : x_isRowAbove v1 v2 v3 v4 σ0 Q2 := by
  have fr : Fr wX_isRowAbove σ0 σ0 := Fr.rf
  unfold x_isRowAbove at h ⊢
  exact fx_isRowAbove_L3 fr h kQ
theorem fx_leastBy_j125 {v4 : Int} {v5 : Int} {v6 : Int} {σ0 σ : S} {Q Q2 : Int → S → Prop} {X86 X862 : Int → Int → S → Prop} (fr : Fr wX_leastBy σ0 σ) (h : x_leastBy_j125 v4 v5 v6 σ Q X86) (kQ : ∀ r s, Fr wX_leastBy σ0 s → Q r s → Q2 r s) (kX86 : ∀ a0 a1 s, Fr wX_leastBy σ0 s → X86 a0 a1 s → X862 a0 a1 s) : x_leastBy_j125 v4 v5 v6 σ Q2 X862 := by
  unfold x_leastBy_j125 at h ⊢
  exact kX86 _ _ _ fr h
theorem fx_leastBy_L86_b {v4 : Int} {v5 : Int} {v6 : Int} {σ0 σ : S} {Q Q2 : Int → S → Prop} {X86 X862 : Int → Int → S → Prop} (fr : Fr wX_leastBy σ0 σ) (h : (if v6 < gI σ 22 then ((bAnd (bShr v5 v6) 1 = 1) → (inb v6 20)) ∧ (if (bAnd (bShr v5 v6) 1 = 1) ∧ (bAnd v5 (bXor (gA σ 39 v6) (-1)) = 0) then x_leastBy_j125 v6 v5 v6 σ Q X86 else x_leastBy_j125 v4 v5 v6 σ Q X86) else Q v4 σ)) (kQ : ∀ r s, Fr wX_leastBy σ0 s → Q r s → Q2 r s) (kX86 : ∀ v4 v6 s, Fr wX_leastBy σ0 s → X86 v4 v6 s → X862 v4 v6 s) : (if v6 < gI σ 22 then ((bAnd (bShr v5 v6) 1 = 1) → (inb v6 20)) ∧ (if (bAnd (bShr v5 v6) 1 = 1) ∧ (bAnd v5 (bXor (gA σ 39 v6) (-1)) = 0) then x_leastBy_j125 v6 v5 v6 σ Q2 X862 else x_leastBy_j125 v4 v5 v6 σ Q2 X862) else Q2 v4 σ) :=
  ite_m (fun _ h0 => ⟨h0.1, ite_m (fun _ h2 => fx_leastBy_j125 fr h2 kQ kX86) (fun _ h2 => fx_leastBy_j125 fr h2 kQ kX86) h0.2⟩) (fun _ h0 => kQ _ _ fr h0) h
theorem fx_leastBy_L86 {v4 : Int} {v5 : Int} {v6 : Int} {σ0 σ : S} {Q Q2 : Int → S → Prop} (fr : Fr wX_leastBy σ0 σ) (h : x_leastBy_L86 v4 v5 v6 σ Q) (kQ : ∀ r s, Fr wX_leastBy σ0 s → Q r s → Q2 r s) : x_leastBy_L86 v4 v5 v6 σ Q2 := by
  unfold x_leastBy_L86 at h ⊢
  intro Y hY
  exact h (fun v4 v6 s => Fr wX_leastBy σ0 s → Y v4 v6 s) (fun v4 v6 s h f => hY v4 v6 s (fx_leastBy_L86_b (v4 := v4) (v5 := v5) (v6 := v6) (Q := Q) (Q2 := Q2) (X86 := fun v4 v6 s => Fr wX_leastBy σ0 s → Y v4 v6 s) (X862 := Y) f h kQ (fun v4 v6 s f h => h f))) fr
theorem lx_leastBy_L86 {v4 : Int} {v5 : Int} {v6 : Int} {σ0 : S} {Q : Int → S → Prop} (I : Int → Int → S → Prop) (me : Int → Int → S → Nat) (h0 : I v4 v6 σ0) (step : ∀ (v4 : Int) (v6 : Int) (s : S), Fr wX_leastBy σ0 s → I v4 v6 s → (fun (Y0 : Int → Int → S → Prop) => (if v6 < gI s 22 then ((bAnd (bShr v5 v6) 1 = 1) → (inb v6 20)) ∧ (if (bAnd (bShr v5 v6) 1 = 1) ∧ (bAnd v5 (bXor (gA s 39 v6) (-1)) = 0) then x_leastBy_j125 v6 v5 v6 s Q Y0 else x_leastBy_j125 v4 v5 v6 s Q Y0) else Q v4 s)) (fun v4' v6' s' => I v4' v6' s' ∧ me v4' v6' s' < me v4 v6 s)) : x_leastBy_L86 v4 v5 v6 σ0 Q := by
  unfold x_leastBy_L86
  intro Y hY
  have key : ∀ (n : Nat) (v4 : Int) (v6 : Int) (s : S), me v4 v6 s < n → Fr wX_leastBy σ0 s → I v4 v6 s → Y v4 v6 s := by
    intro n
    induction n with
    | zero => intro v4 v6 s h; exact absurd h (Nat.not_lt_zero _)
    | succ n ih =>
      intro v4 v6 s hm fr hi
      exact hY v4 v6 s (fx_leastBy_L86_b (v4 := v4) (v5 := v5) (v6 := v6) (Q := Q) (Q2 := Q) (X86 := (fun v4' v6' s' => I v4' v6' s' ∧ me v4' v6' s' < me v4 v6 s)) (X862 := Y) fr (step v4 v6 s fr hi) (fun _ _ _ h => h) (fun v4 v6 s f h => ih v4 v6 s (by omega) f h.1))
  exact key _ v4 v6 σ0 (Nat.lt_succ_self _) Fr.rf h0
theorem fx_leastBy_j83 {v4 : Int} {v5 : Int} {σ0 σ : S} {Q Q2 : Int → S → Prop} (fr : Fr wX_leastBy σ0 σ) (h : x_leastBy_j83 v4 v5 σ Q) (kQ : ∀ r s, Fr wX_leastBy σ0 s → Q r s → Q2 r s) : x_leastBy_j83 v4 v5 σ Q2 := by
  unfold x_leastBy_j83 at h ⊢
  exact fx_leastBy_L86 fr h kQ
theorem fx_leastBy_j77 {v1 : Int} {v2 : Nat} {v3 : Int} {v4 : Int} {v5 : Int} {v6 : Int} {σ0 σ : S} {Q Q2 : Int → S → Prop} {X10 X102 : Int → Int → S → Prop} (fr : Fr wX_leastBy σ0 σ) (h : x_leastBy_j77 v1 v2 v3 v4 v5 v6 σ Q X10) (kQ : ∀ r s, Fr wX_leastBy σ0 s → Q r s → Q2 r s) (kX10 : ∀ a0 a1 s, Fr wX_leastBy σ0 s → X10 a0 a1 s → X102 a0 a1 s) : x_leastBy_j77 v1 v2 v3 v4 v5 v6 σ Q2 X102 := by
  unfold x_leastBy_j77 at h ⊢
  exact kX10 _ _ _ fr h
theorem fx_leastBy_j63 {v1 : Int} {v2 : Nat} {v3 : Int} {v4 : Int} {v5 : Int} {v6 : Int} {σ0 σ : S} {Q Q2 : Int → S → Prop} {X10 X102 : Int → Int → S → Prop} (fr : Fr wX_leastBy σ0 σ) (h : x_leastBy_j63 v1 v2 v3 v4 v5 v6 σ Q X10) (kQ : ∀ r s, Fr wX_leastBy σ0 s → Q r s → Q2 r s) (kX10 : ∀ a0 a1 s, Fr wX_leastBy σ0 s → X10 a0 a1 s → X102 a0 a1 s) : x_leastBy_j63 v1 v2 v3 v4 v5 v6 σ Q2 X102 := by
  unfold x_leastBy_j63 at h ⊢
  exact ⟨h.1, fx_leastBy_j77 fr h.2 kQ kX10⟩
theorem fx_leastBy_L10_b {v1 : Int} {v2 : Nat} {v3 : Int} {v4 : Int} {v5 : Int} {v6 : Int} {σ0 σ : S} {Q Q2 : Int → S → Prop} {X10 X102 : Int → Int → S → Prop} (fr : Fr wX_leastBy σ0 σ) (h : (if v6 < gI σ 29 then inb v6 50 ∧ (if gA σ 41 v6 = v1 then x_isRowAbove v6 v2 v3 0 σ (fun r_19 σ_18 => (if r_19 = 0 then inb v1 50 ∧ (if gA σ_18 53 v1 = 0 then x_leastBy_j77 v1 v2 v3 v4 v5 v6 σ_18 Q X10 else x_isRowAbove v6 v2 v3 1 σ_18 (fun r_29 σ_28 => (if r_29 = 0 then x_leastBy_j77 v1 v2 v3 v4 v5 v6 σ_28 Q X10 else x_leastBy_j63 v1 v2 v3 v4 v5 v6 σ_28 Q X10))) else x_leastBy_j63 v1 v2 v3 v4 v5 v6 σ_18 Q X10)) else x_leastBy_j77 v1 v2 v3 v4 v5 v6 σ Q X10) else x_leastBy_j83 v4 v5 σ Q)) (kQ : ∀ r s, Fr wX_leastBy σ0 s → Q r s → Q2 r s) (kX10 : ∀ v5 v6 s, Fr wX_leastBy σ0 s → X10 v5 v6 s → X102 v5 v6 s) : (if v6 < gI σ 29 then inb v6 50 ∧ (if gA σ 41 v6 = v1 then x_isRowAbove v6 v2 v3 0 σ (fun r_19 σ_18 => (if r_19 = 0 then inb v1 50 ∧ (if gA σ_18 53 v1 = 0 then x_leastBy_j77 v1 v2 v3 v4 v5 v6 σ_18 Q2 X102 else x_isRowAbove v6 v2 v3 1 σ_18 (fun r_29 σ_28 => (if r_29 = 0 then x_leastBy_j77 v1 v2 v3 v4 v5 v6 σ_28 Q2 X102 else x_leastBy_j63 v1 v2 v3 v4 v5 v6 σ_28 Q2 X102))) else x_leastBy_j63 v1 v2 v3 v4 v5 v6 σ_18 Q2 X102)) else x_leastBy_j77 v1 v2 v3 v4 v5 v6 σ Q2 X102) else x_leastBy_j83 v4 v5 σ Q2) :=
  ite_m (fun _ h0 => ⟨h0.1, ite_m (fun _ h2 => fm_x_isRowAbove h2 (fun r_19 σ_18 f h3 => (have f3 : Fr wX_leastBy σ0 σ_18 := (fr.trans (f.weak (by decide +kernel))); ite_m (fun _ h4 => ⟨h4.1, ite_m (fun _ h6 => fx_leastBy_j77 f3 h6 kQ kX10) (fun _ h6 => fm_x_isRowAbove h6 (fun r_29 σ_28 f h7 => (have f7 : Fr wX_leastBy σ0 σ_28 := (f3.trans (f.weak (by decide +kernel))); ite_m (fun _ h8 => fx_leastBy_j77 f7 h8 kQ kX10) (fun _ h8 => fx_leastBy_j63 f7 h8 kQ kX10) h7))) h4.2⟩) (fun _ h4 => fx_leastBy_j63 f3 h4 kQ kX10) h3))) (fun _ h2 => fx_leastBy_j77 fr h2 kQ kX10) h0.2⟩) (fun _ h0 => fx_leastBy_j83 fr h0 kQ) h
theorem fx_leastBy_L10 {v1 : Int} {v2 : Nat} {v3 : Int} {v4 : Int} {v5 : Int} {v6 : Int} {σ0 σ : S} {Q Q2 : Int → S → Prop} (fr : Fr wX_leastBy σ0 σ) (h : x_leastBy_L10 v1 v2 v3 v4 v5 v6 σ Q) (kQ : ∀ r s, Fr wX_leastBy σ0 s → Q r s → Q2 r s) : x_leastBy_L10 v1 v2 v3 v4 v5 v6 σ Q2 := by
  unfold x_leastBy_L10 at h ⊢
  intro Y hY
  exact h (fun v5 v6 s => Fr wX_leastBy σ0 s → Y v5 v6 s) (fun v5 v6 s h f => hY v5 v6 s (fx_leastBy_L10_b (v1 := v1) (v2 := v2) (v3 := v3) (v4 := v4) (v5 := v5) (v6 := v6) (Q := Q) (Q2 := Q2) (X10 := fun v5 v6 s => Fr wX_leastBy σ0 s → Y v5 v6 s) (X102 := Y) f h kQ (fun v5 v6 s f h => h f))) fr
theorem lx_leastBy_L10 {v1 : Int} {v2 : Nat} {v3 : Int} {v4 : Int} {v5 : Int} {v6 : Int} {σ0 : S} {Q : Int → S → Prop} (I : Int → Int → S → Prop) (me : Int → Int → S → Nat) (h0 : I v5 v6 σ0) (step : ∀ (v5 : Int) (v6 : Int) (s : S), Fr wX_leastBy σ0 s → I v5 v6 s → (fun (Y0 : Int → Int → S → Prop) => (if v6 < gI s 29 then inb v6 50 ∧ (if gA s 41 v6 = v1 then x_isRowAbove v6 v2 v3 0 s (fun r_19 σ_18 => (if r_19 = 0 then inb v1 50 ∧ (if gA σ_18 53 v1 = 0 then x_leastBy_j77 v1 v2 v3 v4 v5 v6 σ_18 Q Y0 else x_isRowAbove v6 v2 v3 1 σ_18 (fun r_29 σ_28 => (if r_29 = 0 then x_leastBy_j77 v1 v2 v3 v4 v5 v6 σ_28 Q Y0 else x_leastBy_j63 v1 v2 v3 v4 v5 v6 σ_28 Q Y0))) else x_leastBy_j63 v1 v2 v3 v4 v5 v6 σ_18 Q Y0)) else x_leastBy_j77 v1 v2 v3 v4 v5 v6 s Q Y0) else x_leastBy_j83 v4 v5 s Q)) (fun v5' v6' s' => I v5' v6' s' ∧ me v5' v6' s' < me v5 v6 s)) : x_leastBy_L10 v1 v2 v3 v4 v5 v6 σ0 Q := by
  unfold x_leastBy_L10
  intro Y hY
  have key : ∀ (n : Nat) (v5 : Int) (v6 : Int) (s : S), me v5 v6 s < n → Fr wX_leastBy σ0 s → I v5 v6 s → Y v5 v6 s := by
    intro n
    induction n with
    | zero => intro v5 v6 s h; exact absurd h (Nat.not_lt_zero _)
    | succ n ih =>
      intro v5 v6 s hm fr hi
      exact hY v5 v6 s (fx_leastBy_L10_b (v1 := v1) (v2 := v2) (v3 := v3) (v4 := v4) (v5 := v5) (v6 := v6) (Q := Q) (Q2 := Q) (X10 := (fun v5' v6' s' => I v5' v6' s' ∧ me v5' v6' s' < me v5 v6 s)) (X102 := Y) fr (step v5 v6 s fr hi) (fun _ _ _ h => h) (fun v5 v6 s f h => ih v5 v6 s (by omega) f h.1))
  exact key _ v5 v6 σ0 (Nat.lt_succ_self _) Fr.rf h0
theorem fm_x_leastBy {v1 : Int} {v2 : Nat} {v3 : Int} {σ0 : S} {Q Q2 : Int → S → Prop} (h : x_leastBy v1 v2 v3 σ0 Q) (kQ : ∀ r s, Fr wX_leastBy σ0 s → Q r s → Q2 r s) : x_leastBy v1 v2 v3 σ0 Q2 := by
  have fr : Fr wX_leastBy σ0 σ0 := Fr.rf
  unfold x_leastBy at h ⊢
  exact fx_leastBy_L10 fr h kQ
theorem fx_leastOf_j112 {v1 : Int} {v3 : Int} {σ0 σ : S} {Q Q2 : Int → S → Prop} (fr : Fr wX_leastOf σ0 σ) (h : x_leastOf_j112 v1 v3 σ Q) (kQ : ∀ r s, Fr wX_leastOf σ0 s → Q r s → Q2 r s) : x_leastOf_j112 v1 v3 σ Q2 := by
  unfold x_leastOf_j112 at h ⊢
  exact fm_x_leastBy h (fun r_8 σ_7 f h0 => (have f0 : Fr wX_leastOf σ0 σ_7 := (fr.trans (f.weak (by decide +kernel))); kQ _ _ f0 h0))
theorem fx_leastOf_L81_b {v1 : Int} {v2 : Int} {v3 : Int} {v4 : Int} {σ0 σ : S} {Q Q2 : Int → S → Prop} {X81 X812 : Int → S → Prop} (fr : Fr wX_leastOf σ0 σ) (h : (if v4 < v3 then x_at v2 v4 σ (fun r_10 σ_9 => inb r_10 200000 ∧ inb v4 3 ∧ ∀ σ_13, σ_13 = pA σ_9 76 v4 (gA σ_9 69 r_10) → X81 (w32 (v4 + 1)) σ_13) else x_leastOf_j112 v1 v3 σ Q)) (kQ : ∀ r s, Fr wX_leastOf σ0 s → Q r s → Q2 r s) (kX81 : ∀ v4 s, Fr wX_leastOf σ0 s → X81 v4 s → X812 v4 s) : (if v4 < v3 then x_at v2 v4 σ (fun r_10 σ_9 => inb r_10 200000 ∧ inb v4 3 ∧ ∀ σ_13, σ_13 = pA σ_9 76 v4 (gA σ_9 69 r_10) → X812 (w32 (v4 + 1)) σ_13) else x_leastOf_j112 v1 v3 σ Q2) :=
  ite_m (fun _ h0 => fm_x_at h0 (fun r_10 σ_9 f h1 => (have f1 : Fr wX_leastOf σ0 σ_9 := (fr.trans (f.weak (by decide +kernel))); ⟨h1.1, ⟨h1.2.1, fun σ_13 e4 => (have f4 : Fr wX_leastOf σ0 σ_13 := Fr.putA f1 e4 rfl; kX81 _ _ f4 (h1.2.2 σ_13 e4))⟩⟩))) (fun _ h0 => fx_leastOf_j112 fr h0 kQ) h
theorem fx_leastOf_L81 {v1 : Int} {v2 : Int} {v3 : Int} {v4 : Int} {σ0 σ : S} {Q Q2 : Int → S → Prop} (fr : Fr wX_leastOf σ0 σ) (h : x_leastOf_L81 v1 v2 v3 v4 σ Q) (kQ : ∀ r s, Fr wX_leastOf σ0 s → Q r s → Q2 r s) : x_leastOf_L81 v1 v2 v3 v4 σ Q2 := by
  unfold x_leastOf_L81 at h ⊢
  intro Y hY
  exact h (fun v4 s => Fr wX_leastOf σ0 s → Y v4 s) (fun v4 s h f => hY v4 s (fx_leastOf_L81_b (v1 := v1) (v2 := v2) (v3 := v3) (v4 := v4) (Q := Q) (Q2 := Q2) (X81 := fun v4 s => Fr wX_leastOf σ0 s → Y v4 s) (X812 := Y) f h kQ (fun v4 s f h => h f))) fr
theorem lx_leastOf_L81 {v1 : Int} {v2 : Int} {v3 : Int} {v4 : Int} {σ0 : S} {Q : Int → S → Prop} (I : Int → S → Prop) (me : Int → S → Nat) (h0 : I v4 σ0) (step : ∀ (v4 : Int) (s : S), Fr wX_leastOf σ0 s → I v4 s → (fun (Y0 : Int → S → Prop) => (if v4 < v3 then x_at v2 v4 s (fun r_10 σ_9 => inb r_10 200000 ∧ inb v4 3 ∧ ∀ σ_13, σ_13 = pA σ_9 76 v4 (gA σ_9 69 r_10) → Y0 (w32 (v4 + 1)) σ_13) else x_leastOf_j112 v1 v3 s Q)) (fun v4' s' => I v4' s' ∧ me v4' s' < me v4 s)) : x_leastOf_L81 v1 v2 v3 v4 σ0 Q := by
  unfold x_leastOf_L81
  intro Y hY
  have key : ∀ (n : Nat) (v4 : Int) (s : S), me v4 s < n → Fr wX_leastOf σ0 s → I v4 s → Y v4 s := by
    intro n
    induction n with
    | zero => intro v4 s h; exact absurd h (Nat.not_lt_zero _)
    | succ n ih =>
      intro v4 s hm fr hi
      exact hY v4 s (fx_leastOf_L81_b (v1 := v1) (v2 := v2) (v3 := v3) (v4 := v4) (Q := Q) (Q2 := Q) (X81 := (fun v4' s' => I v4' s' ∧ me v4' s' < me v4 s)) (X812 := Y) fr (step v4 s fr hi) (fun _ _ _ h => h) (fun v4 s f h => ih v4 s (by omega) f h.1))
  exact key _ v4 σ0 (Nat.lt_succ_self _) Fr.rf h0
theorem fx_leastOf_L25_b {v1 : Int} {v2 : Int} {v3 : Int} {v4 : Int} {v5 : Int} {σ0 σ : S} {Q Q2 : Int → S → Prop} {X25 X252 : Int → Int → S → Prop} (fr : Fr wX_leastOf σ0 σ) (h : (if v5 < v3 then inb 0 3 ∧ ∀ σ_22, σ_22 = pA σ 76 0 v4 → x_at v2 v5 σ_22 (fun r_26 σ_25 => inb r_26 200000 ∧ inb 1 3 ∧ ∀ σ_29, σ_29 = pA σ_25 76 1 (gA σ_25 69 r_26) → x_leastBy v1 76 2 σ_29 (fun r_33 σ_32 => X25 r_33 (w32 (v5 + 1)) σ_32)) else Q v4 σ)) (kQ : ∀ r s, Fr wX_leastOf σ0 s → Q r s → Q2 r s) (kX25 : ∀ v4 v5 s, Fr wX_leastOf σ0 s → X25 v4 v5 s → X252 v4 v5 s) : (if v5 < v3 then inb 0 3 ∧ ∀ σ_22, σ_22 = pA σ 76 0 v4 → x_at v2 v5 σ_22 (fun r_26 σ_25 => inb r_26 200000 ∧ inb 1 3 ∧ ∀ σ_29, σ_29 = pA σ_25 76 1 (gA σ_25 69 r_26) → x_leastBy v1 76 2 σ_29 (fun r_33 σ_32 => X252 r_33 (w32 (v5 + 1)) σ_32)) else Q2 v4 σ) :=
  ite_m (fun _ h0 => ⟨h0.1, fun σ_22 e2 => (have f2 : Fr wX_leastOf σ0 σ_22 := Fr.putA fr e2 rfl; fm_x_at (h0.2 σ_22 e2) (fun r_26 σ_25 f h3 => (have f3 : Fr wX_leastOf σ0 σ_25 := (f2.trans (f.weak (by decide +kernel))); ⟨h3.1, ⟨h3.2.1, fun σ_29 e6 => (have f6 : Fr wX_leastOf σ0 σ_29 := Fr.putA f3 e6 rfl; fm_x_leastBy (h3.2.2 σ_29 e6) (fun r_33 σ_32 f h7 => (have f7 : Fr wX_leastOf σ0 σ_32 := (f6.trans (f.weak (by decide +kernel))); kX25 _ _ _ f7 h7)))⟩⟩)))⟩) (fun _ h0 => kQ _ _ fr h0) h
theorem fx_leastOf_L25 {v1 : Int} {v2 : Int} {v3 : Int} {v4 : Int} {v5 : Int} {σ0 σ : S} {Q Q2 : Int → S → Prop} (fr : Fr wX_leastOf σ0 σ) (h : x_leastOf_L25 v1 v2 v3 v4 v5 σ Q) (kQ : ∀ r s, Fr wX_leastOf σ0 s → Q r s → Q2 r s) : x_leastOf_L25 v1 v2 v3 v4 v5 σ Q2 := by
  unfold x_leastOf_L25 at h ⊢
  intro Y hY
  exact h (fun v4 v5 s => Fr wX_leastOf σ0 s → Y v4 v5 s) (fun v4 v5 s h f => hY v4 v5 s (fx_leastOf_L25_b (v1 := v1) (v2 := v2) (v3 := v3) (v4 := v4) (v5 := v5) (Q := Q) (Q2 := Q2) (X25 := fun v4 v5 s => Fr wX_leastOf σ0 s → Y v4 v5 s) (X252 := Y) f h kQ (fun v4 v5 s f h => h f))) fr
theorem lx_leastOf_L25 {v1 : Int} {v2 : Int} {v3 : Int} {v4 : Int} {v5 : Int} {σ0 : S} {Q : Int → S → Prop} (I : Int → Int → S → Prop) (me : Int → Int → S → Nat) (h0 : I v4 v5 σ0) (step : ∀ (v4 : Int) (v5 : Int) (s : S), Fr wX_leastOf σ0 s → I v4 v5 s → (fun (Y0 : Int → Int → S → Prop) => (if v5 < v3 then inb 0 3 ∧ ∀ σ_22, σ_22 = pA s 76 0 v4 → x_at v2 v5 σ_22 (fun r_26 σ_25 => inb r_26 200000 ∧ inb 1 3 ∧ ∀ σ_29, σ_29 = pA σ_25 76 1 (gA σ_25 69 r_26) → x_leastBy v1 76 2 σ_29 (fun r_33 σ_32 => Y0 r_33 (w32 (v5 + 1)) σ_32)) else Q v4 s)) (fun v4' v5' s' => I v4' v5' s' ∧ me v4' v5' s' < me v4 v5 s)) : x_leastOf_L25 v1 v2 v3 v4 v5 σ0 Q := by
  unfold x_leastOf_L25
  intro Y hY
  have key : ∀ (n : Nat) (v4 : Int) (v5 : Int) (s : S), me v4 v5 s < n → Fr wX_leastOf σ0 s → I v4 v5 s → Y v4 v5 s := by
    intro n
    induction n with
    | zero => intro v4 v5 s h; exact absurd h (Nat.not_lt_zero _)
    | succ n ih =>
      intro v4 v5 s hm fr hi
      exact hY v4 v5 s (fx_leastOf_L25_b (v1 := v1) (v2 := v2) (v3 := v3) (v4 := v4) (v5 := v5) (Q := Q) (Q2 := Q) (X25 := (fun v4' v5' s' => I v4' v5' s' ∧ me v4' v5' s' < me v4 v5 s)) (X252 := Y) fr (step v4 v5 s fr hi) (fun _ _ _ h => h) (fun v4 v5 s f h => ih v4 v5 s (by omega) f h.1))
  exact key _ v4 v5 σ0 (Nat.lt_succ_self _) Fr.rf h0
theorem fm_x_leastOf {v1 : Int} {v2 : Int} {v3 : Int} {σ0 : S} {Q Q2 : Int → S → Prop} (h : x_leastOf v1 v2 v3 σ0 Q) (kQ : ∀ r s, Fr wX_leastOf σ0 s → Q r s → Q2 r s) : x_leastOf v1 v2 v3 σ0 Q2 := by
  have fr : Fr wX_leastOf σ0 σ0 := Fr.rf
  unfold x_leastOf at h ⊢
  exact ⟨h.1, ite_m (fun _ h1 => fx_leastOf_L81 fr h1 kQ) (fun _ h1 => fm_x_at h1 (fun r_17 σ_16 f h2 => (have f2 : Fr wX_leastOf σ0 σ_16 := (fr.trans (f.weak (by decide +kernel))); ⟨h2.1, fx_leastOf_L25 f2 h2.2 kQ⟩))) h.2⟩
theorem fm_x_sortOfVariable {v1 : Int} {σ0 : S} {Q Q2 : Int → S → Prop} (h : x_sortOfVariable v1 σ0 Q) (kQ : ∀ r s, Fr wX_sortOfVariable σ0 s → Q r s → Q2 r s) : x_sortOfVariable v1 σ0 Q2 := by
  have fr : Fr wX_sortOfVariable σ0 σ0 := Fr.rf
  unfold x_sortOfVariable at h ⊢
  exact ⟨h.1, kQ _ _ fr h.2⟩
theorem fx_nodeOf_j324 {v4 : Int} {v6 : Int} {s0 : Int} {s1 : Int} {σ0 σ : S} {Q Q2 : Int → S → Prop} {E E2 : S → Prop} (fr : Fr wX_nodeOf σ0 σ) (h : x_nodeOf_j324 v4 v6 s0 s1 σ Q E) (kQ : ∀ r s, Fr wX_nodeOf σ0 s → Q r s → Q2 r s) (kE : ∀ s, Fr wX_nodeOf σ0 s → E s → E2 s) : x_nodeOf_j324 v4 v6 s0 s1 σ Q2 E2 := by
  unfold x_nodeOf_j324 at h ⊢
  exact ⟨h.1, fun σ_40 e1 => (have f1 : Fr wX_nodeOf σ0 σ_40 := Fr.putA fr e1 rfl; ⟨(h.2 σ_40 e1).1, ⟨(h.2 σ_40 e1).2.1, fun σ_45 e4 => (have f4 : Fr wX_nodeOf σ0 σ_45 := Fr.putA f1 e4 rfl; ⟨((h.2 σ_40 e1).2.2 σ_45 e4).1, fun σ_48 e6 => (have f6 : Fr wX_nodeOf σ0 σ_48 := Fr.putA f4 e6 rfl; kQ _ _ f6 (((h.2 σ_40 e1).2.2 σ_45 e4).2 σ_48 e6))⟩)⟩⟩)⟩
theorem fx_nodeOf_j279 {v1 : Int} {v3 : Int} {v4 : Int} {v5 : Int} {v6 : Int} {σ0 σ : S} {Q Q2 : Int → S → Prop} {E E2 : S → Prop} (fr : Fr wX_nodeOf σ0 σ) (h : x_nodeOf_j279 v1 v3 v4 v5 v6 σ Q E) (kQ : ∀ r s, Fr wX_nodeOf σ0 s → Q r s → Q2 r s) (kE : ∀ s, Fr wX_nodeOf σ0 s → E s → E2 s) : x_nodeOf_j279 v1 v3 v4 v5 v6 σ Q2 E2 := by
  unfold x_nodeOf_j279 at h ⊢
  exact ⟨h.1, fun σ_30 e1 => (have f1 : Fr wX_nodeOf σ0 σ_30 := Fr.putA fr e1 rfl; ⟨(h.2 σ_30 e1).1, fun σ_33 e3 => (have f3 : Fr wX_nodeOf σ0 σ_33 := Fr.putA f1 e3 rfl; ite_m (fun _ h4 => fm_x_sortOfVariable h4 (fun r_52 σ_51 f h5 => (have f5 : Fr wX_nodeOf σ0 σ_51 := (f3.trans (f.weak (by decide +kernel))); fx_nodeOf_j324 f5 h5 kQ kE))) (fun _ h4 => fm_x_leastOf h4 (fun r_39 σ_38 f h5 => (have f5 : Fr wX_nodeOf σ0 σ_38 := (f3.trans (f.weak (by decide +kernel))); fx_nodeOf_j324 f5 h5 kQ kE))) ((h.2 σ_30 e1).2 σ_33 e3))⟩)⟩
theorem fx_nodeOf_L242_b {v1 : Int} {v2 : Int} {v3 : Int} {v4 : Int} {v5 : Int} {v6 : Int} {v7 : Int} {σ0 σ : S} {Q Q2 : Int → S → Prop} {E E2 : S → Prop} {X242 X2422 : Int → S → Prop} (fr : Fr wX_nodeOf σ0 σ) (h : (if v7 < v3 then ∀ σ_54, σ_54 = pI σ 102 (w32 (gI σ 102 + 1)) → inb (w32 (v2 + v7)) 20000 ∧ inb (gI σ 102) 600000 ∧ ∀ σ_58, σ_58 = pA σ_54 73 (gI σ 102) (gA σ_54 74 (w32 (v2 + v7))) → X242 (w32 (v7 + 1)) σ_58 else x_nodeOf_j279 v1 v3 v4 v5 v6 σ Q E)) (kQ : ∀ r s, Fr wX_nodeOf σ0 s → Q r s → Q2 r s) (kE : ∀ s, Fr wX_nodeOf σ0 s → E s → E2 s) (kX242 : ∀ v7 s, Fr wX_nodeOf σ0 s → X242 v7 s → X2422 v7 s) : (if v7 < v3 then ∀ σ_54, σ_54 = pI σ 102 (w32 (gI σ 102 + 1)) → inb (w32 (v2 + v7)) 20000 ∧ inb (gI σ 102) 600000 ∧ ∀ σ_58, σ_58 = pA σ_54 73 (gI σ 102) (gA σ_54 74 (w32 (v2 + v7))) → X2422 (w32 (v7 + 1)) σ_58 else x_nodeOf_j279 v1 v3 v4 v5 v6 σ Q2 E2) :=
  ite_m (fun _ h0 => fun σ_54 e1 => (have f1 : Fr wX_nodeOf σ0 σ_54 := Fr.putI fr e1 rfl; ⟨(h0 σ_54 e1).1, ⟨(h0 σ_54 e1).2.1, fun σ_58 e4 => (have f4 : Fr wX_nodeOf σ0 σ_58 := Fr.putA f1 e4 rfl; kX242 _ _ f4 ((h0 σ_54 e1).2.2 σ_58 e4))⟩⟩)) (fun _ h0 => fx_nodeOf_j279 fr h0 kQ kE) h
theorem fx_nodeOf_L242 {v1 : Int} {v2 : Int} {v3 : Int} {v4 : Int} {v5 : Int} {v6 : Int} {v7 : Int} {σ0 σ : S} {Q Q2 : Int → S → Prop} {E E2 : S → Prop} (fr : Fr wX_nodeOf σ0 σ) (h : x_nodeOf_L242 v1 v2 v3 v4 v5 v6 v7 σ Q E) (kQ : ∀ r s, Fr wX_nodeOf σ0 s → Q r s → Q2 r s) (kE : ∀ s, Fr wX_nodeOf σ0 s → E s → E2 s) : x_nodeOf_L242 v1 v2 v3 v4 v5 v6 v7 σ Q2 E2 := by
  unfold x_nodeOf_L242 at h ⊢
  intro Y hY
  exact h (fun v7 s => Fr wX_nodeOf σ0 s → Y v7 s) (fun v7 s h f => hY v7 s (fx_nodeOf_L242_b (v1 := v1) (v2 := v2) (v3 := v3) (v4 := v4) (v5 := v5) (v6 := v6) (v7 := v7) (Q := Q) (Q2 := Q2) (E := E) (E2 := E2) (X242 := fun v7 s => Fr wX_nodeOf σ0 s → Y v7 s) (X2422 := Y) f h kQ kE (fun v7 s f h => h f))) fr
theorem lx_nodeOf_L242 {v1 : Int} {v2 : Int} {v3 : Int} {v4 : Int} {v5 : Int} {v6 : Int} {v7 : Int} {σ0 : S} {Q : Int → S → Prop} {E : S → Prop} (I : Int → S → Prop) (me : Int → S → Nat) (h0 : I v7 σ0) (step : ∀ (v7 : Int) (s : S), Fr wX_nodeOf σ0 s → I v7 s → (fun (Y0 : Int → S → Prop) => (if v7 < v3 then ∀ σ_54, σ_54 = pI s 102 (w32 (gI s 102 + 1)) → inb (w32 (v2 + v7)) 20000 ∧ inb (gI s 102) 600000 ∧ ∀ σ_58, σ_58 = pA σ_54 73 (gI s 102) (gA σ_54 74 (w32 (v2 + v7))) → Y0 (w32 (v7 + 1)) σ_58 else x_nodeOf_j279 v1 v3 v4 v5 v6 s Q E)) (fun v7' s' => I v7' s' ∧ me v7' s' < me v7 s)) : x_nodeOf_L242 v1 v2 v3 v4 v5 v6 v7 σ0 Q E := by
  unfold x_nodeOf_L242
  intro Y hY
  have key : ∀ (n : Nat) (v7 : Int) (s : S), me v7 s < n → Fr wX_nodeOf σ0 s → I v7 s → Y v7 s := by
    intro n
    induction n with
    | zero => intro v7 s h; exact absurd h (Nat.not_lt_zero _)
    | succ n ih =>
      intro v7 s hm fr hi
      exact hY v7 s (fx_nodeOf_L242_b (v1 := v1) (v2 := v2) (v3 := v3) (v4 := v4) (v5 := v5) (v6 := v6) (v7 := v7) (Q := Q) (Q2 := Q) (E := E) (E2 := E) (X242 := (fun v7' s' => I v7' s' ∧ me v7' s' < me v7 s)) (X2422 := Y) fr (step v7 s fr hi) (fun _ _ _ h => h) (fun _ _ h => h) (fun v7 s f h => ih v7 s (by omega) f h.1))
  exact key _ v7 σ0 (Nat.lt_succ_self _) Fr.rf h0
theorem fx_nodeOf_j163 {v1 : Int} {v2 : Int} {v3 : Int} {v4 : Int} {v5 : Int} {σ0 σ : S} {Q Q2 : Int → S → Prop} {E E2 : S → Prop} (fr : Fr wX_nodeOf σ0 σ) (h : x_nodeOf_j163 v1 v2 v3 v4 v5 σ Q E) (kQ : ∀ r s, Fr wX_nodeOf σ0 s → Q r s → Q2 r s) (kE : ∀ s, Fr wX_nodeOf σ0 s → E s → E2 s) : x_nodeOf_j163 v1 v2 v3 v4 v5 σ Q2 E2 := by
  unfold x_nodeOf_j163 at h ⊢
  exact ite_m (fun _ h0 => fm_x_stop h0 (fun _ σ_14 f h1 => (have f1 : Fr wX_nodeOf σ0 σ_14 := (fr.trans (f.weak (by decide +kernel))); kE _ f1 h1))) (fun _ h0 => fun σ_16 e1 => (have f1 : Fr wX_nodeOf σ0 σ_16 := Fr.putI fr e1 rfl; ⟨(h0 σ_16 e1).1, fun σ_18 e3 => (have f3 : Fr wX_nodeOf σ0 σ_18 := Fr.putA f1 e3 rfl; ⟨((h0 σ_16 e1).2 σ_18 e3).1, fun σ_21 e5 => (have f5 : Fr wX_nodeOf σ0 σ_21 := Fr.putA f3 e5 rfl; ⟨(((h0 σ_16 e1).2 σ_18 e3).2 σ_21 e5).1, fun σ_25 e7 => (have f7 : Fr wX_nodeOf σ0 σ_25 := Fr.putA f5 e7 rfl; fx_nodeOf_L242 f7 ((((h0 σ_16 e1).2 σ_18 e3).2 σ_21 e5).2 σ_25 e7) kQ kE)⟩)⟩)⟩)) h
theorem fx_nodeOf_L132_b {v1 : Int} {v2 : Int} {v3 : Int} {v4 : Int} {v5 : Int} {v6 : Int} {σ0 σ : S} {Q Q2 : Int → S → Prop} {E E2 : S → Prop} {X132 X1322 : Int → Int → S → Prop} (fr : Fr wX_nodeOf σ0 σ) (h : (if v6 < v3 then inb (w32 (v2 + v6)) 20000 ∧ inb (gA σ 74 (w32 (v2 + v6))) 200000 ∧ X132 (w32 (v5 + (gA σ 70 (gA σ 74 (w32 (v2 + v6)))))) (w32 (v6 + 1)) σ else x_nodeOf_j163 v1 v2 v3 v4 v5 σ Q E)) (kQ : ∀ r s, Fr wX_nodeOf σ0 s → Q r s → Q2 r s) (kE : ∀ s, Fr wX_nodeOf σ0 s → E s → E2 s) (kX132 : ∀ v5 v6 s, Fr wX_nodeOf σ0 s → X132 v5 v6 s → X1322 v5 v6 s) : (if v6 < v3 then inb (w32 (v2 + v6)) 20000 ∧ inb (gA σ 74 (w32 (v2 + v6))) 200000 ∧ X1322 (w32 (v5 + (gA σ 70 (gA σ 74 (w32 (v2 + v6)))))) (w32 (v6 + 1)) σ else x_nodeOf_j163 v1 v2 v3 v4 v5 σ Q2 E2) :=
  ite_m (fun _ h0 => ⟨h0.1, ⟨h0.2.1, kX132 _ _ _ fr h0.2.2⟩⟩) (fun _ h0 => fx_nodeOf_j163 fr h0 kQ kE) h
theorem fx_nodeOf_L132 {v1 : Int} {v2 : Int} {v3 : Int} {v4 : Int} {v5 : Int} {v6 : Int} {σ0 σ : S} {Q Q2 : Int → S → Prop} {E E2 : S → Prop} (fr : Fr wX_nodeOf σ0 σ) (h : x_nodeOf_L132 v1 v2 v3 v4 v5 v6 σ Q E) (kQ : ∀ r s, Fr wX_nodeOf σ0 s → Q r s → Q2 r s) (kE : ∀ s, Fr wX_nodeOf σ0 s → E s → E2 s) : x_nodeOf_L132 v1 v2 v3 v4 v5 v6 σ Q2 E2 := by
  unfold x_nodeOf_L132 at h ⊢
  intro Y hY
  exact h (fun v5 v6 s => Fr wX_nodeOf σ0 s → Y v5 v6 s) (fun v5 v6 s h f => hY v5 v6 s (fx_nodeOf_L132_b (v1 := v1) (v2 := v2) (v3 := v3) (v4 := v4) (v5 := v5) (v6 := v6) (Q := Q) (Q2 := Q2) (E := E) (E2 := E2) (X132 := fun v5 v6 s => Fr wX_nodeOf σ0 s → Y v5 v6 s) (X1322 := Y) f h kQ kE (fun v5 v6 s f h => h f))) fr
theorem lx_nodeOf_L132 {v1 : Int} {v2 : Int} {v3 : Int} {v4 : Int} {v5 : Int} {v6 : Int} {σ0 : S} {Q : Int → S → Prop} {E : S → Prop} (I : Int → Int → S → Prop) (me : Int → Int → S → Nat) (h0 : I v5 v6 σ0) (step : ∀ (v5 : Int) (v6 : Int) (s : S), Fr wX_nodeOf σ0 s → I v5 v6 s → (fun (Y0 : Int → Int → S → Prop) => (if v6 < v3 then inb (w32 (v2 + v6)) 20000 ∧ inb (gA s 74 (w32 (v2 + v6))) 200000 ∧ Y0 (w32 (v5 + (gA s 70 (gA s 74 (w32 (v2 + v6)))))) (w32 (v6 + 1)) s else x_nodeOf_j163 v1 v2 v3 v4 v5 s Q E)) (fun v5' v6' s' => I v5' v6' s' ∧ me v5' v6' s' < me v5 v6 s)) : x_nodeOf_L132 v1 v2 v3 v4 v5 v6 σ0 Q E := by
  unfold x_nodeOf_L132
  intro Y hY
  have key : ∀ (n : Nat) (v5 : Int) (v6 : Int) (s : S), me v5 v6 s < n → Fr wX_nodeOf σ0 s → I v5 v6 s → Y v5 v6 s := by
    intro n
    induction n with
    | zero => intro v5 v6 s h; exact absurd h (Nat.not_lt_zero _)
    | succ n ih =>
      intro v5 v6 s hm fr hi
      exact hY v5 v6 s (fx_nodeOf_L132_b (v1 := v1) (v2 := v2) (v3 := v3) (v4 := v4) (v5 := v5) (v6 := v6) (Q := Q) (Q2 := Q) (E := E) (E2 := E) (X132 := (fun v5' v6' s' => I v5' v6' s' ∧ me v5' v6' s' < me v5 v6 s)) (X1322 := Y) fr (step v5 v6 s fr hi) (fun _ _ _ h => h) (fun _ _ h => h) (fun v5 v6 s f h => ih v5 v6 s (by omega) f h.1))
  exact key _ v5 v6 σ0 (Nat.lt_succ_self _) Fr.rf h0
theorem fx_nodeOf_j126 {v1 : Int} {v2 : Int} {v3 : Int} {v4 : Int} {σ0 σ : S} {Q Q2 : Int → S → Prop} {E E2 : S → Prop} (fr : Fr wX_nodeOf σ0 σ) (h : x_nodeOf_j126 v1 v2 v3 v4 σ Q E) (kQ : ∀ r s, Fr wX_nodeOf σ0 s → Q r s → Q2 r s) (kE : ∀ s, Fr wX_nodeOf σ0 s → E s → E2 s) : x_nodeOf_j126 v1 v2 v3 v4 σ Q2 E2 := by
  unfold x_nodeOf_j126 at h ⊢
  exact fx_nodeOf_L132 fr h kQ kE
theorem fx_nodeOf_j106 {v1 : Int} {v2 : Int} {v3 : Int} {v4 : Int} {v5 : Int} {v6 : Int} {σ0 σ : S} {Q Q2 : Int → S → Prop} {E E2 : S → Prop} {X18 X182 : Int → S → Prop} (fr : Fr wX_nodeOf σ0 σ) (h : x_nodeOf_j106 v1 v2 v3 v4 v5 v6 σ Q E X18) (kQ : ∀ r s, Fr wX_nodeOf σ0 s → Q r s → Q2 r s) (kE : ∀ s, Fr wX_nodeOf σ0 s → E s → E2 s) (kX18 : ∀ a0 s, Fr wX_nodeOf σ0 s → X18 a0 s → X182 a0 s) : x_nodeOf_j106 v1 v2 v3 v4 v5 v6 σ Q2 E2 X182 := by
  unfold x_nodeOf_j106 at h ⊢
  exact ite_m (fun _ h0 => ⟨h0.1, kX18 _ _ fr h0.2⟩) (fun _ h0 => kQ _ _ fr h0) h
theorem fx_nodeOf_L55_b {v1 : Int} {v2 : Int} {v3 : Int} {v4 : Int} {v5 : Int} {v6 : Int} {v7 : Int} {σ0 σ : S} {Q Q2 : Int → S → Prop} {E E2 : S → Prop} {X18 X182 : Int → S → Prop} {X55 X552 : Int → Int → S → Prop} (fr : Fr wX_nodeOf σ0 σ) (h : (if v7 < v3 then (if v6 = 0 then x_nodeOf_j106 v1 v2 v3 v4 v5 v6 σ Q E X18 else inb v5 200000 ∧ inb (w32 (gA σ 67 v5 + v7)) 600000 ∧ inb (w32 (v2 + v7)) 20000 ∧ X55 (bi (gA σ 73 (w32 (gA σ 67 v5 + v7)) = gA σ 74 (w32 (v2 + v7)))) (w32 (v7 + 1)) σ) else x_nodeOf_j106 v1 v2 v3 v4 v5 v6 σ Q E X18)) (kQ : ∀ r s, Fr wX_nodeOf σ0 s → Q r s → Q2 r s) (kE : ∀ s, Fr wX_nodeOf σ0 s → E s → E2 s) (kX18 : ∀ a0 s, Fr wX_nodeOf σ0 s → X18 a0 s → X182 a0 s) (kX55 : ∀ v6 v7 s, Fr wX_nodeOf σ0 s → X55 v6 v7 s → X552 v6 v7 s) : (if v7 < v3 then (if v6 = 0 then x_nodeOf_j106 v1 v2 v3 v4 v5 v6 σ Q2 E2 X182 else inb v5 200000 ∧ inb (w32 (gA σ 67 v5 + v7)) 600000 ∧ inb (w32 (v2 + v7)) 20000 ∧ X552 (bi (gA σ 73 (w32 (gA σ 67 v5 + v7)) = gA σ 74 (w32 (v2 + v7)))) (w32 (v7 + 1)) σ) else x_nodeOf_j106 v1 v2 v3 v4 v5 v6 σ Q2 E2 X182) :=
  ite_m (fun _ h0 => ite_m (fun _ h1 => fx_nodeOf_j106 fr h1 kQ kE kX18) (fun _ h1 => ⟨h1.1, ⟨h1.2.1, ⟨h1.2.2.1, kX55 _ _ _ fr h1.2.2.2⟩⟩⟩) h0) (fun _ h0 => fx_nodeOf_j106 fr h0 kQ kE kX18) h
theorem fx_nodeOf_L55 {v1 : Int} {v2 : Int} {v3 : Int} {v4 : Int} {v5 : Int} {v6 : Int} {v7 : Int} {σ0 σ : S} {Q Q2 : Int → S → Prop} {E E2 : S → Prop} {X18 X182 : Int → S → Prop} (fr : Fr wX_nodeOf σ0 σ) (h : x_nodeOf_L55 v1 v2 v3 v4 v5 v6 v7 σ Q E X18) (kQ : ∀ r s, Fr wX_nodeOf σ0 s → Q r s → Q2 r s) (kE : ∀ s, Fr wX_nodeOf σ0 s → E s → E2 s) (kX18 : ∀ a0 s, Fr wX_nodeOf σ0 s → X18 a0 s → X182 a0 s) : x_nodeOf_L55 v1 v2 v3 v4 v5 v6 v7 σ Q2 E2 X182 := by
  unfold x_nodeOf_L55 at h ⊢
  intro Y hY
  exact h (fun v6 v7 s => Fr wX_nodeOf σ0 s → Y v6 v7 s) (fun v6 v7 s h f => hY v6 v7 s (fx_nodeOf_L55_b (v1 := v1) (v2 := v2) (v3 := v3) (v4 := v4) (v5 := v5) (v6 := v6) (v7 := v7) (Q := Q) (Q2 := Q2) (E := E) (E2 := E2) (X18 := X18) (X182 := X182) (X55 := fun v6 v7 s => Fr wX_nodeOf σ0 s → Y v6 v7 s) (X552 := Y) f h kQ kE kX18 (fun v6 v7 s f h => h f))) fr
theorem lx_nodeOf_L55 {v1 : Int} {v2 : Int} {v3 : Int} {v4 : Int} {v5 : Int} {v6 : Int} {v7 : Int} {σ0 : S} {Q : Int → S → Prop} {E : S → Prop} {X18 : Int → S → Prop} (I : Int → Int → S → Prop) (me : Int → Int → S → Nat) (h0 : I v6 v7 σ0) (step : ∀ (v6 : Int) (v7 : Int) (s : S), Fr wX_nodeOf σ0 s → I v6 v7 s → (fun (Y0 : Int → Int → S → Prop) => (if v7 < v3 then (if v6 = 0 then x_nodeOf_j106 v1 v2 v3 v4 v5 v6 s Q E X18 else inb v5 200000 ∧ inb (w32 (gA s 67 v5 + v7)) 600000 ∧ inb (w32 (v2 + v7)) 20000 ∧ Y0 (bi (gA s 73 (w32 (gA s 67 v5 + v7)) = gA s 74 (w32 (v2 + v7)))) (w32 (v7 + 1)) s) else x_nodeOf_j106 v1 v2 v3 v4 v5 v6 s Q E X18)) (fun v6' v7' s' => I v6' v7' s' ∧ me v6' v7' s' < me v6 v7 s)) : x_nodeOf_L55 v1 v2 v3 v4 v5 v6 v7 σ0 Q E X18 := by
  unfold x_nodeOf_L55
  intro Y hY
  have key : ∀ (n : Nat) (v6 : Int) (v7 : Int) (s : S), me v6 v7 s < n → Fr wX_nodeOf σ0 s → I v6 v7 s → Y v6 v7 s := by
    intro n
    induction n with
    | zero => intro v6 v7 s h; exact absurd h (Nat.not_lt_zero _)
    | succ n ih =>
      intro v6 v7 s hm fr hi
      exact hY v6 v7 s (fx_nodeOf_L55_b (v1 := v1) (v2 := v2) (v3 := v3) (v4 := v4) (v5 := v5) (v6 := v6) (v7 := v7) (Q := Q) (Q2 := Q) (E := E) (E2 := E) (X18 := X18) (X182 := X18) (X55 := (fun v6' v7' s' => I v6' v7' s' ∧ me v6' v7' s' < me v6 v7 s)) (X552 := Y) fr (step v6 v7 s fr hi) (fun _ _ _ h => h) (fun _ _ h => h) (fun _ _ _ h => h) (fun v6 v7 s f h => ih v6 v7 s (by omega) f h.1))
  exact key _ v6 v7 σ0 (Nat.lt_succ_self _) Fr.rf h0
theorem fx_nodeOf_L18_b {v1 : Int} {v2 : Int} {v3 : Int} {v4 : Int} {v5 : Int} {σ0 σ : S} {Q Q2 : Int → S → Prop} {E E2 : S → Prop} {X18 X182 : Int → S → Prop} (fr : Fr wX_nodeOf σ0 σ) (h : (if v5 = 0 then x_nodeOf_j126 v1 v2 v3 v4 σ Q E else inb v5 200000 ∧ ((gA σ 66 v5 = v1) → (inb v5 200000)) ∧ x_nodeOf_L55 v1 v2 v3 v4 v5 (bi ((gA σ 66 v5 = v1) ∧ (gA σ 68 v5 = v3))) 0 σ Q E X18)) (kQ : ∀ r s, Fr wX_nodeOf σ0 s → Q r s → Q2 r s) (kE : ∀ s, Fr wX_nodeOf σ0 s → E s → E2 s) (kX18 : ∀ v5 s, Fr wX_nodeOf σ0 s → X18 v5 s → X182 v5 s) : (if v5 = 0 then x_nodeOf_j126 v1 v2 v3 v4 σ Q2 E2 else inb v5 200000 ∧ ((gA σ 66 v5 = v1) → (inb v5 200000)) ∧ x_nodeOf_L55 v1 v2 v3 v4 v5 (bi ((gA σ 66 v5 = v1) ∧ (gA σ 68 v5 = v3))) 0 σ Q2 E2 X182) :=
  ite_m (fun _ h0 => fx_nodeOf_j126 fr h0 kQ kE) (fun _ h0 => ⟨h0.1, ⟨h0.2.1, fx_nodeOf_L55 fr h0.2.2 kQ kE kX18⟩⟩) h
theorem fx_nodeOf_L18 {v1 : Int} {v2 : Int} {v3 : Int} {v4 : Int} {v5 : Int} {σ0 σ : S} {Q Q2 : Int → S → Prop} {E E2 : S → Prop} (fr : Fr wX_nodeOf σ0 σ) (h : x_nodeOf_L18 v1 v2 v3 v4 v5 σ Q E) (kQ : ∀ r s, Fr wX_nodeOf σ0 s → Q r s → Q2 r s) (kE : ∀ s, Fr wX_nodeOf σ0 s → E s → E2 s) : x_nodeOf_L18 v1 v2 v3 v4 v5 σ Q2 E2 := by
  unfold x_nodeOf_L18 at h ⊢
  intro Y hY
  exact h (fun v5 s => Fr wX_nodeOf σ0 s → Y v5 s) (fun v5 s h f => hY v5 s (fx_nodeOf_L18_b (v1 := v1) (v2 := v2) (v3 := v3) (v4 := v4) (v5 := v5) (Q := Q) (Q2 := Q2) (E := E) (E2 := E2) (X18 := fun v5 s => Fr wX_nodeOf σ0 s → Y v5 s) (X182 := Y) f h kQ kE (fun v5 s f h => h f))) fr
theorem lx_nodeOf_L18 {v1 : Int} {v2 : Int} {v3 : Int} {v4 : Int} {v5 : Int} {σ0 : S} {Q : Int → S → Prop} {E : S → Prop} (I : Int → S → Prop) (me : Int → S → Nat) (h0 : I v5 σ0) (step : ∀ (v5 : Int) (s : S), Fr wX_nodeOf σ0 s → I v5 s → (fun (Y0 : Int → S → Prop) => (if v5 = 0 then x_nodeOf_j126 v1 v2 v3 v4 s Q E else inb v5 200000 ∧ ((gA s 66 v5 = v1) → (inb v5 200000)) ∧ x_nodeOf_L55 v1 v2 v3 v4 v5 (bi ((gA s 66 v5 = v1) ∧ (gA s 68 v5 = v3))) 0 s Q E Y0)) (fun v5' s' => I v5' s' ∧ me v5' s' < me v5 s)) : x_nodeOf_L18 v1 v2 v3 v4 v5 σ0 Q E := by
  unfold x_nodeOf_L18
  intro Y hY
  have key : ∀ (n : Nat) (v5 : Int) (s : S), me v5 s < n → Fr wX_nodeOf σ0 s → I v5 s → Y v5 s := by
    intro n
    induction n with
    | zero => intro v5 s h; exact absurd h (Nat.not_lt_zero _)
    | succ n ih =>
      intro v5 s hm fr hi
      exact hY v5 s (fx_nodeOf_L18_b (v1 := v1) (v2 := v2) (v3 := v3) (v4 := v4) (v5 := v5) (Q := Q) (Q2 := Q) (E := E) (E2 := E) (X18 := (fun v5' s' => I v5' s' ∧ me v5' s' < me v5 s)) (X182 := Y) fr (step v5 s fr hi) (fun _ _ _ h => h) (fun _ _ h => h) (fun v5 s f h => ih v5 s (by omega) f h.1))
  exact key _ v5 σ0 (Nat.lt_succ_self _) Fr.rf h0
theorem fm_x_nodeOf {v1 : Int} {v2 : Int} {v3 : Int} {σ0 : S} {Q Q2 : Int → S → Prop} {E E2 : S → Prop} (h : x_nodeOf v1 v2 v3 σ0 Q E) (kQ : ∀ r s, Fr wX_nodeOf σ0 s → Q r s → Q2 r s) (kE : ∀ s, Fr wX_nodeOf σ0 s → E s → E2 s) : x_nodeOf v1 v2 v3 σ0 Q2 E2 := by
  have fr : Fr wX_nodeOf σ0 σ0 := Fr.rf
  unfold x_nodeOf at h ⊢
  exact fm_x_slotOf h (fun r_2 σ_1 f h0 => (have f0 : Fr wX_nodeOf σ0 σ_1 := (fr.trans (f.weak (by decide +kernel))); ⟨h0.1, fx_nodeOf_L18 f0 h0.2 kQ kE⟩))
theorem fx_dropNodes_j125 {σ0 σ : S} {Q Q2 : Int → S → Prop} (fr : Fr wX_dropNodes σ0 σ) (h : x_dropNodes_j125  σ Q) (kQ : ∀ r s, Fr wX_dropNodes σ0 s → Q r s → Q2 r s) : x_dropNodes_j125  σ Q2 := by
  unfold x_dropNodes_j125 at h ⊢
  exact fun σ_14 e0 => (have f0 : Fr wX_dropNodes σ0 σ_14 := Fr.putI fr e0 rfl; kQ _ _ f0 (h σ_14 e0))
theorem fx_dropNodes_L104_b {v1 : Int} {σ0 σ : S} {Q Q2 : Int → S → Prop} {X104 X1042 : Int → S → Prop} (fr : Fr wX_dropNodes σ0 σ) (h : (if v1 < gI σ 94 then inb v1 200000 ∧ ∀ σ_16, σ_16 = pA σ 75 v1 0 → X104 (w32 (v1 + 1)) σ_16 else x_dropNodes_j125 σ Q)) (kQ : ∀ r s, Fr wX_dropNodes σ0 s → Q r s → Q2 r s) (kX104 : ∀ v1 s, Fr wX_dropNodes σ0 s → X104 v1 s → X1042 v1 s) : (if v1 < gI σ 94 then inb v1 200000 ∧ ∀ σ_16, σ_16 = pA σ 75 v1 0 → X1042 (w32 (v1 + 1)) σ_16 else x_dropNodes_j125 σ Q2) :=
  ite_m (fun _ h0 => ⟨h0.1, fun σ_16 e2 => (have f2 : Fr wX_dropNodes σ0 σ_16 := Fr.putA fr e2 rfl; kX104 _ _ f2 (h0.2 σ_16 e2))⟩) (fun _ h0 => fx_dropNodes_j125 fr h0 kQ) h
theorem fx_dropNodes_L104 {v1 : Int} {σ0 σ : S} {Q Q2 : Int → S → Prop} (fr : Fr wX_dropNodes σ0 σ) (h : x_dropNodes_L104 v1 σ Q) (kQ : ∀ r s, Fr wX_dropNodes σ0 s → Q r s → Q2 r s) : x_dropNodes_L104 v1 σ Q2 := by
  unfold x_dropNodes_L104 at h ⊢
  intro Y hY
  exact h (fun v1 s => Fr wX_dropNodes σ0 s → Y v1 s) (fun v1 s h f => hY v1 s (fx_dropNodes_L104_b (v1 := v1) (Q := Q) (Q2 := Q2) (X104 := fun v1 s => Fr wX_dropNodes σ0 s → Y v1 s) (X1042 := Y) f h kQ (fun v1 s f h => h f))) fr
theorem lx_dropNodes_L104 {v1 : Int} {σ0 : S} {Q : Int → S → Prop} (I : Int → S → Prop) (me : Int → S → Nat) (h0 : I v1 σ0) (step : ∀ (v1 : Int) (s : S), Fr wX_dropNodes σ0 s → I v1 s → (fun (Y0 : Int → S → Prop) => (if v1 < gI s 94 then inb v1 200000 ∧ ∀ σ_16, σ_16 = pA s 75 v1 0 → Y0 (w32 (v1 + 1)) σ_16 else x_dropNodes_j125 s Q)) (fun v1' s' => I v1' s' ∧ me v1' s' < me v1 s)) : x_dropNodes_L104 v1 σ0 Q := by
  unfold x_dropNodes_L104
  intro Y hY
  have key : ∀ (n : Nat) (v1 : Int) (s : S), me v1 s < n → Fr wX_dropNodes σ0 s → I v1 s → Y v1 s := by
    intro n
    induction n with
    | zero => intro v1 s h; exact absurd h (Nat.not_lt_zero _)
    | succ n ih =>
      intro v1 s hm fr hi
      exact hY v1 s (fx_dropNodes_L104_b (v1 := v1) (Q := Q) (Q2 := Q) (X104 := (fun v1' s' => I v1' s' ∧ me v1' s' < me v1 s)) (X1042 := Y) fr (step v1 s fr hi) (fun _ _ _ h => h) (fun v1 s f h => ih v1 s (by omega) f h.1))
  exact key _ v1 σ0 (Nat.lt_succ_self _) Fr.rf h0
theorem fx_dropNodes_j86 {σ0 σ : S} {Q Q2 : Int → S → Prop} (fr : Fr wX_dropNodes σ0 σ) (h : x_dropNodes_j86  σ Q) (kQ : ∀ r s, Fr wX_dropNodes σ0 s → Q r s → Q2 r s) : x_dropNodes_j86  σ Q2 := by
  unfold x_dropNodes_j86 at h ⊢
  exact fun σ_6 e0 => (have f0 : Fr wX_dropNodes σ0 σ_6 := Fr.putI fr e0 rfl; fun σ_9 e1 => (have f1 : Fr wX_dropNodes σ0 σ_9 := Fr.putI f0 e1 rfl; fx_dropNodes_L104 f1 ((h σ_6 e0) σ_9 e1) kQ))
theorem fx_dropNodes_j52 {v1 : Int} {σ0 σ : S} {Q Q2 : Int → S → Prop} {X7 X72 : Int → S → Prop} (fr : Fr wX_dropNodes σ0 σ) (h : x_dropNodes_j52 v1 σ Q X7) (kQ : ∀ r s, Fr wX_dropNodes σ0 s → Q r s → Q2 r s) (kX7 : ∀ a0 s, Fr wX_dropNodes σ0 s → X7 a0 s → X72 a0 s) : x_dropNodes_j52 v1 σ Q2 X72 := by
  unfold x_dropNodes_j52 at h ⊢
  exact ⟨h.1, ⟨h.2.1, fm_x_slotOf h.2.2 (fun r_28 σ_27 f h2 => (have f2 : Fr wX_dropNodes σ0 σ_27 := (fr.trans (f.weak (by decide +kernel))); ⟨h2.1, ⟨h2.2.1, fun σ_31 e5 => (have f5 : Fr wX_dropNodes σ0 σ_31 := Fr.putA f2 e5 rfl; kX7 _ _ f5 (h2.2.2 σ_31 e5))⟩⟩))⟩⟩
theorem fx_dropNodes_L17_b {v1 : Int} {v2 : Int} {σ0 σ : S} {Q Q2 : Int → S → Prop} {X7 X72 : Int → S → Prop} {X17 X172 : Int → S → Prop} (fr : Fr wX_dropNodes σ0 σ) (h : inb v1 200000 ∧ (if v2 < gA σ 68 v1 then inb v1 200000 ∧ inb (w32 (gA σ 67 v1 + v2)) 600000 ∧ inb v2 20000 ∧ ∀ σ_38, σ_38 = pA σ 74 v2 (gA σ 73 (w32 (gA σ 67 v1 + v2))) → X17 (w32 (v2 + 1)) σ_38 else x_dropNodes_j52 v1 σ Q X7)) (kQ : ∀ r s, Fr wX_dropNodes σ0 s → Q r s → Q2 r s) (kX7 : ∀ a0 s, Fr wX_dropNodes σ0 s → X7 a0 s → X72 a0 s) (kX17 : ∀ v2 s, Fr wX_dropNodes σ0 s → X17 v2 s → X172 v2 s) : inb v1 200000 ∧ (if v2 < gA σ 68 v1 then inb v1 200000 ∧ inb (w32 (gA σ 67 v1 + v2)) 600000 ∧ inb v2 20000 ∧ ∀ σ_38, σ_38 = pA σ 74 v2 (gA σ 73 (w32 (gA σ 67 v1 + v2))) → X172 (w32 (v2 + 1)) σ_38 else x_dropNodes_j52 v1 σ Q2 X72) :=
  ⟨h.1, ite_m (fun _ h1 => ⟨h1.1, ⟨h1.2.1, ⟨h1.2.2.1, fun σ_38 e5 => (have f5 : Fr wX_dropNodes σ0 σ_38 := Fr.putA fr e5 rfl; kX17 _ _ f5 (h1.2.2.2 σ_38 e5))⟩⟩⟩) (fun _ h1 => fx_dropNodes_j52 fr h1 kQ kX7) h.2⟩
theorem fx_dropNodes_L17 {v1 : Int} {v2 : Int} {σ0 σ : S} {Q Q2 : Int → S → Prop} {X7 X72 : Int → S → Prop} (fr : Fr wX_dropNodes σ0 σ) (h : x_dropNodes_L17 v1 v2 σ Q X7) (kQ : ∀ r s, Fr wX_dropNodes σ0 s → Q r s → Q2 r s) (kX7 : ∀ a0 s, Fr wX_dropNodes σ0 s → X7 a0 s → X72 a0 s) : x_dropNodes_L17 v1 v2 σ Q2 X72 := by
  unfold x_dropNodes_L17 at h ⊢
  intro Y hY
  exact h (fun v2 s => Fr wX_dropNodes σ0 s → Y v2 s) (fun v2 s h f => hY v2 s (fx_dropNodes_L17_b (v1 := v1) (v2 := v2) (Q := Q) (Q2 := Q2) (X7 := X7) (X72 := X72) (X17 := fun v2 s => Fr wX_dropNodes σ0 s → Y v2 s) (X172 := Y) f h kQ kX7 (fun v2 s f h => h f))) fr
theorem lx_dropNodes_L17 {v1 : Int} {v2 : Int} {σ0 : S} {Q : Int → S → Prop} {X7 : Int → S → Prop} (I : Int → S → Prop) (me : Int → S → Nat) (h0 : I v2 σ0) (step : ∀ (v2 : Int) (s : S), Fr wX_dropNodes σ0 s → I v2 s → (fun (Y0 : Int → S → Prop) => inb v1 200000 ∧ (if v2 < gA s 68 v1 then inb v1 200000 ∧ inb (w32 (gA s 67 v1 + v2)) 600000 ∧ inb v2 20000 ∧ ∀ σ_38, σ_38 = pA s 74 v2 (gA s 73 (w32 (gA s 67 v1 + v2))) → Y0 (w32 (v2 + 1)) σ_38 else x_dropNodes_j52 v1 s Q X7)) (fun v2' s' => I v2' s' ∧ me v2' s' < me v2 s)) : x_dropNodes_L17 v1 v2 σ0 Q X7 := by
  unfold x_dropNodes_L17
  intro Y hY
  have key : ∀ (n : Nat) (v2 : Int) (s : S), me v2 s < n → Fr wX_dropNodes σ0 s → I v2 s → Y v2 s := by
    intro n
    induction n with
    | zero => intro v2 s h; exact absurd h (Nat.not_lt_zero _)
    | succ n ih =>
      intro v2 s hm fr hi
      exact hY v2 s (fx_dropNodes_L17_b (v1 := v1) (v2 := v2) (Q := Q) (Q2 := Q) (X7 := X7) (X72 := X7) (X17 := (fun v2' s' => I v2' s' ∧ me v2' s' < me v2 s)) (X172 := Y) fr (step v2 s fr hi) (fun _ _ _ h => h) (fun _ _ _ h => h) (fun v2 s f h => ih v2 s (by omega) f h.1))
  exact key _ v2 σ0 (Nat.lt_succ_self _) Fr.rf h0
theorem fx_dropNodes_L7_b {v1 : Int} {σ0 σ : S} {Q Q2 : Int → S → Prop} {X7 X72 : Int → S → Prop} (fr : Fr wX_dropNodes σ0 σ) (h : (if v1 < gI σ 94 then x_dropNodes_j86 σ Q else x_dropNodes_L17 v1 0 σ Q X7)) (kQ : ∀ r s, Fr wX_dropNodes σ0 s → Q r s → Q2 r s) (kX7 : ∀ v1 s, Fr wX_dropNodes σ0 s → X7 v1 s → X72 v1 s) : (if v1 < gI σ 94 then x_dropNodes_j86 σ Q2 else x_dropNodes_L17 v1 0 σ Q2 X72) :=
  ite_m (fun _ h0 => fx_dropNodes_j86 fr h0 kQ) (fun _ h0 => fx_dropNodes_L17 fr h0 kQ kX7) h
theorem fx_dropNodes_L7 {v1 : Int} {σ0 σ : S} {Q Q2 : Int → S → Prop} (fr : Fr wX_dropNodes σ0 σ) (h : x_dropNodes_L7 v1 σ Q) (kQ : ∀ r s, Fr wX_dropNodes σ0 s → Q r s → Q2 r s) : x_dropNodes_L7 v1 σ Q2 := by
  unfold x_dropNodes_L7 at h ⊢
  intro Y hY
  exact h (fun v1 s => Fr wX_dropNodes σ0 s → Y v1 s) (fun v1 s h f => hY v1 s (fx_dropNodes_L7_b (v1 := v1) (Q := Q) (Q2 := Q2) (X7 := fun v1 s => Fr wX_dropNodes σ0 s → Y v1 s) (X72 := Y) f h kQ (fun v1 s f h => h f))) fr
theorem lx_dropNodes_L7 {v1 : Int} {σ0 : S} {Q : Int → S → Prop} (I : Int → S → Prop) (me : Int → S → Nat) (h0 : I v1 σ0) (step : ∀ (v1 : Int) (s : S), Fr wX_dropNodes σ0 s → I v1 s → (fun (Y0 : Int → S → Prop) => (if v1 < gI s 94 then x_dropNodes_j86 s Q else x_dropNodes_L17 v1 0 s Q Y0)) (fun v1' s' => I v1' s' ∧ me v1' s' < me v1 s)) : x_dropNodes_L7 v1 σ0 Q := by
  unfold x_dropNodes_L7
  intro Y hY
  have key : ∀ (n : Nat) (v1 : Int) (s : S), me v1 s < n → Fr wX_dropNodes σ0 s → I v1 s → Y v1 s := by
    intro n
    induction n with
    | zero => intro v1 s h; exact absurd h (Nat.not_lt_zero _)
    | succ n ih =>
      intro v1 s hm fr hi
      exact hY v1 s (fx_dropNodes_L7_b (v1 := v1) (Q := Q) (Q2 := Q) (X7 := (fun v1' s' => I v1' s' ∧ me v1' s' < me v1 s)) (X72 := Y) fr (step v1 s fr hi) (fun _ _ _ h => h) (fun v1 s f h => ih v1 s (by omega) f h.1))
  exact key _ v1 σ0 (Nat.lt_succ_self _) Fr.rf h0
theorem fm_x_dropNodes {σ0 : S} {Q Q2 : Int → S → Prop} (h : x_dropNodes  σ0 Q) (kQ : ∀ r s, Fr wX_dropNodes σ0 s → Q r s → Q2 r s) : x_dropNodes  σ0 Q2 := by
  have fr : Fr wX_dropNodes σ0 σ0 := Fr.rf
  unfold x_dropNodes at h ⊢
  exact fx_dropNodes_L7 fr h kQ
theorem fm_x_variableNode {v1 : Int} {σ0 : S} {Q Q2 : Int → S → Prop} {E E2 : S → Prop} (h : x_variableNode v1 σ0 Q E) (kQ : ∀ r s, Fr wX_variableNode σ0 s → Q r s → Q2 r s) (kE : ∀ s, Fr wX_variableNode σ0 s → E s → E2 s) : x_variableNode v1 σ0 Q2 E2 := by
  have fr : Fr wX_variableNode σ0 σ0 := Fr.rf
  unfold x_variableNode at h ⊢
  exact fm_x_nodeOf h (fun r_3 σ_2 f h0 => (have f0 : Fr wX_variableNode σ0 σ_2 := (fr.trans (f.weak (by decide +kernel))); kQ _ _ f0 h0)) (fun s f h => kE _ (fr.trans (f.weak (by decide +kernel))) h)
theorem fm_x_unitNode {v1 : Int} {σ0 : S} {Q Q2 : Int → S → Prop} {E E2 : S → Prop} (h : x_unitNode v1 σ0 Q E) (kQ : ∀ r s, Fr wX_unitNode σ0 s → Q r s → Q2 r s) (kE : ∀ s, Fr wX_unitNode σ0 s → E s → E2 s) : x_unitNode v1 σ0 Q2 E2 := by
  have fr : Fr wX_unitNode σ0 σ0 := Fr.rf
  unfold x_unitNode at h ⊢
  exact ⟨h.1, fm_x_nodeOf h.2 (fun r_5 σ_4 f h1 => (have f1 : Fr wX_unitNode σ0 σ_4 := (fr.trans (f.weak (by decide +kernel))); kQ _ _ f1 h1)) (fun s f h => kE _ (fr.trans (f.weak (by decide +kernel))) h)⟩
theorem fm_x_push {v1 : Int} {σ0 : S} {Q Q2 : Int → S → Prop} (h : x_push v1 σ0 Q) (kQ : ∀ r s, Fr wX_push σ0 s → Q r s → Q2 r s) : x_push v1 σ0 Q2 := by
  have fr : Fr wX_push σ0 σ0 := Fr.rf
  unfold x_push at h ⊢
  exact fun σ_2 e0 => (have f0 : Fr wX_push σ0 σ_2 := Fr.putI fr e0 rfl; ⟨(h σ_2 e0).1, fun σ_4 e2 => (have f2 : Fr wX_push σ0 σ_4 := Fr.putA f0 e2 rfl; kQ _ _ f2 ((h σ_2 e0).2 σ_4 e2))⟩)
theorem fx_compare_j91 {v1 : Int} {v2 : Int} {v3 : Int} {v4 : Int} {σ0 σ : S} {Q Q2 : Int → S → Prop} {G : Orc} (hG : FrO wX_compare G) (fr : Fr wX_compare σ0 σ) (h : x_compare_j91 G v1 v2 v3 v4 σ Q) (kQ : ∀ r s, Fr wX_compare σ0 s → Q r s → Q2 r s) : x_compare_j91 G v1 v2 v3 v4 σ Q2 := by
  unfold x_compare_j91 at h ⊢
  exact ⟨h.1, ⟨h.2.1, kQ _ _ fr h.2.2⟩⟩
theorem fx_compare_L135_b {v1 : Int} {v2 : Int} {v5 : Int} {σ0 σ : S} {Q Q2 : Int → S → Prop} {X135 X1352 : Int → S → Prop} {G : Orc} (hG : FrO wX_compare G) (fr : Fr wX_compare σ0 σ) (h : inb v1 200000 ∧ (if v5 < gA σ 68 v1 then x_at v1 v5 σ (fun r_46 σ_45 => x_at v2 v5 σ_45 (fun r_48 σ_47 => G 0 [r_46, r_48] σ_47 (fun r_50 σ_49 => (if r_50 = 0 then X135 (w32 (v5 + 1)) σ_49 else Q r_50 σ_49)) (fun _ => False))) else Q 0 σ)) (kQ : ∀ r s, Fr wX_compare σ0 s → Q r s → Q2 r s) (kX135 : ∀ v5 s, Fr wX_compare σ0 s → X135 v5 s → X1352 v5 s) : inb v1 200000 ∧ (if v5 < gA σ 68 v1 then x_at v1 v5 σ (fun r_46 σ_45 => x_at v2 v5 σ_45 (fun r_48 σ_47 => G 0 [r_46, r_48] σ_47 (fun r_50 σ_49 => (if r_50 = 0 then X1352 (w32 (v5 + 1)) σ_49 else Q2 r_50 σ_49)) (fun _ => False))) else Q2 0 σ) :=
  ⟨h.1, ite_m (fun _ h1 => fm_x_at h1 (fun r_46 σ_45 f h2 => (have f2 : Fr wX_compare σ0 σ_45 := (fr.trans (f.weak (by decide +kernel))); fm_x_at h2 (fun r_48 σ_47 f h3 => (have f3 : Fr wX_compare σ0 σ_47 := (f2.trans (f.weak (by decide +kernel))); hG _ _ _ _ _ _ _ h3 (fun r_50 σ_49 f h4 => (have f4 : Fr wX_compare σ0 σ_49 := (f3.trans f); ite_m (fun _ h5 => kX135 _ _ f4 h5) (fun _ h5 => kQ _ _ f4 h5) h4)) (fun _ _ h => h)))))) (fun _ h1 => kQ _ _ fr h1) h.2⟩
theorem fx_compare_L135 {v1 : Int} {v2 : Int} {v5 : Int} {σ0 σ : S} {Q Q2 : Int → S → Prop} {G : Orc} (hG : FrO wX_compare G) (fr : Fr wX_compare σ0 σ) (h : x_compare_L135 G v1 v2 v5 σ Q) (kQ : ∀ r s, Fr wX_compare σ0 s → Q r s → Q2 r s) : x_compare_L135 G v1 v2 v5 σ Q2 := by
  unfold x_compare_L135 at h ⊢
  intro Y hY
  exact h (fun v5 s => Fr wX_compare σ0 s → Y v5 s) (fun v5 s h f => hY v5 s (fx_compare_L135_b (v1 := v1) (v2 := v2) (v5 := v5) (Q := Q) (Q2 := Q2) (X135 := fun v5 s => Fr wX_compare σ0 s → Y v5 s) (X1352 := Y) hG f h kQ (fun v5 s f h => h f))) fr
theorem lx_compare_L135 {v1 : Int} {v2 : Int} {v5 : Int} {σ0 : S} {Q : Int → S → Prop} {G : Orc} (hG : FrO wX_compare G) (I : Int → S → Prop) (me : Int → S → Nat) (h0 : I v5 σ0) (step : ∀ (v5 : Int) (s : S), Fr wX_compare σ0 s → I v5 s → (fun (Y0 : Int → S → Prop) => inb v1 200000 ∧ (if v5 < gA s 68 v1 then x_at v1 v5 s (fun r_46 σ_45 => x_at v2 v5 σ_45 (fun r_48 σ_47 => G 0 [r_46, r_48] σ_47 (fun r_50 σ_49 => (if r_50 = 0 then Y0 (w32 (v5 + 1)) σ_49 else Q r_50 σ_49)) (fun _ => False))) else Q 0 s)) (fun v5' s' => I v5' s' ∧ me v5' s' < me v5 s)) : x_compare_L135 G v1 v2 v5 σ0 Q := by
  unfold x_compare_L135
  intro Y hY
  have key : ∀ (n : Nat) (v5 : Int) (s : S), me v5 s < n → Fr wX_compare σ0 s → I v5 s → Y v5 s := by
    intro n
    induction n with
    | zero => intro v5 s h; exact absurd h (Nat.not_lt_zero _)
    | succ n ih =>
      intro v5 s hm fr hi
      exact hY v5 s (fx_compare_L135_b (v1 := v1) (v2 := v2) (v5 := v5) (Q := Q) (Q2 := Q) (X135 := (fun v5' s' => I v5' s' ∧ me v5' s' < me v5 s)) (X1352 := Y) hG fr (step v5 s fr hi) (fun _ _ _ h => h) (fun v5 s f h => ih v5 s (by omega) f h.1))
  exact key _ v5 σ0 (Nat.lt_succ_self _) Fr.rf h0
theorem fx_compare_F {v1 : Int} {v2 : Int} {σ0 : S} {Q Q2 : Int → S → Prop} {G : Orc} (hG : FrO wX_compare G) (h : x_compare_F G v1 v2 σ0 Q) (kQ : ∀ r s, Fr wX_compare σ0 s → Q r s → Q2 r s) : x_compare_F G v1 v2 σ0 Q2 := by
  have fr : Fr wX_compare σ0 σ0 := Fr.rf
  unfold x_compare_F at h ⊢
  exact ite_m (fun _ h0 => kQ _ _ fr h0) (fun _ h0 => ⟨h0.1, ⟨h0.2.1, ⟨h0.2.2.1, ⟨h0.2.2.2.1, ⟨h0.2.2.2.2.1, ⟨h0.2.2.2.2.2.1, ite_m (fun _ h7 => ⟨h7.1, ⟨h7.2.1, ite_m (fun _ h10 => fx_compare_L135 hG fr h10 kQ) (fun _ h10 => fx_compare_j91 hG fr h10 kQ) h7.2.2⟩⟩) (fun _ h7 => fx_compare_j91 hG fr h7 kQ) h0.2.2.2.2.2.2⟩⟩⟩⟩⟩⟩) h
theorem fo_x_S_compare : ∀ n, FrO wX_compare (x_S_compare n)
  | 0 => fun _ _ _ _ _ _ _ h _ _ => h.elim
  | n + 1 => fun i a σ Q Q2 E E2 h kQ kE => by
    unfold x_S_compare at h ⊢
    split at h
    · exact fx_compare_F (fo_x_S_compare n) h kQ
    · exact h.elim
theorem fm_x_compare {v1 : Int} {v2 : Int} {σ0 : S} {Q Q2 : Int → S → Prop} (h : x_compare v1 v2 σ0 Q) (kQ : ∀ r s, Fr wX_compare σ0 s → Q r s → Q2 r s) : x_compare v1 v2 σ0 Q2 := fo_x_S_compare 44 _ _ _ _ _ _ _ h kQ (fun _ _ h => h)
theorem fx_arrange_j83 {v1 : Int} {v2 : Int} {v3 : Int} {σ0 σ : S} {Q Q2 : Int → S → Prop} {X2 X22 : Int → S → Prop} (fr : Fr wX_arrange σ0 σ) (h : x_arrange_j83 v1 v2 v3 σ Q X2) (kQ : ∀ r s, Fr wX_arrange σ0 s → Q r s → Q2 r s) (kX2 : ∀ a0 s, Fr wX_arrange σ0 s → X2 a0 s → X22 a0 s) : x_arrange_j83 v1 v2 v3 σ Q2 X22 := by
  unfold x_arrange_j83 at h ⊢
  exact kX2 _ _ fr h
theorem fx_arrange_L12_b {v1 : Int} {v2 : Int} {v3 : Int} {v4 : Int} {σ0 σ : S} {Q Q2 : Int → S → Prop} {X2 X22 : Int → S → Prop} {X12 X122 : Int → S → Prop} (fr : Fr wX_arrange σ0 σ) (h : (if v4 ≤ v1 then x_arrange_j83 v1 v2 v3 σ Q X2 else inb v4 20000 ∧ inb (w32 (v4 - 1)) 20000 ∧ x_compare (gA σ 74 v4) (gA σ 74 (w32 (v4 - 1))) σ (fun r_10 σ_9 => (if r_10 < 0 then inb v4 20000 ∧ inb (w32 (v4 - 1)) 20000 ∧ inb v4 20000 ∧ ∀ σ_17, σ_17 = pA σ_9 74 v4 (gA σ_9 74 (w32 (v4 - 1))) → inb (w32 (v4 - 1)) 20000 ∧ ∀ σ_20, σ_20 = pA σ_17 74 (w32 (v4 - 1)) (gA σ_9 74 v4) → X12 (w32 (v4 + (-1))) σ_20 else x_arrange_j83 v1 v2 v3 σ_9 Q X2)))) (kQ : ∀ r s, Fr wX_arrange σ0 s → Q r s → Q2 r s) (kX2 : ∀ a0 s, Fr wX_arrange σ0 s → X2 a0 s → X22 a0 s) (kX12 : ∀ v4 s, Fr wX_arrange σ0 s → X12 v4 s → X122 v4 s) : (if v4 ≤ v1 then x_arrange_j83 v1 v2 v3 σ Q2 X22 else inb v4 20000 ∧ inb (w32 (v4 - 1)) 20000 ∧ x_compare (gA σ 74 v4) (gA σ 74 (w32 (v4 - 1))) σ (fun r_10 σ_9 => (if r_10 < 0 then inb v4 20000 ∧ inb (w32 (v4 - 1)) 20000 ∧ inb v4 20000 ∧ ∀ σ_17, σ_17 = pA σ_9 74 v4 (gA σ_9 74 (w32 (v4 - 1))) → inb (w32 (v4 - 1)) 20000 ∧ ∀ σ_20, σ_20 = pA σ_17 74 (w32 (v4 - 1)) (gA σ_9 74 v4) → X122 (w32 (v4 + (-1))) σ_20 else x_arrange_j83 v1 v2 v3 σ_9 Q2 X22))) :=
  ite_m (fun _ h0 => fx_arrange_j83 fr h0 kQ kX2) (fun _ h0 => ⟨h0.1, ⟨h0.2.1, fm_x_compare h0.2.2 (fun r_10 σ_9 f h3 => (have f3 : Fr wX_arrange σ0 σ_9 := (fr.trans (f.weak (by decide +kernel))); ite_m (fun _ h4 => ⟨h4.1, ⟨h4.2.1, ⟨h4.2.2.1, fun σ_17 e8 => (have f8 : Fr wX_arrange σ0 σ_17 := Fr.putA f3 e8 rfl; ⟨(h4.2.2.2 σ_17 e8).1, fun σ_20 e10 => (have f10 : Fr wX_arrange σ0 σ_20 := Fr.putA f8 e10 rfl; kX12 _ _ f10 ((h4.2.2.2 σ_17 e8).2 σ_20 e10))⟩)⟩⟩⟩) (fun _ h4 => fx_arrange_j83 f3 h4 kQ kX2) h3))⟩⟩) h
theorem fx_arrange_L12 {v1 : Int} {v2 : Int} {v3 : Int} {v4 : Int} {σ0 σ : S} {Q Q2 : Int → S → Prop} {X2 X22 : Int → S → Prop} (fr : Fr wX_arrange σ0 σ) (h : x_arrange_L12 v1 v2 v3 v4 σ Q X2) (kQ : ∀ r s, Fr wX_arrange σ0 s → Q r s → Q2 r s) (kX2 : ∀ a0 s, Fr wX_arrange σ0 s → X2 a0 s → X22 a0 s) : x_arrange_L12 v1 v2 v3 v4 σ Q2 X22 := by
  unfold x_arrange_L12 at h ⊢
  intro Y hY
  exact h (fun v4 s => Fr wX_arrange σ0 s → Y v4 s) (fun v4 s h f => hY v4 s (fx_arrange_L12_b (v1 := v1) (v2 := v2) (v3 := v3) (v4 := v4) (Q := Q) (Q2 := Q2) (X2 := X2) (X22 := X22) (X12 := fun v4 s => Fr wX_arrange σ0 s → Y v4 s) (X122 := Y) f h kQ kX2 (fun v4 s f h => h f))) fr
theorem lx_arrange_L12 {v1 : Int} {v2 : Int} {v3 : Int} {v4 : Int} {σ0 : S} {Q : Int → S → Prop} {X2 : Int → S → Prop} (I : Int → S → Prop) (me : Int → S → Nat) (h0 : I v4 σ0) (step : ∀ (v4 : Int) (s : S), Fr wX_arrange σ0 s → I v4 s → (fun (Y0 : Int → S → Prop) => (if v4 ≤ v1 then x_arrange_j83 v1 v2 v3 s Q X2 else inb v4 20000 ∧ inb (w32 (v4 - 1)) 20000 ∧ x_compare (gA s 74 v4) (gA s 74 (w32 (v4 - 1))) s (fun r_10 σ_9 => (if r_10 < 0 then inb v4 20000 ∧ inb (w32 (v4 - 1)) 20000 ∧ inb v4 20000 ∧ ∀ σ_17, σ_17 = pA σ_9 74 v4 (gA σ_9 74 (w32 (v4 - 1))) → inb (w32 (v4 - 1)) 20000 ∧ ∀ σ_20, σ_20 = pA σ_17 74 (w32 (v4 - 1)) (gA σ_9 74 v4) → Y0 (w32 (v4 + (-1))) σ_20 else x_arrange_j83 v1 v2 v3 σ_9 Q X2)))) (fun v4' s' => I v4' s' ∧ me v4' s' < me v4 s)) : x_arrange_L12 v1 v2 v3 v4 σ0 Q X2 := by
  unfold x_arrange_L12
  intro Y hY
  have key : ∀ (n : Nat) (v4 : Int) (s : S), me v4 s < n → Fr wX_arrange σ0 s → I v4 s → Y v4 s := by
    intro n
    induction n with
    | zero => intro v4 s h; exact absurd h (Nat.not_lt_zero _)
    | succ n ih =>
      intro v4 s hm fr hi
      exact hY v4 s (fx_arrange_L12_b (v1 := v1) (v2 := v2) (v3 := v3) (v4 := v4) (Q := Q) (Q2 := Q) (X2 := X2) (X22 := X2) (X12 := (fun v4' s' => I v4' s' ∧ me v4' s' < me v4 s)) (X122 := Y) fr (step v4 s fr hi) (fun _ _ _ h => h) (fun _ _ _ h => h) (fun v4 s f h => ih v4 s (by omega) f h.1))
  exact key _ v4 σ0 (Nat.lt_succ_self _) Fr.rf h0
theorem fx_arrange_L2_b {v1 : Int} {v2 : Int} {v3 : Int} {σ0 σ : S} {Q Q2 : Int → S → Prop} {X2 X22 : Int → S → Prop} (fr : Fr wX_arrange σ0 σ) (h : (if v3 < v2 then x_arrange_L12 v1 v2 v3 (w32 (v1 + v3)) σ Q X2 else Q 0 σ)) (kQ : ∀ r s, Fr wX_arrange σ0 s → Q r s → Q2 r s) (kX2 : ∀ v3 s, Fr wX_arrange σ0 s → X2 v3 s → X22 v3 s) : (if v3 < v2 then x_arrange_L12 v1 v2 v3 (w32 (v1 + v3)) σ Q2 X22 else Q2 0 σ) :=
  ite_m (fun _ h0 => fx_arrange_L12 fr h0 kQ kX2) (fun _ h0 => kQ _ _ fr h0) h
theorem fx_arrange_L2 {v1 : Int} {v2 : Int} {v3 : Int} {σ0 σ : S} {Q Q2 : Int → S → Prop} (fr : Fr wX_arrange σ0 σ) (h : x_arrange_L2 v1 v2 v3 σ Q) (kQ : ∀ r s, Fr wX_arrange σ0 s → Q r s → Q2 r s) : x_arrange_L2 v1 v2 v3 σ Q2 := by
  unfold x_arrange_L2 at h ⊢
  intro Y hY
  exact h (fun v3 s => Fr wX_arrange σ0 s → Y v3 s) (fun v3 s h f => hY v3 s (fx_arrange_L2_b (v1 := v1) (v2 := v2) (v3 := v3) (Q := Q) (Q2 := Q2) (X2 := fun v3 s => Fr wX_arrange σ0 s → Y v3 s) (X22 := Y) f h kQ (fun v3 s f h => h f))) fr
theorem lx_arrange_L2 {v1 : Int} {v2 : Int} {v3 : Int} {σ0 : S} {Q : Int → S → Prop} (I : Int → S → Prop) (me : Int → S → Nat) (h0 : I v3 σ0) (step : ∀ (v3 : Int) (s : S), Fr wX_arrange σ0 s → I v3 s → (fun (Y0 : Int → S → Prop) => (if v3 < v2 then x_arrange_L12 v1 v2 v3 (w32 (v1 + v3)) s Q Y0 else Q 0 s)) (fun v3' s' => I v3' s' ∧ me v3' s' < me v3 s)) : x_arrange_L2 v1 v2 v3 σ0 Q := by
  unfold x_arrange_L2
  intro Y hY
  have key : ∀ (n : Nat) (v3 : Int) (s : S), me v3 s < n → Fr wX_arrange σ0 s → I v3 s → Y v3 s := by
    intro n
    induction n with
    | zero => intro v3 s h; exact absurd h (Nat.not_lt_zero _)
    | succ n ih =>
      intro v3 s hm fr hi
      exact hY v3 s (fx_arrange_L2_b (v1 := v1) (v2 := v2) (v3 := v3) (Q := Q) (Q2 := Q) (X2 := (fun v3' s' => I v3' s' ∧ me v3' s' < me v3 s)) (X22 := Y) fr (step v3 s fr hi) (fun _ _ _ h => h) (fun v3 s f h => ih v3 s (by omega) f h.1))
  exact key _ v3 σ0 (Nat.lt_succ_self _) Fr.rf h0
theorem fm_x_arrange {v1 : Int} {v2 : Int} {σ0 : S} {Q Q2 : Int → S → Prop} (h : x_arrange v1 v2 σ0 Q) (kQ : ∀ r s, Fr wX_arrange σ0 s → Q r s → Q2 r s) : x_arrange v1 v2 σ0 Q2 := by
  have fr : Fr wX_arrange σ0 σ0 := Fr.rf
  unfold x_arrange at h ⊢
  exact fx_arrange_L2 fr h kQ
theorem fx_flatten_j124 {v2 : Int} {v4 : Int} {σ0 σ : S} {Q Q2 : Int → S → Prop} (fr : Fr wX_flatten σ0 σ) (h : x_flatten_j124 v2 v4 σ Q) (kQ : ∀ r s, Fr wX_flatten σ0 s → Q r s → Q2 r s) : x_flatten_j124 v2 v4 σ Q2 := by
  unfold x_flatten_j124 at h ⊢
  exact fun σ_7 e0 => (have f0 : Fr wX_flatten σ0 σ_7 := Fr.putI fr e0 rfl; kQ _ _ f0 (h σ_7 e0))
theorem fx_flatten_L93_b {v2 : Int} {v3 : Int} {v4 : Int} {v5 : Int} {σ0 σ : S} {Q Q2 : Int → S → Prop} {X93 X932 : Int → S → Prop} (fr : Fr wX_flatten σ0 σ) (h : (if v5 < v4 then inb (w32 (v3 + v5)) 20000 ∧ inb (w32 (v2 + v5)) 20000 ∧ ∀ σ_11, σ_11 = pA σ 74 (w32 (v2 + v5)) (gA σ 74 (w32 (v3 + v5))) → X93 (w32 (v5 + 1)) σ_11 else x_flatten_j124 v2 v4 σ Q)) (kQ : ∀ r s, Fr wX_flatten σ0 s → Q r s → Q2 r s) (kX93 : ∀ v5 s, Fr wX_flatten σ0 s → X93 v5 s → X932 v5 s) : (if v5 < v4 then inb (w32 (v3 + v5)) 20000 ∧ inb (w32 (v2 + v5)) 20000 ∧ ∀ σ_11, σ_11 = pA σ 74 (w32 (v2 + v5)) (gA σ 74 (w32 (v3 + v5))) → X932 (w32 (v5 + 1)) σ_11 else x_flatten_j124 v2 v4 σ Q2) :=
  ite_m (fun _ h0 => ⟨h0.1, ⟨h0.2.1, fun σ_11 e3 => (have f3 : Fr wX_flatten σ0 σ_11 := Fr.putA fr e3 rfl; kX93 _ _ f3 (h0.2.2 σ_11 e3))⟩⟩) (fun _ h0 => fx_flatten_j124 fr h0 kQ) h
theorem fx_flatten_L93 {v2 : Int} {v3 : Int} {v4 : Int} {v5 : Int} {σ0 σ : S} {Q Q2 : Int → S → Prop} (fr : Fr wX_flatten σ0 σ) (h : x_flatten_L93 v2 v3 v4 v5 σ Q) (kQ : ∀ r s, Fr wX_flatten σ0 s → Q r s → Q2 r s) : x_flatten_L93 v2 v3 v4 v5 σ Q2 := by
  unfold x_flatten_L93 at h ⊢
  intro Y hY
  exact h (fun v5 s => Fr wX_flatten σ0 s → Y v5 s) (fun v5 s h f => hY v5 s (fx_flatten_L93_b (v2 := v2) (v3 := v3) (v4 := v4) (v5 := v5) (Q := Q) (Q2 := Q2) (X93 := fun v5 s => Fr wX_flatten σ0 s → Y v5 s) (X932 := Y) f h kQ (fun v5 s f h => h f))) fr
theorem lx_flatten_L93 {v2 : Int} {v3 : Int} {v4 : Int} {v5 : Int} {σ0 : S} {Q : Int → S → Prop} (I : Int → S → Prop) (me : Int → S → Nat) (h0 : I v5 σ0) (step : ∀ (v5 : Int) (s : S), Fr wX_flatten σ0 s → I v5 s → (fun (Y0 : Int → S → Prop) => (if v5 < v4 then inb (w32 (v3 + v5)) 20000 ∧ inb (w32 (v2 + v5)) 20000 ∧ ∀ σ_11, σ_11 = pA s 74 (w32 (v2 + v5)) (gA s 74 (w32 (v3 + v5))) → Y0 (w32 (v5 + 1)) σ_11 else x_flatten_j124 v2 v4 s Q)) (fun v5' s' => I v5' s' ∧ me v5' s' < me v5 s)) : x_flatten_L93 v2 v3 v4 v5 σ0 Q := by
  unfold x_flatten_L93
  intro Y hY
  have key : ∀ (n : Nat) (v5 : Int) (s : S), me v5 s < n → Fr wX_flatten σ0 s → I v5 s → Y v5 s := by
    intro n
    induction n with
    | zero => intro v5 s h; exact absurd h (Nat.not_lt_zero _)
    | succ n ih =>
      intro v5 s hm fr hi
      exact hY v5 s (fx_flatten_L93_b (v2 := v2) (v3 := v3) (v4 := v4) (v5 := v5) (Q := Q) (Q2 := Q) (X93 := (fun v5' s' => I v5' s' ∧ me v5' s' < me v5 s)) (X932 := Y) fr (step v5 s fr hi) (fun _ _ _ h => h) (fun v5 s f h => ih v5 s (by omega) f h.1))
  exact key _ v5 σ0 (Nat.lt_succ_self _) Fr.rf h0
theorem fx_flatten_j82 {v2 : Int} {v3 : Int} {σ0 σ : S} {Q Q2 : Int → S → Prop} (fr : Fr wX_flatten σ0 σ) (h : x_flatten_j82 v2 v3 σ Q) (kQ : ∀ r s, Fr wX_flatten σ0 s → Q r s → Q2 r s) : x_flatten_j82 v2 v3 σ Q2 := by
  unfold x_flatten_j82 at h ⊢
  exact fx_flatten_L93 fr h kQ
theorem fx_flatten_j76 {v1 : Int} {v2 : Int} {v3 : Int} {v4 : Int} {σ0 σ : S} {Q Q2 : Int → S → Prop} {X8 X82 : Int → S → Prop} (fr : Fr wX_flatten σ0 σ) (h : x_flatten_j76 v1 v2 v3 v4 σ Q X8) (kQ : ∀ r s, Fr wX_flatten σ0 s → Q r s → Q2 r s) (kX8 : ∀ a0 s, Fr wX_flatten σ0 s → X8 a0 s → X82 a0 s) : x_flatten_j76 v1 v2 v3 v4 σ Q2 X82 := by
  unfold x_flatten_j76 at h ⊢
  exact kX8 _ _ fr h
theorem fx_flatten_j67 {v1 : Int} {v2 : Int} {v3 : Int} {v4 : Int} {σ0 σ : S} {Q Q2 : Int → S → Prop} {X8 X82 : Int → S → Prop} (fr : Fr wX_flatten σ0 σ) (h : x_flatten_j67 v1 v2 v3 v4 σ Q X8) (kQ : ∀ r s, Fr wX_flatten σ0 s → Q r s → Q2 r s) (kX8 : ∀ a0 s, Fr wX_flatten σ0 s → X8 a0 s → X82 a0 s) : x_flatten_j67 v1 v2 v3 v4 σ Q2 X82 := by
  unfold x_flatten_j67 at h ⊢
  exact fx_flatten_j76 fr h kQ kX8
theorem fx_flatten_L37_b {v1 : Int} {v2 : Int} {v3 : Int} {v4 : Int} {v5 : Int} {v6 : Int} {σ0 σ : S} {Q Q2 : Int → S → Prop} {X8 X82 : Int → S → Prop} {X37 X372 : Int → S → Prop} (fr : Fr wX_flatten σ0 σ) (h : inb v5 200000 ∧ (if v6 < gA σ 68 v5 then x_at v5 v6 σ (fun r_26 σ_25 => x_push r_26 σ_25 (fun _ σ_27 => X37 (w32 (v6 + 1)) σ_27)) else x_flatten_j67 v1 v2 v3 v4 σ Q X8)) (kQ : ∀ r s, Fr wX_flatten σ0 s → Q r s → Q2 r s) (kX8 : ∀ a0 s, Fr wX_flatten σ0 s → X8 a0 s → X82 a0 s) (kX37 : ∀ v6 s, Fr wX_flatten σ0 s → X37 v6 s → X372 v6 s) : inb v5 200000 ∧ (if v6 < gA σ 68 v5 then x_at v5 v6 σ (fun r_26 σ_25 => x_push r_26 σ_25 (fun _ σ_27 => X372 (w32 (v6 + 1)) σ_27)) else x_flatten_j67 v1 v2 v3 v4 σ Q2 X82) :=
  ⟨h.1, ite_m (fun _ h1 => fm_x_at h1 (fun r_26 σ_25 f h2 => (have f2 : Fr wX_flatten σ0 σ_25 := (fr.trans (f.weak (by decide +kernel))); fm_x_push h2 (fun _ σ_27 f h3 => (have f3 : Fr wX_flatten σ0 σ_27 := (f2.trans (f.weak (by decide +kernel))); kX37 _ _ f3 h3))))) (fun _ h1 => fx_flatten_j67 fr h1 kQ kX8) h.2⟩
theorem fx_flatten_L37 {v1 : Int} {v2 : Int} {v3 : Int} {v4 : Int} {v5 : Int} {v6 : Int} {σ0 σ : S} {Q Q2 : Int → S → Prop} {X8 X82 : Int → S → Prop} (fr : Fr wX_flatten σ0 σ) (h : x_flatten_L37 v1 v2 v3 v4 v5 v6 σ Q X8) (kQ : ∀ r s, Fr wX_flatten σ0 s → Q r s → Q2 r s) (kX8 : ∀ a0 s, Fr wX_flatten σ0 s → X8 a0 s → X82 a0 s) : x_flatten_L37 v1 v2 v3 v4 v5 v6 σ Q2 X82 := by
  unfold x_flatten_L37 at h ⊢
  intro Y hY
  exact h (fun v6 s => Fr wX_flatten σ0 s → Y v6 s) (fun v6 s h f => hY v6 s (fx_flatten_L37_b (v1 := v1) (v2 := v2) (v3 := v3) (v4 := v4) (v5 := v5) (v6 := v6) (Q := Q) (Q2 := Q2) (X8 := X8) (X82 := X82) (X37 := fun v6 s => Fr wX_flatten σ0 s → Y v6 s) (X372 := Y) f h kQ kX8 (fun v6 s f h => h f))) fr
theorem lx_flatten_L37 {v1 : Int} {v2 : Int} {v3 : Int} {v4 : Int} {v5 : Int} {v6 : Int} {σ0 : S} {Q : Int → S → Prop} {X8 : Int → S → Prop} (I : Int → S → Prop) (me : Int → S → Nat) (h0 : I v6 σ0) (step : ∀ (v6 : Int) (s : S), Fr wX_flatten σ0 s → I v6 s → (fun (Y0 : Int → S → Prop) => inb v5 200000 ∧ (if v6 < gA s 68 v5 then x_at v5 v6 s (fun r_26 σ_25 => x_push r_26 σ_25 (fun _ σ_27 => Y0 (w32 (v6 + 1)) σ_27)) else x_flatten_j67 v1 v2 v3 v4 s Q X8)) (fun v6' s' => I v6' s' ∧ me v6' s' < me v6 s)) : x_flatten_L37 v1 v2 v3 v4 v5 v6 σ0 Q X8 := by
  unfold x_flatten_L37
  intro Y hY
  have key : ∀ (n : Nat) (v6 : Int) (s : S), me v6 s < n → Fr wX_flatten σ0 s → I v6 s → Y v6 s := by
    intro n
    induction n with
    | zero => intro v6 s h; exact absurd h (Nat.not_lt_zero _)
    | succ n ih =>
      intro v6 s hm fr hi
      exact hY v6 s (fx_flatten_L37_b (v1 := v1) (v2 := v2) (v3 := v3) (v4 := v4) (v5 := v5) (v6 := v6) (Q := Q) (Q2 := Q) (X8 := X8) (X82 := X8) (X37 := (fun v6' s' => I v6' s' ∧ me v6' s' < me v6 s)) (X372 := Y) fr (step v6 s fr hi) (fun _ _ _ h => h) (fun _ _ _ h => h) (fun v6 s f h => ih v6 s (by omega) f h.1))
  exact key _ v6 σ0 (Nat.lt_succ_self _) Fr.rf h0
theorem fx_flatten_L8_b {v1 : Int} {v2 : Int} {v3 : Int} {v4 : Int} {σ0 σ : S} {Q Q2 : Int → S → Prop} {X8 X82 : Int → S → Prop} (fr : Fr wX_flatten σ0 σ) (h : (if v4 < v3 then inb v4 20000 ∧ inb (gA σ 74 v4) 200000 ∧ (if gA σ 66 (gA σ 74 v4) = v1 then x_flatten_L37 v1 v2 v3 v4 (gA σ 74 v4) 0 σ Q X8 else x_push (gA σ 74 v4) σ (fun _ σ_20 => x_flatten_j76 v1 v2 v3 v4 σ_20 Q X8)) else x_flatten_j82 v2 v3 σ Q)) (kQ : ∀ r s, Fr wX_flatten σ0 s → Q r s → Q2 r s) (kX8 : ∀ v4 s, Fr wX_flatten σ0 s → X8 v4 s → X82 v4 s) : (if v4 < v3 then inb v4 20000 ∧ inb (gA σ 74 v4) 200000 ∧ (if gA σ 66 (gA σ 74 v4) = v1 then x_flatten_L37 v1 v2 v3 v4 (gA σ 74 v4) 0 σ Q2 X82 else x_push (gA σ 74 v4) σ (fun _ σ_20 => x_flatten_j76 v1 v2 v3 v4 σ_20 Q2 X82)) else x_flatten_j82 v2 v3 σ Q2) :=
  ite_m (fun _ h0 => ⟨h0.1, ⟨h0.2.1, ite_m (fun _ h3 => fx_flatten_L37 fr h3 kQ kX8) (fun _ h3 => fm_x_push h3 (fun _ σ_20 f h4 => (have f4 : Fr wX_flatten σ0 σ_20 := (fr.trans (f.weak (by decide +kernel))); fx_flatten_j76 f4 h4 kQ kX8))) h0.2.2⟩⟩) (fun _ h0 => fx_flatten_j82 fr h0 kQ) h
theorem fx_flatten_L8 {v1 : Int} {v2 : Int} {v3 : Int} {v4 : Int} {σ0 σ : S} {Q Q2 : Int → S → Prop} (fr : Fr wX_flatten σ0 σ) (h : x_flatten_L8 v1 v2 v3 v4 σ Q) (kQ : ∀ r s, Fr wX_flatten σ0 s → Q r s → Q2 r s) : x_flatten_L8 v1 v2 v3 v4 σ Q2 := by
  unfold x_flatten_L8 at h ⊢
  intro Y hY
  exact h (fun v4 s => Fr wX_flatten σ0 s → Y v4 s) (fun v4 s h f => hY v4 s (fx_flatten_L8_b (v1 := v1) (v2 := v2) (v3 := v3) (v4 := v4) (Q := Q) (Q2 := Q2) (X8 := fun v4 s => Fr wX_flatten σ0 s → Y v4 s) (X82 := Y) f h kQ (fun v4 s f h => h f))) fr
theorem lx_flatten_L8 {v1 : Int} {v2 : Int} {v3 : Int} {v4 : Int} {σ0 : S} {Q : Int → S → Prop} (I : Int → S → Prop) (me : Int → S → Nat) (h0 : I v4 σ0) (step : ∀ (v4 : Int) (s : S), Fr wX_flatten σ0 s → I v4 s → (fun (Y0 : Int → S → Prop) => (if v4 < v3 then inb v4 20000 ∧ inb (gA s 74 v4) 200000 ∧ (if gA s 66 (gA s 74 v4) = v1 then x_flatten_L37 v1 v2 v3 v4 (gA s 74 v4) 0 s Q Y0 else x_push (gA s 74 v4) s (fun _ σ_20 => x_flatten_j76 v1 v2 v3 v4 σ_20 Q Y0)) else x_flatten_j82 v2 v3 s Q)) (fun v4' s' => I v4' s' ∧ me v4' s' < me v4 s)) : x_flatten_L8 v1 v2 v3 v4 σ0 Q := by
  unfold x_flatten_L8
  intro Y hY
  have key : ∀ (n : Nat) (v4 : Int) (s : S), me v4 s < n → Fr wX_flatten σ0 s → I v4 s → Y v4 s := by
    intro n
    induction n with
    | zero => intro v4 s h; exact absurd h (Nat.not_lt_zero _)
    | succ n ih =>
      intro v4 s hm fr hi
      exact hY v4 s (fx_flatten_L8_b (v1 := v1) (v2 := v2) (v3 := v3) (v4 := v4) (Q := Q) (Q2 := Q) (X8 := (fun v4' s' => I v4' s' ∧ me v4' s' < me v4 s)) (X82 := Y) fr (step v4 s fr hi) (fun _ _ _ h => h) (fun v4 s f h => ih v4 s (by omega) f h.1))
  exact key _ v4 σ0 (Nat.lt_succ_self _) Fr.rf h0
theorem fm_x_flatten {v1 : Int} {v2 : Int} {σ0 : S} {Q Q2 : Int → S → Prop} (h : x_flatten v1 v2 σ0 Q) (kQ : ∀ r s, Fr wX_flatten σ0 s → Q r s → Q2 r s) : x_flatten v1 v2 σ0 Q2 := by
  have fr : Fr wX_flatten σ0 σ0 := Fr.rf
  unfold x_flatten at h ⊢
  exact fx_flatten_L8 fr h kQ
theorem fx_make_j138 {v1 : Int} {v2 : Int} {v3 : Int} {σ0 σ : S} {Q Q2 : Int → S → Prop} {E E2 : S → Prop} (fr : Fr wX_make σ0 σ) (h : x_make_j138 v1 v2 v3 σ Q E) (kQ : ∀ r s, Fr wX_make σ0 s → Q r s → Q2 r s) (kE : ∀ s, Fr wX_make σ0 s → E s → E2 s) : x_make_j138 v1 v2 v3 σ Q2 E2 := by
  unfold x_make_j138 at h ⊢
  exact fun σ_14 e0 => (have f0 : Fr wX_make σ0 σ_14 := Fr.putI fr e0 rfl; fm_x_nodeOf (h σ_14 e0) (fun r_17 σ_16 f h1 => (have f1 : Fr wX_make σ0 σ_16 := (f0.trans (f.weak (by decide +kernel))); kQ _ _ f1 h1)) (fun s f h => kE _ (f0.trans (f.weak (by decide +kernel))) h))
theorem fx_make_j123 {v1 : Int} {v2 : Int} {v3 : Int} {σ0 σ : S} {Q Q2 : Int → S → Prop} {E E2 : S → Prop} (fr : Fr wX_make σ0 σ) (h : x_make_j123 v1 v2 v3 σ Q E) (kQ : ∀ r s, Fr wX_make σ0 s → Q r s → Q2 r s) (kE : ∀ s, Fr wX_make σ0 s → E s → E2 s) : x_make_j123 v1 v2 v3 σ Q2 E2 := by
  unfold x_make_j123 at h ⊢
  exact ⟨h.1, ite_m (fun _ h1 => fx_make_j138 fr h1 kQ kE) (fun _ h1 => fm_x_arrange h1 (fun _ σ_19 f h2 => (have f2 : Fr wX_make σ0 σ_19 := (fr.trans (f.weak (by decide +kernel))); fx_make_j138 f2 h2 kQ kE))) h.2⟩
theorem fx_make_j94 {v1 : Int} {v2 : Int} {v4 : Int} {v5 : Int} {σ0 σ : S} {Q Q2 : Int → S → Prop} {E E2 : S → Prop} (fr : Fr wX_make σ0 σ) (h : x_make_j94 v1 v2 v4 v5 σ Q E) (kQ : ∀ r s, Fr wX_make σ0 s → Q r s → Q2 r s) (kE : ∀ s, Fr wX_make σ0 s → E s → E2 s) : x_make_j94 v1 v2 v4 v5 σ Q2 E2 := by
  unfold x_make_j94 at h ⊢
  exact fun σ_25 e0 => (have f0 : Fr wX_make σ0 σ_25 := Fr.putI fr e0 rfl; ite_m (fun _ h1 => ⟨h1.1, kQ _ _ f0 h1.2⟩) (fun _ h1 => fx_make_j123 f0 h1 kQ kE) (h σ_25 e0))
theorem fx_make_j88 {v1 : Int} {v2 : Int} {v3 : Int} {v4 : Int} {v5 : Int} {v6 : Int} {σ0 σ : S} {Q Q2 : Int → S → Prop} {E E2 : S → Prop} {X47 X472 : Int → Int → S → Prop} (fr : Fr wX_make σ0 σ) (h : x_make_j88 v1 v2 v3 v4 v5 v6 σ Q E X47) (kQ : ∀ r s, Fr wX_make σ0 s → Q r s → Q2 r s) (kE : ∀ s, Fr wX_make σ0 s → E s → E2 s) (kX47 : ∀ a0 a1 s, Fr wX_make σ0 s → X47 a0 a1 s → X472 a0 a1 s) : x_make_j88 v1 v2 v3 v4 v5 v6 σ Q2 E2 X472 := by
  unfold x_make_j88 at h ⊢
  exact kX47 _ _ _ fr h
theorem fx_make_L47_b {v1 : Int} {v2 : Int} {v3 : Int} {v4 : Int} {v5 : Int} {v6 : Int} {σ0 σ : S} {Q Q2 : Int → S → Prop} {E E2 : S → Prop} {X47 X472 : Int → Int → S → Prop} (fr : Fr wX_make σ0 σ) (h : (if v6 < v3 then inb (w32 (v2 + v6)) 20000 ∧ (if gA σ 74 (w32 (v2 + v6)) = v4 then x_make_j88 v1 v2 v3 v4 v5 v6 σ Q E X47 else inb (w32 (v2 + v6)) 20000 ∧ inb (w32 (v2 + v5)) 20000 ∧ ∀ σ_41, σ_41 = pA σ 74 (w32 (v2 + v5)) (gA σ 74 (w32 (v2 + v6))) → x_make_j88 v1 v2 v3 v4 (w32 (v5 + 1)) v6 σ_41 Q E X47) else x_make_j94 v1 v2 v4 v5 σ Q E)) (kQ : ∀ r s, Fr wX_make σ0 s → Q r s → Q2 r s) (kE : ∀ s, Fr wX_make σ0 s → E s → E2 s) (kX47 : ∀ v5 v6 s, Fr wX_make σ0 s → X47 v5 v6 s → X472 v5 v6 s) : (if v6 < v3 then inb (w32 (v2 + v6)) 20000 ∧ (if gA σ 74 (w32 (v2 + v6)) = v4 then x_make_j88 v1 v2 v3 v4 v5 v6 σ Q2 E2 X472 else inb (w32 (v2 + v6)) 20000 ∧ inb (w32 (v2 + v5)) 20000 ∧ ∀ σ_41, σ_41 = pA σ 74 (w32 (v2 + v5)) (gA σ 74 (w32 (v2 + v6))) → x_make_j88 v1 v2 v3 v4 (w32 (v5 + 1)) v6 σ_41 Q2 E2 X472) else x_make_j94 v1 v2 v4 v5 σ Q2 E2) :=
  ite_m (fun _ h0 => ⟨h0.1, ite_m (fun _ h2 => fx_make_j88 fr h2 kQ kE kX47) (fun _ h2 => ⟨h2.1, ⟨h2.2.1, fun σ_41 e5 => (have f5 : Fr wX_make σ0 σ_41 := Fr.putA fr e5 rfl; fx_make_j88 f5 (h2.2.2 σ_41 e5) kQ kE kX47)⟩⟩) h0.2⟩) (fun _ h0 => fx_make_j94 fr h0 kQ kE) h
theorem fx_make_L47 {v1 : Int} {v2 : Int} {v3 : Int} {v4 : Int} {v5 : Int} {v6 : Int} {σ0 σ : S} {Q Q2 : Int → S → Prop} {E E2 : S → Prop} (fr : Fr wX_make σ0 σ) (h : x_make_L47 v1 v2 v3 v4 v5 v6 σ Q E) (kQ : ∀ r s, Fr wX_make σ0 s → Q r s → Q2 r s) (kE : ∀ s, Fr wX_make σ0 s → E s → E2 s) : x_make_L47 v1 v2 v3 v4 v5 v6 σ Q2 E2 := by
  unfold x_make_L47 at h ⊢
  intro Y hY
  exact h (fun v5 v6 s => Fr wX_make σ0 s → Y v5 v6 s) (fun v5 v6 s h f => hY v5 v6 s (fx_make_L47_b (v1 := v1) (v2 := v2) (v3 := v3) (v4 := v4) (v5 := v5) (v6 := v6) (Q := Q) (Q2 := Q2) (E := E) (E2 := E2) (X47 := fun v5 v6 s => Fr wX_make σ0 s → Y v5 v6 s) (X472 := Y) f h kQ kE (fun v5 v6 s f h => h f))) fr
theorem lx_make_L47 {v1 : Int} {v2 : Int} {v3 : Int} {v4 : Int} {v5 : Int} {v6 : Int} {σ0 : S} {Q : Int → S → Prop} {E : S → Prop} (I : Int → Int → S → Prop) (me : Int → Int → S → Nat) (h0 : I v5 v6 σ0) (step : ∀ (v5 : Int) (v6 : Int) (s : S), Fr wX_make σ0 s → I v5 v6 s → (fun (Y0 : Int → Int → S → Prop) => (if v6 < v3 then inb (w32 (v2 + v6)) 20000 ∧ (if gA s 74 (w32 (v2 + v6)) = v4 then x_make_j88 v1 v2 v3 v4 v5 v6 s Q E Y0 else inb (w32 (v2 + v6)) 20000 ∧ inb (w32 (v2 + v5)) 20000 ∧ ∀ σ_41, σ_41 = pA s 74 (w32 (v2 + v5)) (gA s 74 (w32 (v2 + v6))) → x_make_j88 v1 v2 v3 v4 (w32 (v5 + 1)) v6 σ_41 Q E Y0) else x_make_j94 v1 v2 v4 v5 s Q E)) (fun v5' v6' s' => I v5' v6' s' ∧ me v5' v6' s' < me v5 v6 s)) : x_make_L47 v1 v2 v3 v4 v5 v6 σ0 Q E := by
  unfold x_make_L47
  intro Y hY
  have key : ∀ (n : Nat) (v5 : Int) (v6 : Int) (s : S), me v5 v6 s < n → Fr wX_make σ0 s → I v5 v6 s → Y v5 v6 s := by
    intro n
    induction n with
    | zero => intro v5 v6 s h; exact absurd h (Nat.not_lt_zero _)
    | succ n ih =>
      intro v5 v6 s hm fr hi
      exact hY v5 v6 s (fx_make_L47_b (v1 := v1) (v2 := v2) (v3 := v3) (v4 := v4) (v5 := v5) (v6 := v6) (Q := Q) (Q2 := Q) (E := E) (E2 := E) (X47 := (fun v5' v6' s' => I v5' v6' s' ∧ me v5' v6' s' < me v5 v6 s)) (X472 := Y) fr (step v5 v6 s fr hi) (fun _ _ _ h => h) (fun _ _ h => h) (fun v5 v6 s f h => ih v5 v6 s (by omega) f h.1))
  exact key _ v5 v6 σ0 (Nat.lt_succ_self _) Fr.rf h0
theorem fx_make_j23 {v1 : Int} {v2 : Int} {v3 : Int} {σ0 σ : S} {Q Q2 : Int → S → Prop} {E E2 : S → Prop} (fr : Fr wX_make σ0 σ) (h : x_make_j23 v1 v2 v3 σ Q E) (kQ : ∀ r s, Fr wX_make σ0 s → Q r s → Q2 r s) (kE : ∀ s, Fr wX_make σ0 s → E s → E2 s) : x_make_j23 v1 v2 v3 σ Q2 E2 := by
  unfold x_make_j23 at h ⊢
  exact ⟨h.1, ite_m (fun _ h1 => fx_make_j123 fr h1 kQ kE) (fun _ h1 => fm_x_unitNode h1 (fun r_21 σ_20 f h2 => (have f2 : Fr wX_make σ0 σ_20 := (fr.trans (f.weak (by decide +kernel))); fx_make_L47 f2 h2 kQ kE)) (fun s f h => kE _ (fr.trans (f.weak (by decide +kernel))) h)) h.2⟩
theorem fm_x_make {v1 : Int} {v2 : Int} {σ0 : S} {Q Q2 : Int → S → Prop} {E E2 : S → Prop} (h : x_make v1 v2 σ0 Q E) (kQ : ∀ r s, Fr wX_make σ0 s → Q r s → Q2 r s) (kE : ∀ s, Fr wX_make σ0 s → E s → E2 s) : x_make v1 v2 σ0 Q2 E2 := by
  have fr : Fr wX_make σ0 σ0 := Fr.rf
  unfold x_make at h ⊢
  exact ⟨h.1, ite_m (fun _ h1 => fx_make_j23 fr h1 kQ kE) (fun _ h1 => fm_x_flatten h1 (fun r_45 σ_44 f h2 => (have f2 : Fr wX_make σ0 σ_44 := (fr.trans (f.weak (by decide +kernel))); fx_make_j23 f2 h2 kQ kE))) h.2⟩
theorem fx_makeSome_j45 {v2 : Int} {s0 : Int} {σ0 σ : S} {Q Q2 : Int → S → Prop} {E E2 : S → Prop} (fr : Fr wX_makeSome σ0 σ) (h : x_makeSome_j45 v2 s0 σ Q E) (kQ : ∀ r s, Fr wX_makeSome σ0 s → Q r s → Q2 r s) (kE : ∀ s, Fr wX_makeSome σ0 s → E s → E2 s) : x_makeSome_j45 v2 s0 σ Q2 E2 := by
  unfold x_makeSome_j45 at h ⊢
  exact fun σ_11 e0 => (have f0 : Fr wX_makeSome σ0 σ_11 := Fr.putI fr e0 rfl; kQ _ _ f0 (h σ_11 e0))
theorem fm_x_makeSome {v1 : Int} {v2 : Int} {σ0 : S} {Q Q2 : Int → S → Prop} {E E2 : S → Prop} (h : x_makeSome v1 v2 σ0 Q E) (kQ : ∀ r s, Fr wX_makeSome σ0 s → Q r s → Q2 r s) (kE : ∀ s, Fr wX_makeSome σ0 s → E s → E2 s) : x_makeSome v1 v2 σ0 Q2 E2 := by
  have fr : Fr wX_makeSome σ0 σ0 := Fr.rf
  unfold x_makeSome at h ⊢
  exact ite_m (fun _ h0 => ite_m (fun _ h1 => ⟨h1.1, ite_m (fun _ h3 => fx_makeSome_j45 fr h3 kQ kE) (fun _ h3 => fm_x_unitNode h3 (fun r_18 σ_17 f h4 => (have f4 : Fr wX_makeSome σ0 σ_17 := (fr.trans (f.weak (by decide +kernel))); fx_makeSome_j45 f4 h4 kQ kE)) (fun s f h => kE _ (fr.trans (f.weak (by decide +kernel))) h)) h1.2⟩) (fun _ h1 => ⟨h1.1, fx_makeSome_j45 fr h1.2 kQ kE⟩) h0) (fun _ h0 => fm_x_make h0 (fun r_5 σ_4 f h1 => (have f1 : Fr wX_makeSome σ0 σ_4 := (fr.trans (f.weak (by decide +kernel))); kQ _ _ f1 h1)) (fun s f h => kE _ (fr.trans (f.weak (by decide +kernel))) h)) h
theorem fx_termOf_j67 {v2 : Int} {v3 : Int} {σ0 σ : S} {Q Q2 : Int → S → Prop} {E E2 : S → Prop} {G : Orc} (hG : FrO wX_termOf G) (fr : Fr wX_termOf σ0 σ) (h : x_termOf_j67 G v2 v3 σ Q E) (kQ : ∀ r s, Fr wX_termOf σ0 s → Q r s → Q2 r s) (kE : ∀ s, Fr wX_termOf σ0 s → E s → E2 s) : x_termOf_j67 G v2 v3 σ Q2 E2 := by
  unfold x_termOf_j67 at h ⊢
  exact fm_x_make h (fun r_11 σ_10 f h0 => (have f0 : Fr wX_termOf σ0 σ_10 := (fr.trans (f.weak (by decide +kernel))); kQ _ _ f0 h0)) (fun s f h => kE _ (fr.trans (f.weak (by decide +kernel))) h)
theorem fx_termOf_L27_b {v1 : Int} {v2 : Int} {v3 : Int} {v4 : Int} {σ0 σ : S} {Q Q2 : Int → S → Prop} {E E2 : S → Prop} {X27 X272 : Int → S → Prop} {G : Orc} (hG : FrO wX_termOf G) (fr : Fr wX_termOf σ0 σ) (h : inb v2 50 ∧ (if v4 < gA σ 49 v2 then inb (w32 (w32 (3 * v1) + v4)) 228000 ∧ G 0 [(gA σ 62 (w32 (w32 (3 * v1) + v4)))] σ (fun r_16 σ_15 => x_push r_16 σ_15 (fun _ σ_18 => X27 (w32 (v4 + 1)) σ_18)) E else x_termOf_j67 G v2 v3 σ Q E)) (kQ : ∀ r s, Fr wX_termOf σ0 s → Q r s → Q2 r s) (kE : ∀ s, Fr wX_termOf σ0 s → E s → E2 s) (kX27 : ∀ v4 s, Fr wX_termOf σ0 s → X27 v4 s → X272 v4 s) : inb v2 50 ∧ (if v4 < gA σ 49 v2 then inb (w32 (w32 (3 * v1) + v4)) 228000 ∧ G 0 [(gA σ 62 (w32 (w32 (3 * v1) + v4)))] σ (fun r_16 σ_15 => x_push r_16 σ_15 (fun _ σ_18 => X272 (w32 (v4 + 1)) σ_18)) E2 else x_termOf_j67 G v2 v3 σ Q2 E2) :=
  ⟨h.1, ite_m (fun _ h1 => ⟨h1.1, hG _ _ _ _ _ _ _ h1.2 (fun r_16 σ_15 f h3 => (have f3 : Fr wX_termOf σ0 σ_15 := (fr.trans f); fm_x_push h3 (fun _ σ_18 f h4 => (have f4 : Fr wX_termOf σ0 σ_18 := (f3.trans (f.weak (by decide +kernel))); kX27 _ _ f4 h4)))) (fun s f h => kE _ (fr.trans f) h)⟩) (fun _ h1 => fx_termOf_j67 hG fr h1 kQ kE) h.2⟩
theorem fx_termOf_L27 {v1 : Int} {v2 : Int} {v3 : Int} {v4 : Int} {σ0 σ : S} {Q Q2 : Int → S → Prop} {E E2 : S → Prop} {G : Orc} (hG : FrO wX_termOf G) (fr : Fr wX_termOf σ0 σ) (h : x_termOf_L27 G v1 v2 v3 v4 σ Q E) (kQ : ∀ r s, Fr wX_termOf σ0 s → Q r s → Q2 r s) (kE : ∀ s, Fr wX_termOf σ0 s → E s → E2 s) : x_termOf_L27 G v1 v2 v3 v4 σ Q2 E2 := by
  unfold x_termOf_L27 at h ⊢
  intro Y hY
  exact h (fun v4 s => Fr wX_termOf σ0 s → Y v4 s) (fun v4 s h f => hY v4 s (fx_termOf_L27_b (v1 := v1) (v2 := v2) (v3 := v3) (v4 := v4) (Q := Q) (Q2 := Q2) (E := E) (E2 := E2) (X27 := fun v4 s => Fr wX_termOf σ0 s → Y v4 s) (X272 := Y) hG f h kQ kE (fun v4 s f h => h f))) fr
theorem lx_termOf_L27 {v1 : Int} {v2 : Int} {v3 : Int} {v4 : Int} {σ0 : S} {Q : Int → S → Prop} {E : S → Prop} {G : Orc} (hG : FrO wX_termOf G) (I : Int → S → Prop) (me : Int → S → Nat) (h0 : I v4 σ0) (step : ∀ (v4 : Int) (s : S), Fr wX_termOf σ0 s → I v4 s → (fun (Y0 : Int → S → Prop) => inb v2 50 ∧ (if v4 < gA s 49 v2 then inb (w32 (w32 (3 * v1) + v4)) 228000 ∧ G 0 [(gA s 62 (w32 (w32 (3 * v1) + v4)))] s (fun r_16 σ_15 => x_push r_16 σ_15 (fun _ σ_18 => Y0 (w32 (v4 + 1)) σ_18)) E else x_termOf_j67 G v2 v3 s Q E)) (fun v4' s' => I v4' s' ∧ me v4' s' < me v4 s)) : x_termOf_L27 G v1 v2 v3 v4 σ0 Q E := by
  unfold x_termOf_L27
  intro Y hY
  have key : ∀ (n : Nat) (v4 : Int) (s : S), me v4 s < n → Fr wX_termOf σ0 s → I v4 s → Y v4 s := by
    intro n
    induction n with
    | zero => intro v4 s h; exact absurd h (Nat.not_lt_zero _)
    | succ n ih =>
      intro v4 s hm fr hi
      exact hY v4 s (fx_termOf_L27_b (v1 := v1) (v2 := v2) (v3 := v3) (v4 := v4) (Q := Q) (Q2 := Q) (E := E) (E2 := E) (X27 := (fun v4' s' => I v4' s' ∧ me v4' s' < me v4 s)) (X272 := Y) hG fr (step v4 s fr hi) (fun _ _ _ h => h) (fun _ _ h => h) (fun v4 s f h => ih v4 s (by omega) f h.1))
  exact key _ v4 σ0 (Nat.lt_succ_self _) Fr.rf h0
theorem fx_termOf_F {v1 : Int} {σ0 : S} {Q Q2 : Int → S → Prop} {E E2 : S → Prop} {G : Orc} (hG : FrO wX_termOf G) (h : x_termOf_F G v1 σ0 Q E) (kQ : ∀ r s, Fr wX_termOf σ0 s → Q r s → Q2 r s) (kE : ∀ s, Fr wX_termOf σ0 s → E s → E2 s) : x_termOf_F G v1 σ0 Q2 E2 := by
  have fr : Fr wX_termOf σ0 σ0 := Fr.rf
  unfold x_termOf_F at h ⊢
  exact ⟨h.1, ite_m (fun _ h1 => fm_x_variableNode h1 (fun r_20 σ_19 f h2 => (have f2 : Fr wX_termOf σ0 σ_19 := (fr.trans (f.weak (by decide +kernel))); kQ _ _ f2 h2)) (fun s f h => kE _ (fr.trans (f.weak (by decide +kernel))) h)) (fun _ h1 => fx_termOf_L27 hG fr h1 kQ kE) h.2⟩
theorem fo_x_S_termOf : ∀ n, FrO wX_termOf (x_S_termOf n)
  | 0 => fun _ _ _ _ _ _ _ h _ _ => h.elim
  | n + 1 => fun i a σ Q Q2 E E2 h kQ kE => by
    unfold x_S_termOf at h ⊢
    split at h
    · exact fx_termOf_F (fo_x_S_termOf n) h kQ kE
    · exact h.elim
theorem fm_x_termOf {v1 : Int} {σ0 : S} {Q Q2 : Int → S → Prop} {E E2 : S → Prop} (h : x_termOf v1 σ0 Q E) (kQ : ∀ r s, Fr wX_termOf σ0 s → Q r s → Q2 r s) (kE : ∀ s, Fr wX_termOf σ0 s → E s → E2 s) : x_termOf v1 σ0 Q2 E2 := fo_x_S_termOf 44 _ _ _ _ _ _ _ h kQ kE
theorem fs_save : ∀ (n : Nat) (v1 : Int) (v2 : Nat) (σ0 : S) (Q Q2 : Int → S → Prop), x_S_save n 0 [v1, ((v2 : Nat) : Int)] σ0 Q (fun _ => False) → (∀ r s, Fr (wX_save v2) σ0 s → Q r s → Q2 r s) → x_S_save n 0 [v1, ((v2 : Nat) : Int)] σ0 Q2 (fun _ => False)
  | 0, _, _, _, _, _, h, _ => h.elim
  | n + 1, v1, v2, σ0, Q, Q2, h, kQ => by
    have h : x_save_F (x_S_save n) v1 (((v2 : Nat) : Int).toNat) σ0 Q := h
    show x_save_F (x_S_save n) v1 (((v2 : Nat) : Int).toNat) σ0 Q2
    rw [Int.toNat_natCast] at h ⊢
    have fr : Fr (wX_save v2) σ0 σ0 := Fr.rf
    have cv : ([v2] : List Nat).contains v2 = true := by simp
    have kl : ∀ (v3 : Int) (σ : S), Fr (wX_save v2) σ0 σ → x_save_L40 (x_S_save n) v1 v2 v3 σ Q → x_save_L40 (x_S_save n) v1 v2 v3 σ Q2 := by
      intro v3 σ fr h
      unfold x_save_L40 at h ⊢
      intro Y hY
      refine h (fun v s => Fr (wX_save v2) σ0 s → Y v s) (fun v s h f => hY v s ⟨h.1, ite_m (fun _ h => ?_) (fun _ h => kQ _ _ f h) h.2⟩) fr
      exact fm_x_at h (fun r s f1 h => fs_save n _ _ _ _ _ h (fun r s f2 h => h ((f.trans (f1.weak (by simp [Fw, wX_at, wX_save]))).trans f2)))
    unfold x_save_F at h ⊢
    exact fun σ_2 e2 => ⟨(h σ_2 e2).1, (h σ_2 e2).2.1, fun σ_6 e6 σ_10 e10 => ⟨((h σ_2 e2).2.2 σ_6 e6 σ_10 e10).1, ((h σ_2 e2).2.2 σ_6 e6 σ_10 e10).2.1, fun σ_14 e14 => kl 0 σ_14 (Fr.putA (Fr.putI (Fr.putA (Fr.putI fr e2 rfl) e6 cv) e10 rfl) e14 cv) (((h σ_2 e2).2.2 σ_6 e6 σ_10 e10).2.2 σ_14 e14)⟩⟩
theorem fm_x_save {v1 : Int} {v2 : Nat} {σ0 : S} {Q Q2 : Int → S → Prop} (h : x_save v1 v2 σ0 Q) (kQ : ∀ r s, Fr (wX_save v2) σ0 s → Q r s → Q2 r s) : x_save v1 v2 σ0 Q2 := fs_save 44 _ _ _ _ _ h kQ
theorem fm_x_saveTo {v1 : Int} {v2 : Nat} {v3 : Int} {σ0 : S} {Q Q2 : Int → S → Prop} (h : x_saveTo v1 v2 v3 σ0 Q) (kQ : ∀ r s, Fr (wX_saveTo v2) σ0 s → Q r s → Q2 r s) : x_saveTo v1 v2 v3 σ0 Q2 := by
  unfold x_saveTo at h ⊢
  exact fun s e => fm_x_save (h s e) (fun r s2 f h => kQ _ _ ((Fr.putI (w := wX_saveTo v2) Fr.rf e rfl).trans (f : Fr (wX_saveTo v2) s s2)) h)
theorem fx_load_j62 {v2 : Int} {v3 : Int} {v4 : Int} {σ0 σ : S} {Q Q2 : Int → S → Prop} {E E2 : S → Prop} {G : Orc} (hG : FrO wX_load G) (fr : Fr wX_load σ0 σ) (h : x_load_j62 G v2 v3 v4 σ Q E) (kQ : ∀ r s, Fr wX_load σ0 s → Q r s → Q2 r s) (kE : ∀ s, Fr wX_load σ0 s → E s → E2 s) : x_load_j62 G v2 v3 v4 σ Q2 E2 := by
  unfold x_load_j62 at h ⊢
  exact fun σ_14 e0 => (have f0 : Fr wX_load σ0 σ_14 := Fr.putI fr e0 rfl; fm_x_nodeOf (h σ_14 e0) (fun r_17 σ_16 f h1 => (have f1 : Fr wX_load σ0 σ_16 := (f0.trans (f.weak (by decide +kernel))); kQ _ _ f1 h1)) (fun s f h => kE _ (f0.trans (f.weak (by decide +kernel))) h))
theorem fx_load_L37_b {v1 : Nat} {v2 : Int} {v3 : Int} {v4 : Int} {v5 : Int} {σ0 σ : S} {Q Q2 : Int → S → Prop} {E E2 : S → Prop} {X37 X372 : Int → S → Prop} {G : Orc} (hG : FrO wX_load G) (fr : Fr wX_load σ0 σ) (h : (if v5 < v3 then G 0 [((v1 : Nat) : Int)] σ (fun r_20 σ_19 => x_push r_20 σ_19 (fun _ σ_22 => X37 (w32 (v5 + 1)) σ_22)) E else x_load_j62 G v2 v3 v4 σ Q E)) (kQ : ∀ r s, Fr wX_load σ0 s → Q r s → Q2 r s) (kE : ∀ s, Fr wX_load σ0 s → E s → E2 s) (kX37 : ∀ v5 s, Fr wX_load σ0 s → X37 v5 s → X372 v5 s) : (if v5 < v3 then G 0 [((v1 : Nat) : Int)] σ (fun r_20 σ_19 => x_push r_20 σ_19 (fun _ σ_22 => X372 (w32 (v5 + 1)) σ_22)) E2 else x_load_j62 G v2 v3 v4 σ Q2 E2) :=
  ite_m (fun _ h0 => hG _ _ _ _ _ _ _ h0 (fun r_20 σ_19 f h1 => (have f1 : Fr wX_load σ0 σ_19 := (fr.trans f); fm_x_push h1 (fun _ σ_22 f h2 => (have f2 : Fr wX_load σ0 σ_22 := (f1.trans (f.weak (by decide +kernel))); kX37 _ _ f2 h2)))) (fun s f h => kE _ (fr.trans f) h)) (fun _ h0 => fx_load_j62 hG fr h0 kQ kE) h
theorem fx_load_L37 {v1 : Nat} {v2 : Int} {v3 : Int} {v4 : Int} {v5 : Int} {σ0 σ : S} {Q Q2 : Int → S → Prop} {E E2 : S → Prop} {G : Orc} (hG : FrO wX_load G) (fr : Fr wX_load σ0 σ) (h : x_load_L37 G v1 v2 v3 v4 v5 σ Q E) (kQ : ∀ r s, Fr wX_load σ0 s → Q r s → Q2 r s) (kE : ∀ s, Fr wX_load σ0 s → E s → E2 s) : x_load_L37 G v1 v2 v3 v4 v5 σ Q2 E2 := by
  unfold x_load_L37 at h ⊢
  intro Y hY
  exact h (fun v5 s => Fr wX_load σ0 s → Y v5 s) (fun v5 s h f => hY v5 s (fx_load_L37_b (v1 := v1) (v2 := v2) (v3 := v3) (v4 := v4) (v5 := v5) (Q := Q) (Q2 := Q2) (E := E) (E2 := E2) (X37 := fun v5 s => Fr wX_load σ0 s → Y v5 s) (X372 := Y) hG f h kQ kE (fun v5 s f h => h f))) fr
theorem lx_load_L37 {v1 : Nat} {v2 : Int} {v3 : Int} {v4 : Int} {v5 : Int} {σ0 : S} {Q : Int → S → Prop} {E : S → Prop} {G : Orc} (hG : FrO wX_load G) (I : Int → S → Prop) (me : Int → S → Nat) (h0 : I v5 σ0) (step : ∀ (v5 : Int) (s : S), Fr wX_load σ0 s → I v5 s → (fun (Y0 : Int → S → Prop) => (if v5 < v3 then G 0 [((v1 : Nat) : Int)] s (fun r_20 σ_19 => x_push r_20 σ_19 (fun _ σ_22 => Y0 (w32 (v5 + 1)) σ_22)) E else x_load_j62 G v2 v3 v4 s Q E)) (fun v5' s' => I v5' s' ∧ me v5' s' < me v5 s)) : x_load_L37 G v1 v2 v3 v4 v5 σ0 Q E := by
  unfold x_load_L37
  intro Y hY
  have key : ∀ (n : Nat) (v5 : Int) (s : S), me v5 s < n → Fr wX_load σ0 s → I v5 s → Y v5 s := by
    intro n
    induction n with
    | zero => intro v5 s h; exact absurd h (Nat.not_lt_zero _)
    | succ n ih =>
      intro v5 s hm fr hi
      exact hY v5 s (fx_load_L37_b (v1 := v1) (v2 := v2) (v3 := v3) (v4 := v4) (v5 := v5) (Q := Q) (Q2 := Q) (E := E) (E2 := E) (X37 := (fun v5' s' => I v5' s' ∧ me v5' s' < me v5 s)) (X372 := Y) hG fr (step v5 s fr hi) (fun _ _ _ h => h) (fun _ _ h => h) (fun v5 s f h => ih v5 s (by omega) f h.1))
  exact key _ v5 σ0 (Nat.lt_succ_self _) Fr.rf h0
theorem fx_load_F {v1 : Nat} {σ0 : S} {Q Q2 : Int → S → Prop} {E E2 : S → Prop} {G : Orc} (hG : FrO wX_load G) (h : x_load_F G v1 σ0 Q E) (kQ : ∀ r s, Fr wX_load σ0 s → Q r s → Q2 r s) (kE : ∀ s, Fr wX_load σ0 s → E s → E2 s) : x_load_F G v1 σ0 Q2 E2 := by
  have fr : Fr wX_load σ0 σ0 := Fr.rf
  unfold x_load_F at h ⊢
  exact fun σ_2 e0 => (have f0 : Fr wX_load σ0 σ_2 := Fr.putI fr e0 rfl; ⟨(h σ_2 e0).1, fun σ_7 e2 => (have f2 : Fr wX_load σ0 σ_7 := Fr.putI f0 e2 rfl; ⟨((h σ_2 e0).2 σ_7 e2).1, fx_load_L37 hG f2 ((h σ_2 e0).2 σ_7 e2).2 kQ kE⟩)⟩)
theorem fo_x_S_load : ∀ n, FrO wX_load (x_S_load n)
  | 0 => fun _ _ _ _ _ _ _ h _ _ => h.elim
  | n + 1 => fun i a σ Q Q2 E E2 h kQ kE => by
    unfold x_S_load at h ⊢
    split at h
    · exact fx_load_F (fo_x_S_load n) h kQ kE
    · exact h.elim
theorem fm_x_load {v1 : Nat} {σ0 : S} {Q Q2 : Int → S → Prop} {E E2 : S → Prop} (h : x_load v1 σ0 Q E) (kQ : ∀ r s, Fr wX_load σ0 s → Q r s → Q2 r s) (kE : ∀ s, Fr wX_load σ0 s → E s → E2 s) : x_load v1 σ0 Q2 E2 := fo_x_S_load 44 _ _ _ _ _ _ _ h kQ kE
theorem fm_x_loadFrom {v1 : Nat} {v2 : Int} {σ0 : S} {Q Q2 : Int → S → Prop} {E E2 : S → Prop} (h : x_loadFrom v1 v2 σ0 Q E) (kQ : ∀ r s, Fr wX_loadFrom σ0 s → Q r s → Q2 r s) (kE : ∀ s, Fr wX_loadFrom σ0 s → E s → E2 s) : x_loadFrom v1 v2 σ0 Q2 E2 := by
  have fr : Fr wX_loadFrom σ0 σ0 := Fr.rf
  unfold x_loadFrom at h ⊢
  exact fun σ_1 e0 => (have f0 : Fr wX_loadFrom σ0 σ_1 := Fr.putI fr e0 rfl; fm_x_load (h σ_1 e0) (fun r_4 σ_3 f h1 => (have f1 : Fr wX_loadFrom σ0 σ_3 := (f0.trans (f.weak (by decide +kernel))); kQ _ _ f1 h1)) (fun s f h => kE _ (f0.trans (f.weak (by decide +kernel))) h))
theorem fm_x_newHandle {v1 : Int} {σ0 : S} {Q Q2 : Int → S → Prop} (h : x_newHandle v1 σ0 Q) (kQ : ∀ r s, Fr wX_newHandle σ0 s → Q r s → Q2 r s) : x_newHandle v1 σ0 Q2 := by
  have fr : Fr wX_newHandle σ0 σ0 := Fr.rf
  unfold x_newHandle at h ⊢
  exact fm_x_saveTo h (fun _ σ_2 f h0 => (have f0 : Fr wX_newHandle σ0 σ_2 := (fr.trans (f.weak (by decide +kernel))); fun σ_4 e1 => (have f1 : Fr wX_newHandle σ0 σ_4 := Fr.putI f0 e1 rfl; kQ _ _ f1 (h0 σ_4 e1))))
theorem fm_x_termAt {v1 : Int} {σ0 : S} {Q Q2 : Int → S → Prop} {E E2 : S → Prop} (h : x_termAt v1 σ0 Q E) (kQ : ∀ r s, Fr wX_termAt σ0 s → Q r s → Q2 r s) (kE : ∀ s, Fr wX_termAt σ0 s → E s → E2 s) : x_termAt v1 σ0 Q2 E2 := by
  have fr : Fr wX_termAt σ0 σ0 := Fr.rf
  unfold x_termAt at h ⊢
  exact fm_x_loadFrom h (fun r_2 σ_1 f h0 => (have f0 : Fr wX_termAt σ0 σ_1 := (fr.trans (f.weak (by decide +kernel))); kQ _ _ f0 h0)) (fun s f h => kE _ (fr.trans (f.weak (by decide +kernel))) h)
theorem fm_x_isHandle {v1 : Int} {σ0 : S} {Q Q2 : Int → S → Prop} (h : x_isHandle v1 σ0 Q) (kQ : ∀ r s, Fr wX_isHandle σ0 s → Q r s → Q2 r s) : x_isHandle v1 σ0 Q2 := by
  have fr : Fr wX_isHandle σ0 σ0 := Fr.rf
  unfold x_isHandle at h ⊢
  exact fm_x_within h (fun r_3 σ_2 f h0 => (have f0 : Fr wX_isHandle σ0 σ_2 := (fr.trans (f.weak (by decide +kernel))); kQ _ _ f0 h0))
theorem fx_readTerm_j44 {v1 : Int} {σ0 σ : S} {Q Q2 : Int → S → Prop} (fr : Fr wX_readTerm σ0 σ) (h : x_readTerm_j44 v1 σ Q) (kQ : ∀ r s, Fr wX_readTerm σ0 s → Q r s → Q2 r s) : x_readTerm_j44 v1 σ Q2 := by
  unfold x_readTerm_j44 at h ⊢
  exact fun σ_8 e0 => (have f0 : Fr wX_readTerm σ0 σ_8 := Fr.putI fr e0 rfl; fm_x_wrong (h σ_8 e0) (fun r_11 σ_10 f h1 => (have f1 : Fr wX_readTerm σ0 σ_10 := (f0.trans (f.weak (by decide +kernel))); kQ _ _ f1 h1)))
theorem fm_x_readTerm {v1 : Int} {v2 : Int} {v3 : Int} {σ0 : S} {Q Q2 : Int → S → Prop} (h : x_readTerm v1 v2 v3 σ0 Q) (kQ : ∀ r s, Fr wX_readTerm σ0 s → Q r s → Q2 r s) : x_readTerm v1 v2 v3 σ0 Q2 := by
  have fr : Fr wX_readTerm σ0 σ0 := Fr.rf
  unfold x_readTerm at h ⊢
  exact fm_x_readingOf h (fun r_2 σ_1 f h0 => (have f0 : Fr wX_readTerm σ0 σ_1 := (fr.trans (f.weak (by decide +kernel))); ite_m (fun _ h1 => fm_x_wrong h1 (fun r_17 σ_16 f h2 => (have f2 : Fr wX_readTerm σ0 σ_16 := (f0.trans (f.weak (by decide +kernel))); kQ _ _ f2 h2))) (fun _ h1 => fm_x_termOf h1 (fun r_6 σ_5 f h2 => (have f2 : Fr wX_readTerm σ0 σ_5 := (f0.trans (f.weak (by decide +kernel))); kQ _ _ f2 h2)) (fun σ_7 f h2 => (have f2 : Fr wX_readTerm σ0 σ_7 := (f0.trans (f.weak (by decide +kernel))); fx_readTerm_j44 f2 h2 kQ))) h0))
theorem fm_x_kindAt {v1 : Int} {σ0 : S} {Q Q2 : Int → S → Prop} (h : x_kindAt v1 σ0 Q) (kQ : ∀ r s, Fr wX_kindAt σ0 s → Q r s → Q2 r s) : x_kindAt v1 σ0 Q2 := by
  have fr : Fr wX_kindAt σ0 σ0 := Fr.rf
  unfold x_kindAt at h ⊢
  exact ⟨h.1, ite_m (fun _ h1 => ⟨h1.1, fm_x_sortOfVariable h1.2 (fun r_12 σ_11 f h3 => (have f3 : Fr wX_kindAt σ0 σ_11 := (fr.trans (f.weak (by decide +kernel))); ⟨h3.1, kQ _ _ f3 h3.2⟩))⟩) (fun _ h1 => ⟨h1.1, ⟨h1.2.1, kQ _ _ fr h1.2.2⟩⟩) h.2⟩
theorem fx_know_L25_b {v1 : Int} {v2 : Int} {σ0 σ : S} {Q Q2 : Int → S → Prop} {X25 X252 : Int → S → Prop} {G : Orc} (hG : FrO wX_know G) (fr : Fr wX_know σ0 σ) (h : inb v1 200000 ∧ (if v2 < gA σ 68 v1 then x_at v1 v2 σ (fun r_10 σ_9 => G 0 [r_10] σ_9 (fun _ σ_11 => X25 (w32 (v2 + 1)) σ_11) (fun _ => False)) else Q 0 σ)) (kQ : ∀ r s, Fr wX_know σ0 s → Q r s → Q2 r s) (kX25 : ∀ v2 s, Fr wX_know σ0 s → X25 v2 s → X252 v2 s) : inb v1 200000 ∧ (if v2 < gA σ 68 v1 then x_at v1 v2 σ (fun r_10 σ_9 => G 0 [r_10] σ_9 (fun _ σ_11 => X252 (w32 (v2 + 1)) σ_11) (fun _ => False)) else Q2 0 σ) :=
  ⟨h.1, ite_m (fun _ h1 => fm_x_at h1 (fun r_10 σ_9 f h2 => (have f2 : Fr wX_know σ0 σ_9 := (fr.trans (f.weak (by decide +kernel))); hG _ _ _ _ _ _ _ h2 (fun _ σ_11 f h3 => (have f3 : Fr wX_know σ0 σ_11 := (f2.trans f); kX25 _ _ f3 h3)) (fun _ _ h => h)))) (fun _ h1 => kQ _ _ fr h1) h.2⟩
theorem fx_know_L25 {v1 : Int} {v2 : Int} {σ0 σ : S} {Q Q2 : Int → S → Prop} {G : Orc} (hG : FrO wX_know G) (fr : Fr wX_know σ0 σ) (h : x_know_L25 G v1 v2 σ Q) (kQ : ∀ r s, Fr wX_know σ0 s → Q r s → Q2 r s) : x_know_L25 G v1 v2 σ Q2 := by
  unfold x_know_L25 at h ⊢
  intro Y hY
  exact h (fun v2 s => Fr wX_know σ0 s → Y v2 s) (fun v2 s h f => hY v2 s (fx_know_L25_b (v1 := v1) (v2 := v2) (Q := Q) (Q2 := Q2) (X25 := fun v2 s => Fr wX_know σ0 s → Y v2 s) (X252 := Y) hG f h kQ (fun v2 s f h => h f))) fr
theorem lx_know_L25 {v1 : Int} {v2 : Int} {σ0 : S} {Q : Int → S → Prop} {G : Orc} (hG : FrO wX_know G) (I : Int → S → Prop) (me : Int → S → Nat) (h0 : I v2 σ0) (step : ∀ (v2 : Int) (s : S), Fr wX_know σ0 s → I v2 s → (fun (Y0 : Int → S → Prop) => inb v1 200000 ∧ (if v2 < gA s 68 v1 then x_at v1 v2 s (fun r_10 σ_9 => G 0 [r_10] σ_9 (fun _ σ_11 => Y0 (w32 (v2 + 1)) σ_11) (fun _ => False)) else Q 0 s)) (fun v2' s' => I v2' s' ∧ me v2' s' < me v2 s)) : x_know_L25 G v1 v2 σ0 Q := by
  unfold x_know_L25
  intro Y hY
  have key : ∀ (n : Nat) (v2 : Int) (s : S), me v2 s < n → Fr wX_know σ0 s → I v2 s → Y v2 s := by
    intro n
    induction n with
    | zero => intro v2 s h; exact absurd h (Nat.not_lt_zero _)
    | succ n ih =>
      intro v2 s hm fr hi
      exact hY v2 s (fx_know_L25_b (v1 := v1) (v2 := v2) (Q := Q) (Q2 := Q) (X25 := (fun v2' s' => I v2' s' ∧ me v2' s' < me v2 s)) (X252 := Y) hG fr (step v2 s fr hi) (fun _ _ _ h => h) (fun v2 s f h => ih v2 s (by omega) f h.1))
  exact key _ v2 σ0 (Nat.lt_succ_self _) Fr.rf h0
theorem fx_know_j23 {v1 : Int} {σ0 σ : S} {Q Q2 : Int → S → Prop} {G : Orc} (hG : FrO wX_know G) (fr : Fr wX_know σ0 σ) (h : x_know_j23 G v1 σ Q) (kQ : ∀ r s, Fr wX_know σ0 s → Q r s → Q2 r s) : x_know_j23 G v1 σ Q2 := by
  unfold x_know_j23 at h ⊢
  exact fx_know_L25 hG fr h kQ
theorem fx_know_F {v1 : Int} {σ0 : S} {Q Q2 : Int → S → Prop} {G : Orc} (hG : FrO wX_know G) (h : x_know_F G v1 σ0 Q) (kQ : ∀ r s, Fr wX_know σ0 s → Q r s → Q2 r s) : x_know_F G v1 σ0 Q2 := by
  have fr : Fr wX_know σ0 σ0 := Fr.rf
  unfold x_know_F at h ⊢
  exact ⟨h.1, ite_m (fun _ h1 => ⟨h1.1, ⟨h1.2.1, fun σ_14 e4 => (have f4 : Fr wX_know σ0 σ_14 := Fr.putA fr e4 rfl; fx_know_j23 hG f4 (h1.2.2 σ_14 e4) kQ)⟩⟩) (fun _ h1 => fx_know_j23 hG fr h1 kQ) h.2⟩
theorem fo_x_S_know : ∀ n, FrO wX_know (x_S_know n)
  | 0 => fun _ _ _ _ _ _ _ h _ _ => h.elim
  | n + 1 => fun i a σ Q Q2 E E2 h kQ kE => by
    unfold x_S_know at h ⊢
    split at h
    · exact fx_know_F (fo_x_S_know n) h kQ
    · exact h.elim
theorem fm_x_know {v1 : Int} {σ0 : S} {Q Q2 : Int → S → Prop} (h : x_know v1 σ0 Q) (kQ : ∀ r s, Fr wX_know σ0 s → Q r s → Q2 r s) : x_know v1 σ0 Q2 := fo_x_S_know 44 _ _ _ _ _ _ _ h kQ (fun _ _ h => h)
theorem fx_hasUnknown_L33_b {v1 : Int} {v2 : Int} {v3 : Int} {σ0 σ : S} {Q Q2 : Int → S → Prop} {X33 X332 : Int → Int → S → Prop} {G : Orc} (hG : FrO wX_hasUnknown G) (fr : Fr wX_hasUnknown σ0 σ) (h : inb v1 200000 ∧ (if (v3 < gA σ 68 v1) ∧ (v2 = 0) then x_at v1 v3 σ (fun r_14 σ_13 => G 0 [r_14] σ_13 (fun r_16 σ_15 => X33 r_16 (w32 (v3 + 1)) σ_15) (fun _ => False)) else Q v2 σ)) (kQ : ∀ r s, Fr wX_hasUnknown σ0 s → Q r s → Q2 r s) (kX33 : ∀ v2 v3 s, Fr wX_hasUnknown σ0 s → X33 v2 v3 s → X332 v2 v3 s) : inb v1 200000 ∧ (if (v3 < gA σ 68 v1) ∧ (v2 = 0) then x_at v1 v3 σ (fun r_14 σ_13 => G 0 [r_14] σ_13 (fun r_16 σ_15 => X332 r_16 (w32 (v3 + 1)) σ_15) (fun _ => False)) else Q2 v2 σ) :=
  ⟨h.1, ite_m (fun _ h1 => fm_x_at h1 (fun r_14 σ_13 f h2 => (have f2 : Fr wX_hasUnknown σ0 σ_13 := (fr.trans (f.weak (by decide +kernel))); hG _ _ _ _ _ _ _ h2 (fun r_16 σ_15 f h3 => (have f3 : Fr wX_hasUnknown σ0 σ_15 := (f2.trans f); kX33 _ _ _ f3 h3)) (fun _ _ h => h)))) (fun _ h1 => kQ _ _ fr h1) h.2⟩
theorem fx_hasUnknown_L33 {v1 : Int} {v2 : Int} {v3 : Int} {σ0 σ : S} {Q Q2 : Int → S → Prop} {G : Orc} (hG : FrO wX_hasUnknown G) (fr : Fr wX_hasUnknown σ0 σ) (h : x_hasUnknown_L33 G v1 v2 v3 σ Q) (kQ : ∀ r s, Fr wX_hasUnknown σ0 s → Q r s → Q2 r s) : x_hasUnknown_L33 G v1 v2 v3 σ Q2 := by
  unfold x_hasUnknown_L33 at h ⊢
  intro Y hY
  exact h (fun v2 v3 s => Fr wX_hasUnknown σ0 s → Y v2 v3 s) (fun v2 v3 s h f => hY v2 v3 s (fx_hasUnknown_L33_b (v1 := v1) (v2 := v2) (v3 := v3) (Q := Q) (Q2 := Q2) (X33 := fun v2 v3 s => Fr wX_hasUnknown σ0 s → Y v2 v3 s) (X332 := Y) hG f h kQ (fun v2 v3 s f h => h f))) fr
theorem lx_hasUnknown_L33 {v1 : Int} {v2 : Int} {v3 : Int} {σ0 : S} {Q : Int → S → Prop} {G : Orc} (hG : FrO wX_hasUnknown G) (I : Int → Int → S → Prop) (me : Int → Int → S → Nat) (h0 : I v2 v3 σ0) (step : ∀ (v2 : Int) (v3 : Int) (s : S), Fr wX_hasUnknown σ0 s → I v2 v3 s → (fun (Y0 : Int → Int → S → Prop) => inb v1 200000 ∧ (if (v3 < gA s 68 v1) ∧ (v2 = 0) then x_at v1 v3 s (fun r_14 σ_13 => G 0 [r_14] σ_13 (fun r_16 σ_15 => Y0 r_16 (w32 (v3 + 1)) σ_15) (fun _ => False)) else Q v2 s)) (fun v2' v3' s' => I v2' v3' s' ∧ me v2' v3' s' < me v2 v3 s)) : x_hasUnknown_L33 G v1 v2 v3 σ0 Q := by
  unfold x_hasUnknown_L33
  intro Y hY
  have key : ∀ (n : Nat) (v2 : Int) (v3 : Int) (s : S), me v2 v3 s < n → Fr wX_hasUnknown σ0 s → I v2 v3 s → Y v2 v3 s := by
    intro n
    induction n with
    | zero => intro v2 v3 s h; exact absurd h (Nat.not_lt_zero _)
    | succ n ih =>
      intro v2 v3 s hm fr hi
      exact hY v2 v3 s (fx_hasUnknown_L33_b (v1 := v1) (v2 := v2) (v3 := v3) (Q := Q) (Q2 := Q) (X33 := (fun v2' v3' s' => I v2' v3' s' ∧ me v2' v3' s' < me v2 v3 s)) (X332 := Y) hG fr (step v2 v3 s fr hi) (fun _ _ _ h => h) (fun v2 v3 s f h => ih v2 v3 s (by omega) f h.1))
  exact key _ v2 v3 σ0 (Nat.lt_succ_self _) Fr.rf h0
theorem fx_hasUnknown_F {v1 : Int} {σ0 : S} {Q Q2 : Int → S → Prop} {G : Orc} (hG : FrO wX_hasUnknown G) (h : x_hasUnknown_F G v1 σ0 Q) (kQ : ∀ r s, Fr wX_hasUnknown σ0 s → Q r s → Q2 r s) : x_hasUnknown_F G v1 σ0 Q2 := by
  have fr : Fr wX_hasUnknown σ0 σ0 := Fr.rf
  unfold x_hasUnknown_F at h ⊢
  exact ⟨h.1, ⟨h.2.1, ⟨h.2.2.1, fx_hasUnknown_L33 hG fr h.2.2.2 kQ⟩⟩⟩
theorem fo_x_S_hasUnknown : ∀ n, FrO wX_hasUnknown (x_S_hasUnknown n)
  | 0 => fun _ _ _ _ _ _ _ h _ _ => h.elim
  | n + 1 => fun i a σ Q Q2 E E2 h kQ kE => by
    unfold x_S_hasUnknown at h ⊢
    split at h
    · exact fx_hasUnknown_F (fo_x_S_hasUnknown n) h kQ
    · exact h.elim
theorem fm_x_hasUnknown {v1 : Int} {σ0 : S} {Q Q2 : Int → S → Prop} (h : x_hasUnknown v1 σ0 Q) (kQ : ∀ r s, Fr wX_hasUnknown σ0 s → Q r s → Q2 r s) : x_hasUnknown v1 σ0 Q2 := fo_x_S_hasUnknown 44 _ _ _ _ _ _ _ h kQ (fun _ _ h => h)
theorem fx_needs_j18 {σ0 σ : S} {Q Q2 : Int → S → Prop} (fr : Fr wX_needs σ0 σ) (h : x_needs_j18  σ Q) (kQ : ∀ r s, Fr wX_needs σ0 s → Q r s → Q2 r s) : x_needs_j18  σ Q2 := by
  unfold x_needs_j18 at h ⊢
  exact kQ _ _ fr h
theorem fm_x_needs {v1 : Int} {v2 : Int} {σ0 : S} {Q Q2 : Int → S → Prop} (h : x_needs v1 v2 σ0 Q) (kQ : ∀ r s, Fr wX_needs σ0 s → Q r s → Q2 r s) : x_needs v1 v2 σ0 Q2 := by
  have fr : Fr wX_needs σ0 σ0 := Fr.rf
  unfold x_needs at h ⊢
  exact fm_x_hasUnknown h (fun r_2 σ_1 f h0 => (have f0 : Fr wX_needs σ0 σ_1 := (fr.trans (f.weak (by decide +kernel))); ite_m (fun _ h1 => fx_needs_j18 f0 h1 kQ) (fun _ h1 => fm_x_wrong h1 (fun r_6 σ_5 f h2 => (have f2 : Fr wX_needs σ0 σ_5 := (f0.trans (f.weak (by decide +kernel))); ite_m (fun _ h3 => kQ _ _ f2 h3) (fun _ h3 => fx_needs_j18 f2 h3 kQ) h2))) h0))
theorem fx_layCondition_j188 {v1 : Int} {v2 : Int} {v3 : Int} {σ0 σ : S} {Q Q2 : Int → S → Prop} (fr : Fr wX_layCondition σ0 σ) (h : x_layCondition_j188 v1 v2 v3 σ Q) (kQ : ∀ r s, Fr wX_layCondition σ0 s → Q r s → Q2 r s) : x_layCondition_j188 v1 v2 v3 σ Q2 := by
  unfold x_layCondition_j188 at h ⊢
  exact ⟨h.1, ⟨h.2.1, fm_x_kindAt h.2.2 (fun r_26 σ_25 f h2 => (have f2 : Fr wX_layCondition σ0 σ_25 := (fr.trans (f.weak (by decide +kernel))); fm_x_readTerm h2 (fun r_28 σ_27 f h3 => (have f3 : Fr wX_layCondition σ0 σ_27 := (f2.trans (f.weak (by decide +kernel))); ⟨h3.1, fun σ_29 e5 => (have f5 : Fr wX_layCondition σ0 σ_29 := Fr.putA f3 e5 rfl; ite_m (fun _ h6 => kQ _ _ f5 h6) (fun _ h6 => ⟨h6.1, fm_x_needs h6.2 (fun r_37 σ_36 f h8 => (have f8 : Fr wX_layCondition σ0 σ_36 := (f5.trans (f.weak (by decide +kernel))); ite_m (fun _ h9 => kQ _ _ f8 h9) (fun _ h9 => ite_m (fun _ h10 => fm_x_know h10 (fun _ σ_42 f h11 => (have f11 : Fr wX_layCondition σ0 σ_42 := (f8.trans (f.weak (by decide +kernel))); kQ _ _ f11 h11))) (fun _ h10 => kQ _ _ f8 h10) h9) h8))⟩) (h3.2 σ_29 e5))⟩))))⟩⟩
theorem fx_layCondition_j119 {σ0 σ : S} {Q Q2 : Int → S → Prop} (fr : Fr wX_layCondition σ0 σ) (h : x_layCondition_j119  σ Q) (kQ : ∀ r s, Fr wX_layCondition σ0 s → Q r s → Q2 r s) : x_layCondition_j119  σ Q2 := by
  unfold x_layCondition_j119 at h ⊢
  exact kQ _ _ fr h
theorem fm_x_layCondition {v1 : Int} {σ0 : S} {Q Q2 : Int → S → Prop} (h : x_layCondition v1 σ0 Q) (kQ : ∀ r s, Fr wX_layCondition σ0 s → Q r s → Q2 r s) : x_layCondition v1 σ0 Q2 := by
  have fr : Fr wX_layCondition σ0 σ0 := Fr.rf
  unfold x_layCondition at h ⊢
  exact ⟨h.1, ite_m (fun _ h1 => ⟨h1.1, ⟨h1.2.1, fm_x_sortBy h1.2.2 (fun r_56 σ_55 f h4 => (have f4 : Fr wX_layCondition σ0 σ_55 := (fr.trans (f.weak (by decide +kernel))); ⟨h4.1, fun σ_57 e6 => (have f6 : Fr wX_layCondition σ0 σ_57 := Fr.putA f4 e6 rfl; ⟨(h4.2 σ_57 e6).1, ite_m (fun _ h8 => ⟨h8.1, fm_x_wrong h8.2 (fun r_92 σ_91 f h10 => (have f10 : Fr wX_layCondition σ0 σ_91 := (f6.trans (f.weak (by decide +kernel))); kQ _ _ f10 h10))⟩) (fun _ h8 => ⟨h8.1, ⟨h8.2.1, ⟨h8.2.2.1, ⟨h8.2.2.2.1, fm_x_readTerm h8.2.2.2.2 (fun r_73 σ_72 f h13 => (have f13 : Fr wX_layCondition σ0 σ_72 := (f6.trans (f.weak (by decide +kernel))); ⟨h13.1, fun σ_74 e15 => (have f15 : Fr wX_layCondition σ0 σ_74 := Fr.putA f13 e15 rfl; ⟨(h13.2 σ_74 e15).1, ite_m (fun _ h17 => fx_layCondition_j119 f15 h17 kQ) (fun _ h17 => ⟨h17.1, ⟨h17.2.1, fm_x_needs h17.2.2 (fun r_86 σ_85 f h20 => (have f20 : Fr wX_layCondition σ0 σ_85 := (f15.trans (f.weak (by decide +kernel))); ite_m (fun _ h21 => fx_layCondition_j119 f20 h21 kQ) (fun _ h21 => kQ _ _ f20 h21) h20))⟩⟩) (h13.2 σ_74 e15).2⟩)⟩))⟩⟩⟩⟩) (h4.2 σ_57 e6).2⟩)⟩))⟩⟩) (fun _ h1 => ⟨h1.1, ⟨h1.2.1, fm_x_readTerm h1.2.2 (fun r_10 σ_9 f h4 => (have f4 : Fr wX_layCondition σ0 σ_9 := (fr.trans (f.weak (by decide +kernel))); ite_m (fun _ h5 => kQ _ _ f4 h5) (fun _ h5 => ⟨h5.1, fun σ_13 e7 => (have f7 : Fr wX_layCondition σ0 σ_13 := Fr.putA f4 e7 rfl; ⟨(h5.2 σ_13 e7).1, ite_m (fun _ h9 => fx_layCondition_j188 f7 h9 kQ) (fun _ h9 => ⟨h9.1, fm_x_needs h9.2 (fun r_46 σ_45 f h11 => (have f11 : Fr wX_layCondition σ0 σ_45 := (f7.trans (f.weak (by decide +kernel))); ite_m (fun _ h12 => kQ _ _ f11 h12) (fun _ h12 => fx_layCondition_j188 f11 h12 kQ) h11))⟩) (h5.2 σ_13 e7).2⟩)⟩) h4))⟩⟩) h.2⟩
theorem fx_layStatement_j76 {σ0 σ : S} {Q Q2 : Int → S → Prop} (fr : Fr wX_layStatement σ0 σ) (h : x_layStatement_j76  σ Q) (kQ : ∀ r s, Fr wX_layStatement σ0 s → Q r s → Q2 r s) : x_layStatement_j76  σ Q2 := by
  unfold x_layStatement_j76 at h ⊢
  exact kQ _ _ fr h
theorem fx_layStatement_j53 {v1 : Int} {v2 : Int} {σ0 σ : S} {Q Q2 : Int → S → Prop} (fr : Fr wX_layStatement σ0 σ) (h : x_layStatement_j53 v1 v2 σ Q) (kQ : ∀ r s, Fr wX_layStatement σ0 s → Q r s → Q2 r s) : x_layStatement_j53 v1 v2 σ Q2 := by
  unfold x_layStatement_j53 at h ⊢
  exact ite_m (fun _ h0 => fx_layStatement_j76 fr h0 kQ) (fun _ h0 => ⟨h0.1, fm_x_wrong h0.2 (fun r_16 σ_15 f h2 => (have f2 : Fr wX_layStatement σ0 σ_15 := (fr.trans (f.weak (by decide +kernel))); ite_m (fun _ h3 => fx_layStatement_j76 f2 h3 kQ) (fun _ h3 => kQ _ _ f2 h3) h2))⟩) h
theorem fx_layStatement_j174 {σ0 σ : S} {Q Q2 : Int → S → Prop} (fr : Fr wX_layStatement σ0 σ) (h : x_layStatement_j174  σ Q) (kQ : ∀ r s, Fr wX_layStatement σ0 s → Q r s → Q2 r s) : x_layStatement_j174  σ Q2 := by
  unfold x_layStatement_j174 at h ⊢
  exact kQ _ _ fr h
theorem fx_layStatement_j123 {v1 : Int} {v2 : Int} {σ0 σ : S} {Q Q2 : Int → S → Prop} (fr : Fr wX_layStatement σ0 σ) (h : x_layStatement_j123 v1 v2 σ Q) (kQ : ∀ r s, Fr wX_layStatement σ0 s → Q r s → Q2 r s) : x_layStatement_j123 v1 v2 σ Q2 := by
  unfold x_layStatement_j123 at h ⊢
  exact ⟨h.1, ⟨h.2.1, fm_x_kindAt h.2.2 (fun r_36 σ_35 f h2 => (have f2 : Fr wX_layStatement σ0 σ_35 := (fr.trans (f.weak (by decide +kernel))); fm_x_readTerm h2 (fun r_38 σ_37 f h3 => (have f3 : Fr wX_layStatement σ0 σ_37 := (f2.trans (f.weak (by decide +kernel))); ⟨h3.1, fun σ_39 e5 => (have f5 : Fr wX_layStatement σ0 σ_39 := Fr.putA f3 e5 rfl; ite_m (fun _ h6 => fx_layStatement_j174 f5 h6 kQ) (fun _ h6 => ⟨h6.1, fm_x_needs h6.2 (fun r_47 σ_46 f h8 => (have f8 : Fr wX_layStatement σ0 σ_46 := (f5.trans (f.weak (by decide +kernel))); ite_m (fun _ h9 => fx_layStatement_j174 f8 h9 kQ) (fun _ h9 => kQ _ _ f8 h9) h8))⟩) (h3.2 σ_39 e5))⟩))))⟩⟩
theorem fx_layStatement_L92_b {v1 : Int} {v2 : Int} {v3 : Int} {σ0 σ : S} {Q Q2 : Int → S → Prop} {X92 X922 : Int → S → Prop} (fr : Fr wX_layStatement σ0 σ) (h : inb v1 70 ∧ (if v3 < gA σ 32 v1 then x_layCondition (w32 (w32 (6 * v1) + v3)) σ (fun r_51 σ_50 => (if r_51 = 0 then Q 0 σ_50 else X92 (w32 (v3 + 1)) σ_50)) else x_layStatement_j123 v1 v2 σ Q)) (kQ : ∀ r s, Fr wX_layStatement σ0 s → Q r s → Q2 r s) (kX92 : ∀ v3 s, Fr wX_layStatement σ0 s → X92 v3 s → X922 v3 s) : inb v1 70 ∧ (if v3 < gA σ 32 v1 then x_layCondition (w32 (w32 (6 * v1) + v3)) σ (fun r_51 σ_50 => (if r_51 = 0 then Q2 0 σ_50 else X922 (w32 (v3 + 1)) σ_50)) else x_layStatement_j123 v1 v2 σ Q2) :=
  ⟨h.1, ite_m (fun _ h1 => fm_x_layCondition h1 (fun r_51 σ_50 f h2 => (have f2 : Fr wX_layStatement σ0 σ_50 := (fr.trans (f.weak (by decide +kernel))); ite_m (fun _ h3 => kQ _ _ f2 h3) (fun _ h3 => kX92 _ _ f2 h3) h2))) (fun _ h1 => fx_layStatement_j123 fr h1 kQ) h.2⟩
theorem fx_layStatement_L92 {v1 : Int} {v2 : Int} {v3 : Int} {σ0 σ : S} {Q Q2 : Int → S → Prop} (fr : Fr wX_layStatement σ0 σ) (h : x_layStatement_L92 v1 v2 v3 σ Q) (kQ : ∀ r s, Fr wX_layStatement σ0 s → Q r s → Q2 r s) : x_layStatement_L92 v1 v2 v3 σ Q2 := by
  unfold x_layStatement_L92 at h ⊢
  intro Y hY
  exact h (fun v3 s => Fr wX_layStatement σ0 s → Y v3 s) (fun v3 s h f => hY v3 s (fx_layStatement_L92_b (v1 := v1) (v2 := v2) (v3 := v3) (Q := Q) (Q2 := Q2) (X92 := fun v3 s => Fr wX_layStatement σ0 s → Y v3 s) (X922 := Y) f h kQ (fun v3 s f h => h f))) fr
theorem lx_layStatement_L92 {v1 : Int} {v2 : Int} {v3 : Int} {σ0 : S} {Q : Int → S → Prop} (I : Int → S → Prop) (me : Int → S → Nat) (h0 : I v3 σ0) (step : ∀ (v3 : Int) (s : S), Fr wX_layStatement σ0 s → I v3 s → (fun (Y0 : Int → S → Prop) => inb v1 70 ∧ (if v3 < gA s 32 v1 then x_layCondition (w32 (w32 (6 * v1) + v3)) s (fun r_51 σ_50 => (if r_51 = 0 then Q 0 σ_50 else Y0 (w32 (v3 + 1)) σ_50)) else x_layStatement_j123 v1 v2 s Q)) (fun v3' s' => I v3' s' ∧ me v3' s' < me v3 s)) : x_layStatement_L92 v1 v2 v3 σ0 Q := by
  unfold x_layStatement_L92
  intro Y hY
  have key : ∀ (n : Nat) (v3 : Int) (s : S), me v3 s < n → Fr wX_layStatement σ0 s → I v3 s → Y v3 s := by
    intro n
    induction n with
    | zero => intro v3 s h; exact absurd h (Nat.not_lt_zero _)
    | succ n ih =>
      intro v3 s hm fr hi
      exact hY v3 s (fx_layStatement_L92_b (v1 := v1) (v2 := v2) (v3 := v3) (Q := Q) (Q2 := Q) (X92 := (fun v3' s' => I v3' s' ∧ me v3' s' < me v3 s)) (X922 := Y) fr (step v3 s fr hi) (fun _ _ _ h => h) (fun v3 s f h => ih v3 s (by omega) f h.1))
  exact key _ v3 σ0 (Nat.lt_succ_self _) Fr.rf h0
theorem fx_layStatement_j21 {v1 : Int} {σ0 σ : S} {Q Q2 : Int → S → Prop} (fr : Fr wX_layStatement σ0 σ) (h : x_layStatement_j21 v1 σ Q) (kQ : ∀ r s, Fr wX_layStatement σ0 s → Q r s → Q2 r s) : x_layStatement_j21 v1 σ Q2 := by
  unfold x_layStatement_j21 at h ⊢
  exact ⟨h.1, ⟨h.2.1, fm_x_readTerm h.2.2 (fun r_8 σ_7 f h2 => (have f2 : Fr wX_layStatement σ0 σ_7 := (fr.trans (f.weak (by decide +kernel))); ite_m (fun _ h3 => fx_layStatement_j53 f2 h3 kQ) (fun _ h3 => ⟨h3.1, ite_m (fun _ h5 => fx_layStatement_j53 f2 h5 kQ) (fun _ h5 => fm_x_know h5 (fun _ σ_23 f h6 => (have f6 : Fr wX_layStatement σ0 σ_23 := (f2.trans (f.weak (by decide +kernel))); ⟨h6.1, fun σ_24 e8 => (have f8 : Fr wX_layStatement σ0 σ_24 := Fr.putA f6 e8 rfl; fx_layStatement_L92 f8 (h6.2 σ_24 e8) kQ)⟩))) h3.2⟩) h2))⟩⟩
theorem fx_layStatement_L2_b {v1 : Int} {v2 : Int} {σ0 σ : S} {Q Q2 : Int → S → Prop} {X2 X22 : Int → S → Prop} (fr : Fr wX_layStatement σ0 σ) (h : (if v2 < 30 then inb v2 30 ∧ ∀ σ_54, σ_54 = pA σ 82 v2 0 → X2 (w32 (v2 + 1)) σ_54 else x_layStatement_j21 v1 σ Q)) (kQ : ∀ r s, Fr wX_layStatement σ0 s → Q r s → Q2 r s) (kX2 : ∀ v2 s, Fr wX_layStatement σ0 s → X2 v2 s → X22 v2 s) : (if v2 < 30 then inb v2 30 ∧ ∀ σ_54, σ_54 = pA σ 82 v2 0 → X22 (w32 (v2 + 1)) σ_54 else x_layStatement_j21 v1 σ Q2) :=
  ite_m (fun _ h0 => ⟨h0.1, fun σ_54 e2 => (have f2 : Fr wX_layStatement σ0 σ_54 := Fr.putA fr e2 rfl; kX2 _ _ f2 (h0.2 σ_54 e2))⟩) (fun _ h0 => fx_layStatement_j21 fr h0 kQ) h
theorem fx_layStatement_L2 {v1 : Int} {v2 : Int} {σ0 σ : S} {Q Q2 : Int → S → Prop} (fr : Fr wX_layStatement σ0 σ) (h : x_layStatement_L2 v1 v2 σ Q) (kQ : ∀ r s, Fr wX_layStatement σ0 s → Q r s → Q2 r s) : x_layStatement_L2 v1 v2 σ Q2 := by
  unfold x_layStatement_L2 at h ⊢
  intro Y hY
  exact h (fun v2 s => Fr wX_layStatement σ0 s → Y v2 s) (fun v2 s h f => hY v2 s (fx_layStatement_L2_b (v1 := v1) (v2 := v2) (Q := Q) (Q2 := Q2) (X2 := fun v2 s => Fr wX_layStatement σ0 s → Y v2 s) (X22 := Y) f h kQ (fun v2 s f h => h f))) fr
theorem lx_layStatement_L2 {v1 : Int} {v2 : Int} {σ0 : S} {Q : Int → S → Prop} (I : Int → S → Prop) (me : Int → S → Nat) (h0 : I v2 σ0) (step : ∀ (v2 : Int) (s : S), Fr wX_layStatement σ0 s → I v2 s → (fun (Y0 : Int → S → Prop) => (if v2 < 30 then inb v2 30 ∧ ∀ σ_54, σ_54 = pA s 82 v2 0 → Y0 (w32 (v2 + 1)) σ_54 else x_layStatement_j21 v1 s Q)) (fun v2' s' => I v2' s' ∧ me v2' s' < me v2 s)) : x_layStatement_L2 v1 v2 σ0 Q := by
  unfold x_layStatement_L2
  intro Y hY
  have key : ∀ (n : Nat) (v2 : Int) (s : S), me v2 s < n → Fr wX_layStatement σ0 s → I v2 s → Y v2 s := by
    intro n
    induction n with
    | zero => intro v2 s h; exact absurd h (Nat.not_lt_zero _)
    | succ n ih =>
      intro v2 s hm fr hi
      exact hY v2 s (fx_layStatement_L2_b (v1 := v1) (v2 := v2) (Q := Q) (Q2 := Q) (X2 := (fun v2' s' => I v2' s' ∧ me v2' s' < me v2 s)) (X22 := Y) fr (step v2 s fr hi) (fun _ _ _ h => h) (fun v2 s f h => ih v2 s (by omega) f h.1))
  exact key _ v2 σ0 (Nat.lt_succ_self _) Fr.rf h0
theorem fm_x_layStatement {v1 : Int} {σ0 : S} {Q Q2 : Int → S → Prop} (h : x_layStatement v1 σ0 Q) (kQ : ∀ r s, Fr wX_layStatement σ0 s → Q r s → Q2 r s) : x_layStatement v1 σ0 Q2 := by
  have fr : Fr wX_layStatement σ0 σ0 := Fr.rf
  unfold x_layStatement at h ⊢
  exact fx_layStatement_L2 fr h kQ
theorem fx_layDeclared_j129 {σ0 σ : S} {Q Q2 : Int → S → Prop} (fr : Fr wX_layDeclared σ0 σ) (h : x_layDeclared_j129  σ Q) (kQ : ∀ r s, Fr wX_layDeclared σ0 s → Q r s → Q2 r s) : x_layDeclared_j129  σ Q2 := by
  unfold x_layDeclared_j129 at h ⊢
  exact ite_m (fun _ h0 => fm_x_layOperators h0 (fun _ σ_16 f h1 => (have f1 : Fr wX_layDeclared σ0 σ_16 := (fr.trans (f.weak (by decide +kernel))); kQ _ _ f1 h1))) (fun _ h0 => kQ _ _ fr h0) h
theorem fx_layDeclared_j123 {v1 : Int} {σ0 σ : S} {Q Q2 : Int → S → Prop} {X56 X562 : Int → S → Prop} (fr : Fr wX_layDeclared σ0 σ) (h : x_layDeclared_j123 v1 σ Q X56) (kQ : ∀ r s, Fr wX_layDeclared σ0 s → Q r s → Q2 r s) (kX56 : ∀ a0 s, Fr wX_layDeclared σ0 s → X56 a0 s → X562 a0 s) : x_layDeclared_j123 v1 σ Q2 X562 := by
  unfold x_layDeclared_j123 at h ⊢
  exact kX56 _ _ fr h
theorem fx_layDeclared_j115 {v1 : Int} {v2 : Int} {v3 : Int} {s0 : Int} {σ0 σ : S} {Q Q2 : Int → S → Prop} {X56 X562 : Int → S → Prop} {X76 X762 : Int → S → Prop} (fr : Fr wX_layDeclared σ0 σ) (h : x_layDeclared_j115 v1 v2 v3 s0 σ Q X56 X76) (kQ : ∀ r s, Fr wX_layDeclared σ0 s → Q r s → Q2 r s) (kX56 : ∀ a0 s, Fr wX_layDeclared σ0 s → X56 a0 s → X562 a0 s) (kX76 : ∀ a0 s, Fr wX_layDeclared σ0 s → X76 a0 s → X762 a0 s) : x_layDeclared_j115 v1 v2 v3 s0 σ Q2 X562 X762 := by
  unfold x_layDeclared_j115 at h ⊢
  exact kX76 _ _ fr h
theorem fx_layDeclared_L76_b {v1 : Int} {v2 : Int} {v3 : Int} {σ0 σ : S} {Q Q2 : Int → S → Prop} {X56 X562 : Int → S → Prop} {X76 X762 : Int → S → Prop} (fr : Fr wX_layDeclared σ0 σ) (h : inb v2 70 ∧ (if v3 < w32 (w32 (6 * v2) + (gA σ 32 v2)) then inb v3 420 ∧ (if gA σ 33 v3 = 2 then inb v3 420 ∧ x_sortAt (gA σ 36 v3) σ (fun r_30 σ_29 => x_layDeclared_j115 v1 v2 v3 r_30 σ_29 Q X56 X76) else x_layDeclared_j115 v1 v2 v3 0 σ Q X56 X76) else x_layDeclared_j123 v1 σ Q X56)) (kQ : ∀ r s, Fr wX_layDeclared σ0 s → Q r s → Q2 r s) (kX56 : ∀ a0 s, Fr wX_layDeclared σ0 s → X56 a0 s → X562 a0 s) (kX76 : ∀ v3 s, Fr wX_layDeclared σ0 s → X76 v3 s → X762 v3 s) : inb v2 70 ∧ (if v3 < w32 (w32 (6 * v2) + (gA σ 32 v2)) then inb v3 420 ∧ (if gA σ 33 v3 = 2 then inb v3 420 ∧ x_sortAt (gA σ 36 v3) σ (fun r_30 σ_29 => x_layDeclared_j115 v1 v2 v3 r_30 σ_29 Q2 X562 X762) else x_layDeclared_j115 v1 v2 v3 0 σ Q2 X562 X762) else x_layDeclared_j123 v1 σ Q2 X562) :=
  ⟨h.1, ite_m (fun _ h1 => ⟨h1.1, ite_m (fun _ h3 => ⟨h3.1, fm_x_sortAt h3.2 (fun r_30 σ_29 f h5 => (have f5 : Fr wX_layDeclared σ0 σ_29 := (fr.trans (f.weak (by decide +kernel))); fx_layDeclared_j115 f5 h5 kQ kX56 kX76))⟩) (fun _ h3 => fx_layDeclared_j115 fr h3 kQ kX56 kX76) h1.2⟩) (fun _ h1 => fx_layDeclared_j123 fr h1 kQ kX56) h.2⟩
theorem fx_layDeclared_L76 {v1 : Int} {v2 : Int} {v3 : Int} {σ0 σ : S} {Q Q2 : Int → S → Prop} {X56 X562 : Int → S → Prop} (fr : Fr wX_layDeclared σ0 σ) (h : x_layDeclared_L76 v1 v2 v3 σ Q X56) (kQ : ∀ r s, Fr wX_layDeclared σ0 s → Q r s → Q2 r s) (kX56 : ∀ a0 s, Fr wX_layDeclared σ0 s → X56 a0 s → X562 a0 s) : x_layDeclared_L76 v1 v2 v3 σ Q2 X562 := by
  unfold x_layDeclared_L76 at h ⊢
  intro Y hY
  exact h (fun v3 s => Fr wX_layDeclared σ0 s → Y v3 s) (fun v3 s h f => hY v3 s (fx_layDeclared_L76_b (v1 := v1) (v2 := v2) (v3 := v3) (Q := Q) (Q2 := Q2) (X56 := X56) (X562 := X562) (X76 := fun v3 s => Fr wX_layDeclared σ0 s → Y v3 s) (X762 := Y) f h kQ kX56 (fun v3 s f h => h f))) fr
theorem lx_layDeclared_L76 {v1 : Int} {v2 : Int} {v3 : Int} {σ0 : S} {Q : Int → S → Prop} {X56 : Int → S → Prop} (I : Int → S → Prop) (me : Int → S → Nat) (h0 : I v3 σ0) (step : ∀ (v3 : Int) (s : S), Fr wX_layDeclared σ0 s → I v3 s → (fun (Y0 : Int → S → Prop) => inb v2 70 ∧ (if v3 < w32 (w32 (6 * v2) + (gA s 32 v2)) then inb v3 420 ∧ (if gA s 33 v3 = 2 then inb v3 420 ∧ x_sortAt (gA s 36 v3) s (fun r_30 σ_29 => x_layDeclared_j115 v1 v2 v3 r_30 σ_29 Q X56 Y0) else x_layDeclared_j115 v1 v2 v3 0 s Q X56 Y0) else x_layDeclared_j123 v1 s Q X56)) (fun v3' s' => I v3' s' ∧ me v3' s' < me v3 s)) : x_layDeclared_L76 v1 v2 v3 σ0 Q X56 := by
  unfold x_layDeclared_L76
  intro Y hY
  have key : ∀ (n : Nat) (v3 : Int) (s : S), me v3 s < n → Fr wX_layDeclared σ0 s → I v3 s → Y v3 s := by
    intro n
    induction n with
    | zero => intro v3 s h; exact absurd h (Nat.not_lt_zero _)
    | succ n ih =>
      intro v3 s hm fr hi
      exact hY v3 s (fx_layDeclared_L76_b (v1 := v1) (v2 := v2) (v3 := v3) (Q := Q) (Q2 := Q) (X56 := X56) (X562 := X56) (X76 := (fun v3' s' => I v3' s' ∧ me v3' s' < me v3 s)) (X762 := Y) fr (step v3 s fr hi) (fun _ _ _ h => h) (fun _ _ _ h => h) (fun v3 s f h => ih v3 s (by omega) f h.1))
  exact key _ v3 σ0 (Nat.lt_succ_self _) Fr.rf h0
theorem fx_layDeclared_L56_b {v1 : Int} {σ0 σ : S} {Q Q2 : Int → S → Prop} {X56 X562 : Int → S → Prop} (fr : Fr wX_layDeclared σ0 σ) (h : (if v1 < gI σ 44 then inb v1 70 ∧ x_layDeclared_L76 v1 (gA σ 25 v1) (w32 (6 * (gA σ 25 v1))) σ Q X56 else x_layDeclared_j129 σ Q)) (kQ : ∀ r s, Fr wX_layDeclared σ0 s → Q r s → Q2 r s) (kX56 : ∀ v1 s, Fr wX_layDeclared σ0 s → X56 v1 s → X562 v1 s) : (if v1 < gI σ 44 then inb v1 70 ∧ x_layDeclared_L76 v1 (gA σ 25 v1) (w32 (6 * (gA σ 25 v1))) σ Q2 X562 else x_layDeclared_j129 σ Q2) :=
  ite_m (fun _ h0 => ⟨h0.1, fx_layDeclared_L76 fr h0.2 kQ kX56⟩) (fun _ h0 => fx_layDeclared_j129 fr h0 kQ) h
theorem fx_layDeclared_L56 {v1 : Int} {σ0 σ : S} {Q Q2 : Int → S → Prop} (fr : Fr wX_layDeclared σ0 σ) (h : x_layDeclared_L56 v1 σ Q) (kQ : ∀ r s, Fr wX_layDeclared σ0 s → Q r s → Q2 r s) : x_layDeclared_L56 v1 σ Q2 := by
  unfold x_layDeclared_L56 at h ⊢
  intro Y hY
  exact h (fun v1 s => Fr wX_layDeclared σ0 s → Y v1 s) (fun v1 s h f => hY v1 s (fx_layDeclared_L56_b (v1 := v1) (Q := Q) (Q2 := Q2) (X56 := fun v1 s => Fr wX_layDeclared σ0 s → Y v1 s) (X562 := Y) f h kQ (fun v1 s f h => h f))) fr
theorem lx_layDeclared_L56 {v1 : Int} {σ0 : S} {Q : Int → S → Prop} (I : Int → S → Prop) (me : Int → S → Nat) (h0 : I v1 σ0) (step : ∀ (v1 : Int) (s : S), Fr wX_layDeclared σ0 s → I v1 s → (fun (Y0 : Int → S → Prop) => (if v1 < gI s 44 then inb v1 70 ∧ x_layDeclared_L76 v1 (gA s 25 v1) (w32 (6 * (gA s 25 v1))) s Q Y0 else x_layDeclared_j129 s Q)) (fun v1' s' => I v1' s' ∧ me v1' s' < me v1 s)) : x_layDeclared_L56 v1 σ0 Q := by
  unfold x_layDeclared_L56
  intro Y hY
  have key : ∀ (n : Nat) (v1 : Int) (s : S), me v1 s < n → Fr wX_layDeclared σ0 s → I v1 s → Y v1 s := by
    intro n
    induction n with
    | zero => intro v1 s h; exact absurd h (Nat.not_lt_zero _)
    | succ n ih =>
      intro v1 s hm fr hi
      exact hY v1 s (fx_layDeclared_L56_b (v1 := v1) (Q := Q) (Q2 := Q) (X56 := (fun v1' s' => I v1' s' ∧ me v1' s' < me v1 s)) (X562 := Y) fr (step v1 s fr hi) (fun _ _ _ h => h) (fun v1 s f h => ih v1 s (by omega) f h.1))
  exact key _ v1 σ0 (Nat.lt_succ_self _) Fr.rf h0
theorem fx_layDeclared_j54 {σ0 σ : S} {Q Q2 : Int → S → Prop} (fr : Fr wX_layDeclared σ0 σ) (h : x_layDeclared_j54  σ Q) (kQ : ∀ r s, Fr wX_layDeclared σ0 s → Q r s → Q2 r s) : x_layDeclared_j54  σ Q2 := by
  unfold x_layDeclared_j54 at h ⊢
  exact fx_layDeclared_L56 fr h kQ
theorem fx_layDeclared_L35_b {v1 : Int} {σ0 σ : S} {Q Q2 : Int → S → Prop} {X35 X352 : Int → S → Prop} (fr : Fr wX_layDeclared σ0 σ) (h : (if v1 < gI σ 29 then x_layRow v1 σ (fun _ σ_31 => X35 (w32 (v1 + 1)) σ_31) else x_layDeclared_j54 σ Q)) (kQ : ∀ r s, Fr wX_layDeclared σ0 s → Q r s → Q2 r s) (kX35 : ∀ v1 s, Fr wX_layDeclared σ0 s → X35 v1 s → X352 v1 s) : (if v1 < gI σ 29 then x_layRow v1 σ (fun _ σ_31 => X352 (w32 (v1 + 1)) σ_31) else x_layDeclared_j54 σ Q2) :=
  ite_m (fun _ h0 => fm_x_layRow h0 (fun _ σ_31 f h1 => (have f1 : Fr wX_layDeclared σ0 σ_31 := (fr.trans (f.weak (by decide +kernel))); kX35 _ _ f1 h1))) (fun _ h0 => fx_layDeclared_j54 fr h0 kQ) h
theorem fx_layDeclared_L35 {v1 : Int} {σ0 σ : S} {Q Q2 : Int → S → Prop} (fr : Fr wX_layDeclared σ0 σ) (h : x_layDeclared_L35 v1 σ Q) (kQ : ∀ r s, Fr wX_layDeclared σ0 s → Q r s → Q2 r s) : x_layDeclared_L35 v1 σ Q2 := by
  unfold x_layDeclared_L35 at h ⊢
  intro Y hY
  exact h (fun v1 s => Fr wX_layDeclared σ0 s → Y v1 s) (fun v1 s h f => hY v1 s (fx_layDeclared_L35_b (v1 := v1) (Q := Q) (Q2 := Q2) (X35 := fun v1 s => Fr wX_layDeclared σ0 s → Y v1 s) (X352 := Y) f h kQ (fun v1 s f h => h f))) fr
theorem lx_layDeclared_L35 {v1 : Int} {σ0 : S} {Q : Int → S → Prop} (I : Int → S → Prop) (me : Int → S → Nat) (h0 : I v1 σ0) (step : ∀ (v1 : Int) (s : S), Fr wX_layDeclared σ0 s → I v1 s → (fun (Y0 : Int → S → Prop) => (if v1 < gI s 29 then x_layRow v1 s (fun _ σ_31 => Y0 (w32 (v1 + 1)) σ_31) else x_layDeclared_j54 s Q)) (fun v1' s' => I v1' s' ∧ me v1' s' < me v1 s)) : x_layDeclared_L35 v1 σ0 Q := by
  unfold x_layDeclared_L35
  intro Y hY
  have key : ∀ (n : Nat) (v1 : Int) (s : S), me v1 s < n → Fr wX_layDeclared σ0 s → I v1 s → Y v1 s := by
    intro n
    induction n with
    | zero => intro v1 s h; exact absurd h (Nat.not_lt_zero _)
    | succ n ih =>
      intro v1 s hm fr hi
      exact hY v1 s (fx_layDeclared_L35_b (v1 := v1) (Q := Q) (Q2 := Q) (X35 := (fun v1' s' => I v1' s' ∧ me v1' s' < me v1 s)) (X352 := Y) fr (step v1 s fr hi) (fun _ _ _ h => h) (fun v1 s f h => ih v1 s (by omega) f h.1))
  exact key _ v1 σ0 (Nat.lt_succ_self _) Fr.rf h0
theorem fx_layDeclared_j25 {σ0 σ : S} {Q Q2 : Int → S → Prop} (fr : Fr wX_layDeclared σ0 σ) (h : x_layDeclared_j25  σ Q) (kQ : ∀ r s, Fr wX_layDeclared σ0 s → Q r s → Q2 r s) : x_layDeclared_j25  σ Q2 := by
  unfold x_layDeclared_j25 at h ⊢
  exact fm_x_layKinds h (fun _ σ_5 f h0 => (have f0 : Fr wX_layDeclared σ0 σ_5 := (fr.trans (f.weak (by decide +kernel))); fm_x_layVariables h0 (fun _ σ_6 f h1 => (have f1 : Fr wX_layDeclared σ0 σ_6 := (f0.trans (f.weak (by decide +kernel))); fx_layDeclared_L35 f1 h1 kQ))))
theorem fx_layDeclared_L6_b {v1 : Int} {σ0 σ : S} {Q Q2 : Int → S → Prop} {X6 X62 : Int → S → Prop} (fr : Fr wX_layDeclared σ0 σ) (h : (if v1 < gI σ 24 then x_layLess v1 σ (fun _ σ_32 => X6 (w32 (v1 + 1)) σ_32) else x_layDeclared_j25 σ Q)) (kQ : ∀ r s, Fr wX_layDeclared σ0 s → Q r s → Q2 r s) (kX6 : ∀ v1 s, Fr wX_layDeclared σ0 s → X6 v1 s → X62 v1 s) : (if v1 < gI σ 24 then x_layLess v1 σ (fun _ σ_32 => X62 (w32 (v1 + 1)) σ_32) else x_layDeclared_j25 σ Q2) :=
  ite_m (fun _ h0 => fm_x_layLess h0 (fun _ σ_32 f h1 => (have f1 : Fr wX_layDeclared σ0 σ_32 := (fr.trans (f.weak (by decide +kernel))); kX6 _ _ f1 h1))) (fun _ h0 => fx_layDeclared_j25 fr h0 kQ) h
theorem fx_layDeclared_L6 {v1 : Int} {σ0 σ : S} {Q Q2 : Int → S → Prop} (fr : Fr wX_layDeclared σ0 σ) (h : x_layDeclared_L6 v1 σ Q) (kQ : ∀ r s, Fr wX_layDeclared σ0 s → Q r s → Q2 r s) : x_layDeclared_L6 v1 σ Q2 := by
  unfold x_layDeclared_L6 at h ⊢
  intro Y hY
  exact h (fun v1 s => Fr wX_layDeclared σ0 s → Y v1 s) (fun v1 s h f => hY v1 s (fx_layDeclared_L6_b (v1 := v1) (Q := Q) (Q2 := Q2) (X6 := fun v1 s => Fr wX_layDeclared σ0 s → Y v1 s) (X62 := Y) f h kQ (fun v1 s f h => h f))) fr
theorem lx_layDeclared_L6 {v1 : Int} {σ0 : S} {Q : Int → S → Prop} (I : Int → S → Prop) (me : Int → S → Nat) (h0 : I v1 σ0) (step : ∀ (v1 : Int) (s : S), Fr wX_layDeclared σ0 s → I v1 s → (fun (Y0 : Int → S → Prop) => (if v1 < gI s 24 then x_layLess v1 s (fun _ σ_32 => Y0 (w32 (v1 + 1)) σ_32) else x_layDeclared_j25 s Q)) (fun v1' s' => I v1' s' ∧ me v1' s' < me v1 s)) : x_layDeclared_L6 v1 σ0 Q := by
  unfold x_layDeclared_L6
  intro Y hY
  have key : ∀ (n : Nat) (v1 : Int) (s : S), me v1 s < n → Fr wX_layDeclared σ0 s → I v1 s → Y v1 s := by
    intro n
    induction n with
    | zero => intro v1 s h; exact absurd h (Nat.not_lt_zero _)
    | succ n ih =>
      intro v1 s hm fr hi
      exact hY v1 s (fx_layDeclared_L6_b (v1 := v1) (Q := Q) (Q2 := Q) (X6 := (fun v1' s' => I v1' s' ∧ me v1' s' < me v1 s)) (X62 := Y) fr (step v1 s fr hi) (fun _ _ _ h => h) (fun v1 s f h => ih v1 s (by omega) f h.1))
  exact key _ v1 σ0 (Nat.lt_succ_self _) Fr.rf h0
theorem fm_x_layDeclared {σ0 : S} {Q Q2 : Int → S → Prop} (h : x_layDeclared  σ0 Q) (kQ : ∀ r s, Fr wX_layDeclared σ0 s → Q r s → Q2 r s) : x_layDeclared  σ0 Q2 := by
  have fr : Fr wX_layDeclared σ0 σ0 := Fr.rf
  unfold x_layDeclared at h ⊢
  exact fm_x_laySorts h (fun _ σ_1 f h0 => (have f0 : Fr wX_layDeclared σ0 σ_1 := (fr.trans (f.weak (by decide +kernel))); fx_layDeclared_L6 f0 h0 kQ))
theorem fx_module_j82 {σ0 σ : S} {Q Q2 : Int → S → Prop} (fr : Fr wX_module σ0 σ) (h : x_module_j82  σ Q) (kQ : ∀ r s, Fr wX_module σ0 s → Q r s → Q2 r s) : x_module_j82  σ Q2 := by
  unfold x_module_j82 at h ⊢
  exact ite_m (fun _ h0 => fun σ_15 e1 => (have f1 : Fr wX_module σ0 σ_15 := Fr.putI fr e1 rfl; fun σ_18 e2 => (have f2 : Fr wX_module σ0 σ_18 := Fr.putI f1 e2 rfl; fun σ_20 e3 => (have f3 : Fr wX_module σ0 σ_20 := Fr.putI f2 e3 rfl; kQ _ _ f3 (((h0 σ_15 e1) σ_18 e2) σ_20 e3))))) (fun _ h0 => fm_x_clear h0 (fun _ σ_24 f h1 => (have f1 : Fr wX_module σ0 σ_24 := (fr.trans (f.weak (by decide +kernel))); kQ _ _ f1 h1))) h
theorem fx_module_L53_b {v1 : Int} {v2 : Int} {σ0 σ : S} {Q Q2 : Int → S → Prop} {X53 X532 : Int → Int → S → Prop} (fr : Fr wX_module σ0 σ) (h : (if (v2 < gI σ 44) ∧ (¬ (v1 = 0)) then inb v2 70 ∧ x_layStatement (gA σ 25 v2) σ (fun r_37 σ_36 => X53 r_37 (w32 (v2 + 1)) σ_36) else x_module_j82 σ Q)) (kQ : ∀ r s, Fr wX_module σ0 s → Q r s → Q2 r s) (kX53 : ∀ v1 v2 s, Fr wX_module σ0 s → X53 v1 v2 s → X532 v1 v2 s) : (if (v2 < gI σ 44) ∧ (¬ (v1 = 0)) then inb v2 70 ∧ x_layStatement (gA σ 25 v2) σ (fun r_37 σ_36 => X532 r_37 (w32 (v2 + 1)) σ_36) else x_module_j82 σ Q2) :=
  ite_m (fun _ h0 => ⟨h0.1, fm_x_layStatement h0.2 (fun r_37 σ_36 f h2 => (have f2 : Fr wX_module σ0 σ_36 := (fr.trans (f.weak (by decide +kernel))); kX53 _ _ _ f2 h2))⟩) (fun _ h0 => fx_module_j82 fr h0 kQ) h
theorem fx_module_L53 {v1 : Int} {v2 : Int} {σ0 σ : S} {Q Q2 : Int → S → Prop} (fr : Fr wX_module σ0 σ) (h : x_module_L53 v1 v2 σ Q) (kQ : ∀ r s, Fr wX_module σ0 s → Q r s → Q2 r s) : x_module_L53 v1 v2 σ Q2 := by
  unfold x_module_L53 at h ⊢
  intro Y hY
  exact h (fun v1 v2 s => Fr wX_module σ0 s → Y v1 v2 s) (fun v1 v2 s h f => hY v1 v2 s (fx_module_L53_b (v1 := v1) (v2 := v2) (Q := Q) (Q2 := Q2) (X53 := fun v1 v2 s => Fr wX_module σ0 s → Y v1 v2 s) (X532 := Y) f h kQ (fun v1 v2 s f h => h f))) fr
theorem lx_module_L53 {v1 : Int} {v2 : Int} {σ0 : S} {Q : Int → S → Prop} (I : Int → Int → S → Prop) (me : Int → Int → S → Nat) (h0 : I v1 v2 σ0) (step : ∀ (v1 : Int) (v2 : Int) (s : S), Fr wX_module σ0 s → I v1 v2 s → (fun (Y0 : Int → Int → S → Prop) => (if (v2 < gI s 44) ∧ (¬ (v1 = 0)) then inb v2 70 ∧ x_layStatement (gA s 25 v2) s (fun r_37 σ_36 => Y0 r_37 (w32 (v2 + 1)) σ_36) else x_module_j82 s Q)) (fun v1' v2' s' => I v1' v2' s' ∧ me v1' v2' s' < me v1 v2 s)) : x_module_L53 v1 v2 σ0 Q := by
  unfold x_module_L53
  intro Y hY
  have key : ∀ (n : Nat) (v1 : Int) (v2 : Int) (s : S), me v1 v2 s < n → Fr wX_module σ0 s → I v1 v2 s → Y v1 v2 s := by
    intro n
    induction n with
    | zero => intro v1 v2 s h; exact absurd h (Nat.not_lt_zero _)
    | succ n ih =>
      intro v1 v2 s hm fr hi
      exact hY v1 v2 s (fx_module_L53_b (v1 := v1) (v2 := v2) (Q := Q) (Q2 := Q) (X53 := (fun v1' v2' s' => I v1' v2' s' ∧ me v1' v2' s' < me v1 v2 s)) (X532 := Y) fr (step v1 v2 s fr hi) (fun _ _ _ h => h) (fun v1 v2 s f h => ih v1 v2 s (by omega) f h.1))
  exact key _ v1 v2 σ0 (Nat.lt_succ_self _) Fr.rf h0
theorem fx_module_j26 {σ0 σ : S} {Q Q2 : Int → S → Prop} (fr : Fr wX_module σ0 σ) (h : x_module_j26  σ Q) (kQ : ∀ r s, Fr wX_module σ0 s → Q r s → Q2 r s) : x_module_j26  σ Q2 := by
  unfold x_module_j26 at h ⊢
  exact ite_m (fun _ h0 => fun σ_26 e1 => (have f1 : Fr wX_module σ0 σ_26 := Fr.putI fr e1 rfl; fun σ_29 e2 => (have f2 : Fr wX_module σ0 σ_29 := Fr.putI f1 e2 rfl; fx_module_L53 f2 ((h0 σ_26 e1) σ_29 e2) kQ))) (fun _ h0 => fx_module_j82 fr h0 kQ) h
theorem fm_x_module {σ0 : S} {Q Q2 : Int → S → Prop} (h : x_module  σ0 Q) (kQ : ∀ r s, Fr wX_module σ0 s → Q r s → Q2 r s) : x_module  σ0 Q2 := by
  have fr : Fr wX_module σ0 σ0 := Fr.rf
  unfold x_module at h ⊢
  exact fm_x_takeTape h (fun _ σ_1 f h0 => (have f0 : Fr wX_module σ0 σ_1 := (fr.trans (f.weak (by decide +kernel))); fm_x_clear h0 (fun _ σ_2 f h1 => (have f1 : Fr wX_module σ0 σ_2 := (f0.trans (f.weak (by decide +kernel))); fm_x_cutWords h1 (fun _ σ_3 f h2 => (have f2 : Fr wX_module σ0 σ_3 := (f1.trans (f.weak (by decide +kernel))); fm_x_readText h2 (fun r_5 σ_4 f h3 => (have f3 : Fr wX_module σ0 σ_4 := (f2.trans (f.weak (by decide +kernel))); ite_m (fun _ h4 => fx_module_j26 f3 h4 kQ) (fun _ h4 => fm_x_layDeclared h4 (fun _ σ_41 f h5 => (have f5 : Fr wX_module σ0 σ_41 := (f3.trans (f.weak (by decide +kernel))); fx_module_j26 f5 h5 kQ))) h3))))))))
theorem fx_hasAssoc_L19_b {v1 : Int} {v2 : Int} {v3 : Int} {v4 : Int} {σ0 σ : S} {Q Q2 : Int → S → Prop} {X19 X192 : Int → Int → S → Prop} {G : Orc} (hG : FrO wX_hasAssoc G) (fr : Fr wX_hasAssoc σ0 σ) (h : inb v1 200000 ∧ (if (v4 < gA σ 68 v1) ∧ (v3 = 0) then x_at v1 v4 σ (fun r_9 σ_8 => G 0 [r_9, v2] σ_8 (fun r_11 σ_10 => X19 r_11 (w32 (v4 + 1)) σ_10) (fun _ => False)) else Q v3 σ)) (kQ : ∀ r s, Fr wX_hasAssoc σ0 s → Q r s → Q2 r s) (kX19 : ∀ v3 v4 s, Fr wX_hasAssoc σ0 s → X19 v3 v4 s → X192 v3 v4 s) : inb v1 200000 ∧ (if (v4 < gA σ 68 v1) ∧ (v3 = 0) then x_at v1 v4 σ (fun r_9 σ_8 => G 0 [r_9, v2] σ_8 (fun r_11 σ_10 => X192 r_11 (w32 (v4 + 1)) σ_10) (fun _ => False)) else Q2 v3 σ) :=
  ⟨h.1, ite_m (fun _ h1 => fm_x_at h1 (fun r_9 σ_8 f h2 => (have f2 : Fr wX_hasAssoc σ0 σ_8 := (fr.trans (f.weak (by decide +kernel))); hG _ _ _ _ _ _ _ h2 (fun r_11 σ_10 f h3 => (have f3 : Fr wX_hasAssoc σ0 σ_10 := (f2.trans f); kX19 _ _ _ f3 h3)) (fun _ _ h => h)))) (fun _ h1 => kQ _ _ fr h1) h.2⟩
theorem fx_hasAssoc_L19 {v1 : Int} {v2 : Int} {v3 : Int} {v4 : Int} {σ0 σ : S} {Q Q2 : Int → S → Prop} {G : Orc} (hG : FrO wX_hasAssoc G) (fr : Fr wX_hasAssoc σ0 σ) (h : x_hasAssoc_L19 G v1 v2 v3 v4 σ Q) (kQ : ∀ r s, Fr wX_hasAssoc σ0 s → Q r s → Q2 r s) : x_hasAssoc_L19 G v1 v2 v3 v4 σ Q2 := by
  unfold x_hasAssoc_L19 at h ⊢
  intro Y hY
  exact h (fun v3 v4 s => Fr wX_hasAssoc σ0 s → Y v3 v4 s) (fun v3 v4 s h f => hY v3 v4 s (fx_hasAssoc_L19_b (v1 := v1) (v2 := v2) (v3 := v3) (v4 := v4) (Q := Q) (Q2 := Q2) (X19 := fun v3 v4 s => Fr wX_hasAssoc σ0 s → Y v3 v4 s) (X192 := Y) hG f h kQ (fun v3 v4 s f h => h f))) fr
theorem lx_hasAssoc_L19 {v1 : Int} {v2 : Int} {v3 : Int} {v4 : Int} {σ0 : S} {Q : Int → S → Prop} {G : Orc} (hG : FrO wX_hasAssoc G) (I : Int → Int → S → Prop) (me : Int → Int → S → Nat) (h0 : I v3 v4 σ0) (step : ∀ (v3 : Int) (v4 : Int) (s : S), Fr wX_hasAssoc σ0 s → I v3 v4 s → (fun (Y0 : Int → Int → S → Prop) => inb v1 200000 ∧ (if (v4 < gA s 68 v1) ∧ (v3 = 0) then x_at v1 v4 s (fun r_9 σ_8 => G 0 [r_9, v2] σ_8 (fun r_11 σ_10 => Y0 r_11 (w32 (v4 + 1)) σ_10) (fun _ => False)) else Q v3 s)) (fun v3' v4' s' => I v3' v4' s' ∧ me v3' v4' s' < me v3 v4 s)) : x_hasAssoc_L19 G v1 v2 v3 v4 σ0 Q := by
  unfold x_hasAssoc_L19
  intro Y hY
  have key : ∀ (n : Nat) (v3 : Int) (v4 : Int) (s : S), me v3 v4 s < n → Fr wX_hasAssoc σ0 s → I v3 v4 s → Y v3 v4 s := by
    intro n
    induction n with
    | zero => intro v3 v4 s h; exact absurd h (Nat.not_lt_zero _)
    | succ n ih =>
      intro v3 v4 s hm fr hi
      exact hY v3 v4 s (fx_hasAssoc_L19_b (v1 := v1) (v2 := v2) (v3 := v3) (v4 := v4) (Q := Q) (Q2 := Q) (X19 := (fun v3' v4' s' => I v3' v4' s' ∧ me v3' v4' s' < me v3 v4 s)) (X192 := Y) hG fr (step v3 v4 s fr hi) (fun _ _ _ h => h) (fun v3 v4 s f h => ih v3 v4 s (by omega) f h.1))
  exact key _ v3 v4 σ0 (Nat.lt_succ_self _) Fr.rf h0
theorem fx_hasAssoc_F {v1 : Int} {v2 : Int} {σ0 : S} {Q Q2 : Int → S → Prop} {G : Orc} (hG : FrO wX_hasAssoc G) (h : x_hasAssoc_F G v1 v2 σ0 Q) (kQ : ∀ r s, Fr wX_hasAssoc σ0 s → Q r s → Q2 r s) : x_hasAssoc_F G v1 v2 σ0 Q2 := by
  have fr : Fr wX_hasAssoc σ0 σ0 := Fr.rf
  unfold x_hasAssoc_F at h ⊢
  exact ⟨h.1, fx_hasAssoc_L19 hG fr h.2 kQ⟩
theorem fo_x_S_hasAssoc : ∀ n, FrO wX_hasAssoc (x_S_hasAssoc n)
  | 0 => fun _ _ _ _ _ _ _ h _ _ => h.elim
  | n + 1 => fun i a σ Q Q2 E E2 h kQ kE => by
    unfold x_S_hasAssoc at h ⊢
    split at h
    · exact fx_hasAssoc_F (fo_x_S_hasAssoc n) h kQ
    · exact h.elim
theorem fm_x_hasAssoc {v1 : Int} {v2 : Int} {σ0 : S} {Q Q2 : Int → S → Prop} (h : x_hasAssoc v1 v2 σ0 Q) (kQ : ∀ r s, Fr wX_hasAssoc σ0 s → Q r s → Q2 r s) : x_hasAssoc v1 v2 σ0 Q2 := fo_x_S_hasAssoc 44 _ _ _ _ _ _ _ h kQ (fun _ _ h => h)
theorem fx_isWide_L52_b {v1 : Int} {v2 : Int} {v3 : Int} {σ0 σ : S} {Q Q2 : Int → S → Prop} {X52 X522 : Int → S → Prop} {G : Orc} (hG : FrO wX_isWide G) (fr : Fr wX_isWide σ0 σ) (h : inb v2 200000 ∧ (if v3 < gA σ 68 v2 then x_at v2 v3 σ (fun r_23 σ_22 => G 0 [v1, r_23] σ_22 (fun r_25 σ_24 => (if r_25 = 0 then X52 (w32 (v3 + 1)) σ_24 else Q 1 σ_24)) (fun _ => False)) else Q 0 σ)) (kQ : ∀ r s, Fr wX_isWide σ0 s → Q r s → Q2 r s) (kX52 : ∀ v3 s, Fr wX_isWide σ0 s → X52 v3 s → X522 v3 s) : inb v2 200000 ∧ (if v3 < gA σ 68 v2 then x_at v2 v3 σ (fun r_23 σ_22 => G 0 [v1, r_23] σ_22 (fun r_25 σ_24 => (if r_25 = 0 then X522 (w32 (v3 + 1)) σ_24 else Q2 1 σ_24)) (fun _ => False)) else Q2 0 σ) :=
  ⟨h.1, ite_m (fun _ h1 => fm_x_at h1 (fun r_23 σ_22 f h2 => (have f2 : Fr wX_isWide σ0 σ_22 := (fr.trans (f.weak (by decide +kernel))); hG _ _ _ _ _ _ _ h2 (fun r_25 σ_24 f h3 => (have f3 : Fr wX_isWide σ0 σ_24 := (f2.trans f); ite_m (fun _ h4 => kX52 _ _ f3 h4) (fun _ h4 => kQ _ _ f3 h4) h3)) (fun _ _ h => h)))) (fun _ h1 => kQ _ _ fr h1) h.2⟩
theorem fx_isWide_L52 {v1 : Int} {v2 : Int} {v3 : Int} {σ0 σ : S} {Q Q2 : Int → S → Prop} {G : Orc} (hG : FrO wX_isWide G) (fr : Fr wX_isWide σ0 σ) (h : x_isWide_L52 G v1 v2 v3 σ Q) (kQ : ∀ r s, Fr wX_isWide σ0 s → Q r s → Q2 r s) : x_isWide_L52 G v1 v2 v3 σ Q2 := by
  unfold x_isWide_L52 at h ⊢
  intro Y hY
  exact h (fun v3 s => Fr wX_isWide σ0 s → Y v3 s) (fun v3 s h f => hY v3 s (fx_isWide_L52_b (v1 := v1) (v2 := v2) (v3 := v3) (Q := Q) (Q2 := Q2) (X52 := fun v3 s => Fr wX_isWide σ0 s → Y v3 s) (X522 := Y) hG f h kQ (fun v3 s f h => h f))) fr
theorem lx_isWide_L52 {v1 : Int} {v2 : Int} {v3 : Int} {σ0 : S} {Q : Int → S → Prop} {G : Orc} (hG : FrO wX_isWide G) (I : Int → S → Prop) (me : Int → S → Nat) (h0 : I v3 σ0) (step : ∀ (v3 : Int) (s : S), Fr wX_isWide σ0 s → I v3 s → (fun (Y0 : Int → S → Prop) => inb v2 200000 ∧ (if v3 < gA s 68 v2 then x_at v2 v3 s (fun r_23 σ_22 => G 0 [v1, r_23] σ_22 (fun r_25 σ_24 => (if r_25 = 0 then Y0 (w32 (v3 + 1)) σ_24 else Q 1 σ_24)) (fun _ => False)) else Q 0 s)) (fun v3' s' => I v3' s' ∧ me v3' s' < me v3 s)) : x_isWide_L52 G v1 v2 v3 σ0 Q := by
  unfold x_isWide_L52
  intro Y hY
  have key : ∀ (n : Nat) (v3 : Int) (s : S), me v3 s < n → Fr wX_isWide σ0 s → I v3 s → Y v3 s := by
    intro n
    induction n with
    | zero => intro v3 s h; exact absurd h (Nat.not_lt_zero _)
    | succ n ih =>
      intro v3 s hm fr hi
      exact hY v3 s (fx_isWide_L52_b (v1 := v1) (v2 := v2) (v3 := v3) (Q := Q) (Q2 := Q) (X52 := (fun v3' s' => I v3' s' ∧ me v3' s' < me v3 s)) (X522 := Y) hG fr (step v3 s fr hi) (fun _ _ _ h => h) (fun v3 s f h => ih v3 s (by omega) f h.1))
  exact key _ v3 σ0 (Nat.lt_succ_self _) Fr.rf h0
theorem fx_isWide_j50 {v1 : Int} {v2 : Int} {σ0 σ : S} {Q Q2 : Int → S → Prop} {G : Orc} (hG : FrO wX_isWide G) (fr : Fr wX_isWide σ0 σ) (h : x_isWide_j50 G v1 v2 σ Q) (kQ : ∀ r s, Fr wX_isWide σ0 s → Q r s → Q2 r s) : x_isWide_j50 G v1 v2 σ Q2 := by
  unfold x_isWide_j50 at h ⊢
  exact fx_isWide_L52 hG fr h kQ
theorem fx_isWide_F {v1 : Int} {v2 : Int} {σ0 : S} {Q Q2 : Int → S → Prop} {G : Orc} (hG : FrO wX_isWide G) (h : x_isWide_F G v1 v2 σ0 Q) (kQ : ∀ r s, Fr wX_isWide σ0 s → Q r s → Q2 r s) : x_isWide_F G v1 v2 σ0 Q2 := by
  have fr : Fr wX_isWide σ0 σ0 := Fr.rf
  unfold x_isWide_F at h ⊢
  exact ⟨h.1, ⟨h.2.1, ⟨h.2.2.1, ⟨h.2.2.2.1, ite_m (fun _ h4 => ⟨h4.1, fm_x_hasAssoc h4.2 (fun r_15 σ_14 f h6 => (have f6 : Fr wX_isWide σ0 σ_14 := (fr.trans (f.weak (by decide +kernel))); ite_m (fun _ h7 => fx_isWide_j50 hG f6 h7 kQ) (fun _ h7 => kQ _ _ f6 h7) h6))⟩) (fun _ h4 => fx_isWide_j50 hG fr h4 kQ) h.2.2.2.2⟩⟩⟩⟩
theorem fo_x_S_isWide : ∀ n, FrO wX_isWide (x_S_isWide n)
  | 0 => fun _ _ _ _ _ _ _ h _ _ => h.elim
  | n + 1 => fun i a σ Q Q2 E E2 h kQ kE => by
    unfold x_S_isWide at h ⊢
    split at h
    · exact fx_isWide_F (fo_x_S_isWide n) h kQ
    · exact h.elim
theorem fm_x_isWide {v1 : Int} {v2 : Int} {σ0 : S} {Q Q2 : Int → S → Prop} (h : x_isWide v1 v2 σ0 Q) (kQ : ∀ r s, Fr wX_isWide σ0 s → Q r s → Q2 r s) : x_isWide v1 v2 σ0 Q2 := fo_x_S_isWide 44 _ _ _ _ _ _ _ h kQ (fun _ _ h => h)
theorem fx_longest_L24_b {v1 : Int} {v2 : Int} {v3 : Int} {v4 : Int} {σ0 σ : S} {Q Q2 : Int → S → Prop} {X24 X242 : Int → Int → S → Prop} {G : Orc} (hG : FrO wX_longest G) (fr : Fr wX_longest σ0 σ) (h : inb v1 200000 ∧ (if v4 < gA σ 68 v1 then x_at v1 v4 σ (fun r_14 σ_13 => G 0 [r_14, v2] σ_13 (fun r_16 σ_15 => X24 (max v3 r_16) (w32 (v4 + 1)) σ_15) (fun _ => False)) else Q v3 σ)) (kQ : ∀ r s, Fr wX_longest σ0 s → Q r s → Q2 r s) (kX24 : ∀ v3 v4 s, Fr wX_longest σ0 s → X24 v3 v4 s → X242 v3 v4 s) : inb v1 200000 ∧ (if v4 < gA σ 68 v1 then x_at v1 v4 σ (fun r_14 σ_13 => G 0 [r_14, v2] σ_13 (fun r_16 σ_15 => X242 (max v3 r_16) (w32 (v4 + 1)) σ_15) (fun _ => False)) else Q2 v3 σ) :=
  ⟨h.1, ite_m (fun _ h1 => fm_x_at h1 (fun r_14 σ_13 f h2 => (have f2 : Fr wX_longest σ0 σ_13 := (fr.trans (f.weak (by decide +kernel))); hG _ _ _ _ _ _ _ h2 (fun r_16 σ_15 f h3 => (have f3 : Fr wX_longest σ0 σ_15 := (f2.trans f); kX24 _ _ _ f3 h3)) (fun _ _ h => h)))) (fun _ h1 => kQ _ _ fr h1) h.2⟩
theorem fx_longest_L24 {v1 : Int} {v2 : Int} {v3 : Int} {v4 : Int} {σ0 σ : S} {Q Q2 : Int → S → Prop} {G : Orc} (hG : FrO wX_longest G) (fr : Fr wX_longest σ0 σ) (h : x_longest_L24 G v1 v2 v3 v4 σ Q) (kQ : ∀ r s, Fr wX_longest σ0 s → Q r s → Q2 r s) : x_longest_L24 G v1 v2 v3 v4 σ Q2 := by
  unfold x_longest_L24 at h ⊢
  intro Y hY
  exact h (fun v3 v4 s => Fr wX_longest σ0 s → Y v3 v4 s) (fun v3 v4 s h f => hY v3 v4 s (fx_longest_L24_b (v1 := v1) (v2 := v2) (v3 := v3) (v4 := v4) (Q := Q) (Q2 := Q2) (X24 := fun v3 v4 s => Fr wX_longest σ0 s → Y v3 v4 s) (X242 := Y) hG f h kQ (fun v3 v4 s f h => h f))) fr
theorem lx_longest_L24 {v1 : Int} {v2 : Int} {v3 : Int} {v4 : Int} {σ0 : S} {Q : Int → S → Prop} {G : Orc} (hG : FrO wX_longest G) (I : Int → Int → S → Prop) (me : Int → Int → S → Nat) (h0 : I v3 v4 σ0) (step : ∀ (v3 : Int) (v4 : Int) (s : S), Fr wX_longest σ0 s → I v3 v4 s → (fun (Y0 : Int → Int → S → Prop) => inb v1 200000 ∧ (if v4 < gA s 68 v1 then x_at v1 v4 s (fun r_14 σ_13 => G 0 [r_14, v2] σ_13 (fun r_16 σ_15 => Y0 (max v3 r_16) (w32 (v4 + 1)) σ_15) (fun _ => False)) else Q v3 s)) (fun v3' v4' s' => I v3' v4' s' ∧ me v3' v4' s' < me v3 v4 s)) : x_longest_L24 G v1 v2 v3 v4 σ0 Q := by
  unfold x_longest_L24
  intro Y hY
  have key : ∀ (n : Nat) (v3 : Int) (v4 : Int) (s : S), me v3 v4 s < n → Fr wX_longest σ0 s → I v3 v4 s → Y v3 v4 s := by
    intro n
    induction n with
    | zero => intro v3 v4 s h; exact absurd h (Nat.not_lt_zero _)
    | succ n ih =>
      intro v3 v4 s hm fr hi
      exact hY v3 v4 s (fx_longest_L24_b (v1 := v1) (v2 := v2) (v3 := v3) (v4 := v4) (Q := Q) (Q2 := Q) (X24 := (fun v3' v4' s' => I v3' v4' s' ∧ me v3' v4' s' < me v3 v4 s)) (X242 := Y) hG fr (step v3 v4 s fr hi) (fun _ _ _ h => h) (fun v3 v4 s f h => ih v3 v4 s (by omega) f h.1))
  exact key _ v3 v4 σ0 (Nat.lt_succ_self _) Fr.rf h0
theorem fx_longest_F {v1 : Int} {v2 : Int} {σ0 : S} {Q Q2 : Int → S → Prop} {G : Orc} (hG : FrO wX_longest G) (h : x_longest_F G v1 v2 σ0 Q) (kQ : ∀ r s, Fr wX_longest σ0 s → Q r s → Q2 r s) : x_longest_F G v1 v2 σ0 Q2 := by
  have fr : Fr wX_longest σ0 σ0 := Fr.rf
  unfold x_longest_F at h ⊢
  exact ⟨h.1, ⟨h.2.1, fx_longest_L24 hG fr h.2.2 kQ⟩⟩
theorem fo_x_S_longest : ∀ n, FrO wX_longest (x_S_longest n)
  | 0 => fun _ _ _ _ _ _ _ h _ _ => h.elim
  | n + 1 => fun i a σ Q Q2 E E2 h kQ kE => by
    unfold x_S_longest at h ⊢
    split at h
    · exact fx_longest_F (fo_x_S_longest n) h kQ
    · exact h.elim
theorem fm_x_longest {v1 : Int} {v2 : Int} {σ0 : S} {Q Q2 : Int → S → Prop} (h : x_longest v1 v2 σ0 Q) (kQ : ∀ r s, Fr wX_longest σ0 s → Q r s → Q2 r s) : x_longest v1 v2 σ0 Q2 := fo_x_S_longest 44 _ _ _ _ _ _ _ h kQ (fun _ _ h => h)
theorem fx_waysToDeal_L5_b {v0 : Int} {v1 : Int} {v2 : Int} {v3 : Int} {v5 : Int} {σ0 σ : S} {Q Q2 : Int → S → Prop} {X5 X52 : Int → Int → S → Prop} (fr : Fr wX_waysToDeal σ0 σ) (h : (if v5 ≤ v0 then ((v2 = 0) → (v5 ≠ 0)) ∧ X5 (if v2 = 0 then w64 (Int.tdiv (w64 (v3 * (w32 (w32 (v1 + 1) + v5)))) v5) else w64 (v3 * (w32 (v1 + 1)))) (w32 (v5 + 1)) σ else Q v3 σ)) (kQ : ∀ r s, Fr wX_waysToDeal σ0 s → Q r s → Q2 r s) (kX5 : ∀ v3 v5 s, Fr wX_waysToDeal σ0 s → X5 v3 v5 s → X52 v3 v5 s) : (if v5 ≤ v0 then ((v2 = 0) → (v5 ≠ 0)) ∧ X52 (if v2 = 0 then w64 (Int.tdiv (w64 (v3 * (w32 (w32 (v1 + 1) + v5)))) v5) else w64 (v3 * (w32 (v1 + 1)))) (w32 (v5 + 1)) σ else Q2 v3 σ) :=
  ite_m (fun _ h0 => ⟨h0.1, kX5 _ _ _ fr h0.2⟩) (fun _ h0 => kQ _ _ fr h0) h
theorem fx_waysToDeal_L5 {v0 : Int} {v1 : Int} {v2 : Int} {v3 : Int} {v5 : Int} {σ0 σ : S} {Q Q2 : Int → S → Prop} (fr : Fr wX_waysToDeal σ0 σ) (h : x_waysToDeal_L5 v0 v1 v2 v3 v5 σ Q) (kQ : ∀ r s, Fr wX_waysToDeal σ0 s → Q r s → Q2 r s) : x_waysToDeal_L5 v0 v1 v2 v3 v5 σ Q2 := by
  unfold x_waysToDeal_L5 at h ⊢
  intro Y hY
  exact h (fun v3 v5 s => Fr wX_waysToDeal σ0 s → Y v3 v5 s) (fun v3 v5 s h f => hY v3 v5 s (fx_waysToDeal_L5_b (v0 := v0) (v1 := v1) (v2 := v2) (v3 := v3) (v5 := v5) (Q := Q) (Q2 := Q2) (X5 := fun v3 v5 s => Fr wX_waysToDeal σ0 s → Y v3 v5 s) (X52 := Y) f h kQ (fun v3 v5 s f h => h f))) fr
theorem lx_waysToDeal_L5 {v0 : Int} {v1 : Int} {v2 : Int} {v3 : Int} {v5 : Int} {σ0 : S} {Q : Int → S → Prop} (I : Int → Int → S → Prop) (me : Int → Int → S → Nat) (h0 : I v3 v5 σ0) (step : ∀ (v3 : Int) (v5 : Int) (s : S), Fr wX_waysToDeal σ0 s → I v3 v5 s → (fun (Y0 : Int → Int → S → Prop) => (if v5 ≤ v0 then ((v2 = 0) → (v5 ≠ 0)) ∧ Y0 (if v2 = 0 then w64 (Int.tdiv (w64 (v3 * (w32 (w32 (v1 + 1) + v5)))) v5) else w64 (v3 * (w32 (v1 + 1)))) (w32 (v5 + 1)) s else Q v3 s)) (fun v3' v5' s' => I v3' v5' s' ∧ me v3' v5' s' < me v3 v5 s)) : x_waysToDeal_L5 v0 v1 v2 v3 v5 σ0 Q := by
  unfold x_waysToDeal_L5
  intro Y hY
  have key : ∀ (n : Nat) (v3 : Int) (v5 : Int) (s : S), me v3 v5 s < n → Fr wX_waysToDeal σ0 s → I v3 v5 s → Y v3 v5 s := by
    intro n
    induction n with
    | zero => intro v3 v5 s h; exact absurd h (Nat.not_lt_zero _)
    | succ n ih =>
      intro v3 v5 s hm fr hi
      exact hY v3 v5 s (fx_waysToDeal_L5_b (v0 := v0) (v1 := v1) (v2 := v2) (v3 := v3) (v5 := v5) (Q := Q) (Q2 := Q) (X5 := (fun v3' v5' s' => I v3' v5' s' ∧ me v3' v5' s' < me v3 v5 s)) (X52 := Y) fr (step v3 v5 s fr hi) (fun _ _ _ h => h) (fun v3 v5 s f h => ih v3 v5 s (by omega) f h.1))
  exact key _ v3 v5 σ0 (Nat.lt_succ_self _) Fr.rf h0
theorem fm_x_waysToDeal {v0 : Int} {v1 : Int} {v2 : Int} {σ0 : S} {Q Q2 : Int → S → Prop} (h : x_waysToDeal v0 v1 v2 σ0 Q) (kQ : ∀ r s, Fr wX_waysToDeal σ0 s → Q r s → Q2 r s) : x_waysToDeal v0 v1 v2 σ0 Q2 := by
  have fr : Fr wX_waysToDeal σ0 σ0 := Fr.rf
  unfold x_waysToDeal at h ⊢
  exact fx_waysToDeal_L5 fr h kQ
theorem fx_deals_L74_b {v1 : Int} {v2 : Int} {v4 : Int} {v6 : Int} {σ0 σ : S} {Q Q2 : Int → S → Prop} {X74 X742 : Int → Int → S → Prop} {G : Orc} (hG : FrO wX_deals G) (fr : Fr wX_deals σ0 σ) (h : inb v1 200000 ∧ (if v6 < gA σ 68 v1 then x_at v1 v6 σ (fun r_14 σ_13 => G 0 [r_14, v2] σ_13 (fun r_16 σ_15 => X74 (w64 ((min 3000001 v4) * (min 3000001 r_16))) (w32 (v6 + 1)) σ_15) (fun _ => False)) else Q v4 σ)) (kQ : ∀ r s, Fr wX_deals σ0 s → Q r s → Q2 r s) (kX74 : ∀ v4 v6 s, Fr wX_deals σ0 s → X74 v4 v6 s → X742 v4 v6 s) : inb v1 200000 ∧ (if v6 < gA σ 68 v1 then x_at v1 v6 σ (fun r_14 σ_13 => G 0 [r_14, v2] σ_13 (fun r_16 σ_15 => X742 (w64 ((min 3000001 v4) * (min 3000001 r_16))) (w32 (v6 + 1)) σ_15) (fun _ => False)) else Q2 v4 σ) :=
  ⟨h.1, ite_m (fun _ h1 => fm_x_at h1 (fun r_14 σ_13 f h2 => (have f2 : Fr wX_deals σ0 σ_13 := (fr.trans (f.weak (by decide +kernel))); hG _ _ _ _ _ _ _ h2 (fun r_16 σ_15 f h3 => (have f3 : Fr wX_deals σ0 σ_15 := (f2.trans f); kX74 _ _ _ f3 h3)) (fun _ _ h => h)))) (fun _ h1 => kQ _ _ fr h1) h.2⟩
theorem fx_deals_L74 {v1 : Int} {v2 : Int} {v4 : Int} {v6 : Int} {σ0 σ : S} {Q Q2 : Int → S → Prop} {G : Orc} (hG : FrO wX_deals G) (fr : Fr wX_deals σ0 σ) (h : x_deals_L74 G v1 v2 v4 v6 σ Q) (kQ : ∀ r s, Fr wX_deals σ0 s → Q r s → Q2 r s) : x_deals_L74 G v1 v2 v4 v6 σ Q2 := by
  unfold x_deals_L74 at h ⊢
  intro Y hY
  exact h (fun v4 v6 s => Fr wX_deals σ0 s → Y v4 v6 s) (fun v4 v6 s h f => hY v4 v6 s (fx_deals_L74_b (v1 := v1) (v2 := v2) (v4 := v4) (v6 := v6) (Q := Q) (Q2 := Q2) (X74 := fun v4 v6 s => Fr wX_deals σ0 s → Y v4 v6 s) (X742 := Y) hG f h kQ (fun v4 v6 s f h => h f))) fr
theorem lx_deals_L74 {v1 : Int} {v2 : Int} {v4 : Int} {v6 : Int} {σ0 : S} {Q : Int → S → Prop} {G : Orc} (hG : FrO wX_deals G) (I : Int → Int → S → Prop) (me : Int → Int → S → Nat) (h0 : I v4 v6 σ0) (step : ∀ (v4 : Int) (v6 : Int) (s : S), Fr wX_deals σ0 s → I v4 v6 s → (fun (Y0 : Int → Int → S → Prop) => inb v1 200000 ∧ (if v6 < gA s 68 v1 then x_at v1 v6 s (fun r_14 σ_13 => G 0 [r_14, v2] σ_13 (fun r_16 σ_15 => Y0 (w64 ((min 3000001 v4) * (min 3000001 r_16))) (w32 (v6 + 1)) σ_15) (fun _ => False)) else Q v4 s)) (fun v4' v6' s' => I v4' v6' s' ∧ me v4' v6' s' < me v4 v6 s)) : x_deals_L74 G v1 v2 v4 v6 σ0 Q := by
  unfold x_deals_L74
  intro Y hY
  have key : ∀ (n : Nat) (v4 : Int) (v6 : Int) (s : S), me v4 v6 s < n → Fr wX_deals σ0 s → I v4 v6 s → Y v4 v6 s := by
    intro n
    induction n with
    | zero => intro v4 v6 s h; exact absurd h (Nat.not_lt_zero _)
    | succ n ih =>
      intro v4 v6 s hm fr hi
      exact hY v4 v6 s (fx_deals_L74_b (v1 := v1) (v2 := v2) (v4 := v4) (v6 := v6) (Q := Q) (Q2 := Q) (X74 := (fun v4' v6' s' => I v4' v6' s' ∧ me v4' v6' s' < me v4 v6 s)) (X742 := Y) hG fr (step v4 v6 s fr hi) (fun _ _ _ h => h) (fun v4 v6 s f h => ih v4 v6 s (by omega) f h.1))
  exact key _ v4 v6 σ0 (Nat.lt_succ_self _) Fr.rf h0
theorem fx_deals_j71 {v1 : Int} {v2 : Int} {v4 : Int} {σ0 σ : S} {Q Q2 : Int → S → Prop} {G : Orc} (hG : FrO wX_deals G) (fr : Fr wX_deals σ0 σ) (h : x_deals_j71 G v1 v2 v4 σ Q) (kQ : ∀ r s, Fr wX_deals σ0 s → Q r s → Q2 r s) : x_deals_j71 G v1 v2 v4 σ Q2 := by
  unfold x_deals_j71 at h ⊢
  exact fx_deals_L74 hG fr h kQ
theorem fx_deals_j53 {v1 : Int} {v2 : Int} {v3 : Int} {v4 : Int} {σ0 σ : S} {Q Q2 : Int → S → Prop} {G : Orc} (hG : FrO wX_deals G) (fr : Fr wX_deals σ0 σ) (h : x_deals_j53 G v1 v2 v3 v4 σ Q) (kQ : ∀ r s, Fr wX_deals σ0 s → Q r s → Q2 r s) : x_deals_j53 G v1 v2 v3 v4 σ Q2 := by
  unfold x_deals_j53 at h ⊢
  exact ⟨h.1, ite_m (fun _ h1 => fx_deals_j71 hG fr h1 kQ) (fun _ h1 => fx_deals_j71 hG fr h1 kQ) h.2⟩
theorem fx_deals_F {v1 : Int} {v2 : Int} {σ0 : S} {Q Q2 : Int → S → Prop} {G : Orc} (hG : FrO wX_deals G) (h : x_deals_F G v1 v2 σ0 Q) (kQ : ∀ r s, Fr wX_deals σ0 s → Q r s → Q2 r s) : x_deals_F G v1 v2 σ0 Q2 := by
  have fr : Fr wX_deals σ0 σ0 := Fr.rf
  unfold x_deals_F at h ⊢
  exact ⟨h.1, ite_m (fun _ h1 => fx_deals_j53 hG fr h1 kQ) (fun _ h1 => ⟨h1.1, ite_m (fun _ h3 => fx_deals_j53 hG fr h3 kQ) (fun _ h3 => fm_x_longest h3 (fun r_25 σ_24 f h4 => (have f4 : Fr wX_deals σ0 σ_24 := (fr.trans (f.weak (by decide +kernel))); ⟨h4.1, ⟨h4.2.1, fm_x_waysToDeal h4.2.2 (fun r_31 σ_30 f h7 => (have f7 : Fr wX_deals σ0 σ_30 := (f4.trans (f.weak (by decide +kernel))); fx_deals_j71 hG f7 h7 kQ))⟩⟩))) h1.2⟩) h.2⟩
theorem fo_x_S_deals : ∀ n, FrO wX_deals (x_S_deals n)
  | 0 => fun _ _ _ _ _ _ _ h _ _ => h.elim
  | n + 1 => fun i a σ Q Q2 E E2 h kQ kE => by
    unfold x_S_deals at h ⊢
    split at h
    · exact fx_deals_F (fo_x_S_deals n) h kQ
    · exact h.elim
theorem fm_x_deals {v1 : Int} {v2 : Int} {σ0 : S} {Q Q2 : Int → S → Prop} (h : x_deals v1 v2 σ0 Q) (kQ : ∀ r s, Fr wX_deals σ0 s → Q r s → Q2 r s) : x_deals v1 v2 σ0 Q2 := fo_x_S_deals 44 _ _ _ _ _ _ _ h kQ (fun _ _ h => h)
theorem fm_x_goal {v1 : Int} {v2 : Int} {σ0 : S} {Q Q2 : Int → S → Prop} (h : x_goal v1 v2 σ0 Q) (kQ : ∀ r s, Fr wX_goal σ0 s → Q r s → Q2 r s) : x_goal v1 v2 σ0 Q2 := by
  have fr : Fr wX_goal σ0 σ0 := Fr.rf
  unfold x_goal at h ⊢
  exact ⟨h.1, fun σ_2 e1 => (have f1 : Fr wX_goal σ0 σ_2 := Fr.putA fr e1 rfl; fun σ_6 e2 => (have f2 : Fr wX_goal σ0 σ_6 := Fr.putI f1 e2 rfl; ⟨((h.2 σ_2 e1) σ_6 e2).1, fun σ_8 e4 => (have f4 : Fr wX_goal σ0 σ_8 := Fr.putA f2 e4 rfl; kQ _ _ f4 (((h.2 σ_2 e1) σ_6 e2).2 σ_8 e4))⟩))⟩
theorem fm_x_restAt {v1 : Int} {v2 : Int} {σ0 : S} {Q Q2 : Int → S → Prop} (h : x_restAt v1 v2 σ0 Q) (kQ : ∀ r s, Fr wX_restAt σ0 s → Q r s → Q2 r s) : x_restAt v1 v2 σ0 Q2 := by
  have fr : Fr wX_restAt σ0 σ0 := Fr.rf
  unfold x_restAt at h ⊢
  exact ⟨h.1, ite_m (fun _ h1 => fm_x_at h1 (fun r_7 σ_6 f h2 => (have f2 : Fr wX_restAt σ0 σ_6 := (fr.trans (f.weak (by decide +kernel))); kQ _ _ f2 h2))) (fun _ h1 => kQ _ _ fr h1) h.2⟩
theorem fm_x_restMany {v1 : Int} {σ0 : S} {Q Q2 : Int → S → Prop} (h : x_restMany v1 σ0 Q) (kQ : ∀ r s, Fr wX_restMany σ0 s → Q r s → Q2 r s) : x_restMany v1 σ0 Q2 := by
  have fr : Fr wX_restMany σ0 σ0 := Fr.rf
  unfold x_restMany at h ⊢
  exact ⟨h.1, ⟨h.2.1, kQ _ _ fr h.2.2⟩⟩
theorem fx_compareRest_L33_b {v1 : Int} {v2 : Int} {v3 : Int} {v4 : Int} {σ0 σ : S} {Q Q2 : Int → S → Prop} {X33 X332 : Int → S → Prop} (fr : Fr wX_compareRest σ0 σ) (h : (if v4 < v3 then x_restAt v1 v4 σ (fun r_10 σ_9 => x_restAt v2 v4 σ_9 (fun r_12 σ_11 => x_compare r_10 r_12 σ_11 (fun r_14 σ_13 => (if r_14 = 0 then X33 (w32 (v4 + 1)) σ_13 else Q r_14 σ_13)))) else Q 0 σ)) (kQ : ∀ r s, Fr wX_compareRest σ0 s → Q r s → Q2 r s) (kX33 : ∀ v4 s, Fr wX_compareRest σ0 s → X33 v4 s → X332 v4 s) : (if v4 < v3 then x_restAt v1 v4 σ (fun r_10 σ_9 => x_restAt v2 v4 σ_9 (fun r_12 σ_11 => x_compare r_10 r_12 σ_11 (fun r_14 σ_13 => (if r_14 = 0 then X332 (w32 (v4 + 1)) σ_13 else Q2 r_14 σ_13)))) else Q2 0 σ) :=
  ite_m (fun _ h0 => fm_x_restAt h0 (fun r_10 σ_9 f h1 => (have f1 : Fr wX_compareRest σ0 σ_9 := (fr.trans (f.weak (by decide +kernel))); fm_x_restAt h1 (fun r_12 σ_11 f h2 => (have f2 : Fr wX_compareRest σ0 σ_11 := (f1.trans (f.weak (by decide +kernel))); fm_x_compare h2 (fun r_14 σ_13 f h3 => (have f3 : Fr wX_compareRest σ0 σ_13 := (f2.trans (f.weak (by decide +kernel))); ite_m (fun _ h4 => kX33 _ _ f3 h4) (fun _ h4 => kQ _ _ f3 h4) h3))))))) (fun _ h0 => kQ _ _ fr h0) h
theorem fx_compareRest_L33 {v1 : Int} {v2 : Int} {v3 : Int} {v4 : Int} {σ0 σ : S} {Q Q2 : Int → S → Prop} (fr : Fr wX_compareRest σ0 σ) (h : x_compareRest_L33 v1 v2 v3 v4 σ Q) (kQ : ∀ r s, Fr wX_compareRest σ0 s → Q r s → Q2 r s) : x_compareRest_L33 v1 v2 v3 v4 σ Q2 := by
  unfold x_compareRest_L33 at h ⊢
  intro Y hY
  exact h (fun v4 s => Fr wX_compareRest σ0 s → Y v4 s) (fun v4 s h f => hY v4 s (fx_compareRest_L33_b (v1 := v1) (v2 := v2) (v3 := v3) (v4 := v4) (Q := Q) (Q2 := Q2) (X33 := fun v4 s => Fr wX_compareRest σ0 s → Y v4 s) (X332 := Y) f h kQ (fun v4 s f h => h f))) fr
theorem lx_compareRest_L33 {v1 : Int} {v2 : Int} {v3 : Int} {v4 : Int} {σ0 : S} {Q : Int → S → Prop} (I : Int → S → Prop) (me : Int → S → Nat) (h0 : I v4 σ0) (step : ∀ (v4 : Int) (s : S), Fr wX_compareRest σ0 s → I v4 s → (fun (Y0 : Int → S → Prop) => (if v4 < v3 then x_restAt v1 v4 s (fun r_10 σ_9 => x_restAt v2 v4 σ_9 (fun r_12 σ_11 => x_compare r_10 r_12 σ_11 (fun r_14 σ_13 => (if r_14 = 0 then Y0 (w32 (v4 + 1)) σ_13 else Q r_14 σ_13)))) else Q 0 s)) (fun v4' s' => I v4' s' ∧ me v4' s' < me v4 s)) : x_compareRest_L33 v1 v2 v3 v4 σ0 Q := by
  unfold x_compareRest_L33
  intro Y hY
  have key : ∀ (n : Nat) (v4 : Int) (s : S), me v4 s < n → Fr wX_compareRest σ0 s → I v4 s → Y v4 s := by
    intro n
    induction n with
    | zero => intro v4 s h; exact absurd h (Nat.not_lt_zero _)
    | succ n ih =>
      intro v4 s hm fr hi
      exact hY v4 s (fx_compareRest_L33_b (v1 := v1) (v2 := v2) (v3 := v3) (v4 := v4) (Q := Q) (Q2 := Q) (X33 := (fun v4' s' => I v4' s' ∧ me v4' s' < me v4 s)) (X332 := Y) fr (step v4 s fr hi) (fun _ _ _ h => h) (fun v4 s f h => ih v4 s (by omega) f h.1))
  exact key _ v4 σ0 (Nat.lt_succ_self _) Fr.rf h0
theorem fm_x_compareRest {v1 : Int} {v2 : Int} {σ0 : S} {Q Q2 : Int → S → Prop} (h : x_compareRest v1 v2 σ0 Q) (kQ : ∀ r s, Fr wX_compareRest σ0 s → Q r s → Q2 r s) : x_compareRest v1 v2 σ0 Q2 := by
  have fr : Fr wX_compareRest σ0 σ0 := Fr.rf
  unfold x_compareRest at h ⊢
  exact fm_x_restMany h (fun r_2 σ_1 f h0 => (have f0 : Fr wX_compareRest σ0 σ_1 := (fr.trans (f.weak (by decide +kernel))); fm_x_restMany h0 (fun r_4 σ_3 f h1 => (have f1 : Fr wX_compareRest σ0 σ_3 := (f0.trans (f.weak (by decide +kernel))); ite_m (fun _ h2 => fx_compareRest_L33 f1 h2 kQ) (fun _ h2 => fm_x_restMany h2 (fun r_18 σ_17 f h3 => (have f3 : Fr wX_compareRest σ0 σ_17 := (f1.trans (f.weak (by decide +kernel))); kQ _ _ f3 h3))) h1))))
theorem fx_compareMatchers_j70 {v1 : Int} {v2 : Int} {v3 : Int} {s0 : Int} {σ0 σ : S} {Q Q2 : Int → S → Prop} {X2 X22 : Int → S → Prop} (fr : Fr wX_compareMatchers σ0 σ) (h : x_compareMatchers_j70 v1 v2 v3 s0 σ Q X2) (kQ : ∀ r s, Fr wX_compareMatchers σ0 s → Q r s → Q2 r s) (kX2 : ∀ a0 s, Fr wX_compareMatchers σ0 s → X2 a0 s → X22 a0 s) : x_compareMatchers_j70 v1 v2 v3 s0 σ Q2 X22 := by
  unfold x_compareMatchers_j70 at h ⊢
  exact ite_m (fun _ h0 => kX2 _ _ fr h0) (fun _ h0 => kQ _ _ fr h0) h
theorem fx_compareMatchers_L2_b {v1 : Int} {v2 : Int} {v3 : Int} {σ0 σ : S} {Q Q2 : Int → S → Prop} {X2 X22 : Int → S → Prop} (fr : Fr wX_compareMatchers σ0 σ) (h : (if v3 < 62 then inb (w32 (w32 (62 * v1) + v3)) 409200 ∧ inb (w32 (w32 (62 * v2) + v3)) 409200 ∧ (if gA σ 86 (w32 (w32 (62 * v1) + v3)) = gA σ 86 (w32 (w32 (62 * v2) + v3)) then x_compareMatchers_j70 v1 v2 v3 0 σ Q X2 else (if v3 < 60 then x_compare (gA σ 86 (w32 (w32 (62 * v1) + v3))) (gA σ 86 (w32 (w32 (62 * v2) + v3))) σ (fun r_16 σ_15 => x_compareMatchers_j70 v1 v2 v3 r_16 σ_15 Q X2) else x_compareRest (gA σ 86 (w32 (w32 (62 * v1) + v3))) (gA σ 86 (w32 (w32 (62 * v2) + v3))) σ (fun r_12 σ_11 => x_compareMatchers_j70 v1 v2 v3 r_12 σ_11 Q X2))) else Q 0 σ)) (kQ : ∀ r s, Fr wX_compareMatchers σ0 s → Q r s → Q2 r s) (kX2 : ∀ v3 s, Fr wX_compareMatchers σ0 s → X2 v3 s → X22 v3 s) : (if v3 < 62 then inb (w32 (w32 (62 * v1) + v3)) 409200 ∧ inb (w32 (w32 (62 * v2) + v3)) 409200 ∧ (if gA σ 86 (w32 (w32 (62 * v1) + v3)) = gA σ 86 (w32 (w32 (62 * v2) + v3)) then x_compareMatchers_j70 v1 v2 v3 0 σ Q2 X22 else (if v3 < 60 then x_compare (gA σ 86 (w32 (w32 (62 * v1) + v3))) (gA σ 86 (w32 (w32 (62 * v2) + v3))) σ (fun r_16 σ_15 => x_compareMatchers_j70 v1 v2 v3 r_16 σ_15 Q2 X22) else x_compareRest (gA σ 86 (w32 (w32 (62 * v1) + v3))) (gA σ 86 (w32 (w32 (62 * v2) + v3))) σ (fun r_12 σ_11 => x_compareMatchers_j70 v1 v2 v3 r_12 σ_11 Q2 X22))) else Q2 0 σ) :=
  ite_m (fun _ h0 => ⟨h0.1, ⟨h0.2.1, ite_m (fun _ h3 => fx_compareMatchers_j70 fr h3 kQ kX2) (fun _ h3 => ite_m (fun _ h4 => fm_x_compare h4 (fun r_16 σ_15 f h5 => (have f5 : Fr wX_compareMatchers σ0 σ_15 := (fr.trans (f.weak (by decide +kernel))); fx_compareMatchers_j70 f5 h5 kQ kX2))) (fun _ h4 => fm_x_compareRest h4 (fun r_12 σ_11 f h5 => (have f5 : Fr wX_compareMatchers σ0 σ_11 := (fr.trans (f.weak (by decide +kernel))); fx_compareMatchers_j70 f5 h5 kQ kX2))) h3) h0.2.2⟩⟩) (fun _ h0 => kQ _ _ fr h0) h
theorem fx_compareMatchers_L2 {v1 : Int} {v2 : Int} {v3 : Int} {σ0 σ : S} {Q Q2 : Int → S → Prop} (fr : Fr wX_compareMatchers σ0 σ) (h : x_compareMatchers_L2 v1 v2 v3 σ Q) (kQ : ∀ r s, Fr wX_compareMatchers σ0 s → Q r s → Q2 r s) : x_compareMatchers_L2 v1 v2 v3 σ Q2 := by
  unfold x_compareMatchers_L2 at h ⊢
  intro Y hY
  exact h (fun v3 s => Fr wX_compareMatchers σ0 s → Y v3 s) (fun v3 s h f => hY v3 s (fx_compareMatchers_L2_b (v1 := v1) (v2 := v2) (v3 := v3) (Q := Q) (Q2 := Q2) (X2 := fun v3 s => Fr wX_compareMatchers σ0 s → Y v3 s) (X22 := Y) f h kQ (fun v3 s f h => h f))) fr
theorem lx_compareMatchers_L2 {v1 : Int} {v2 : Int} {v3 : Int} {σ0 : S} {Q : Int → S → Prop} (I : Int → S → Prop) (me : Int → S → Nat) (h0 : I v3 σ0) (step : ∀ (v3 : Int) (s : S), Fr wX_compareMatchers σ0 s → I v3 s → (fun (Y0 : Int → S → Prop) => (if v3 < 62 then inb (w32 (w32 (62 * v1) + v3)) 409200 ∧ inb (w32 (w32 (62 * v2) + v3)) 409200 ∧ (if gA s 86 (w32 (w32 (62 * v1) + v3)) = gA s 86 (w32 (w32 (62 * v2) + v3)) then x_compareMatchers_j70 v1 v2 v3 0 s Q Y0 else (if v3 < 60 then x_compare (gA s 86 (w32 (w32 (62 * v1) + v3))) (gA s 86 (w32 (w32 (62 * v2) + v3))) s (fun r_16 σ_15 => x_compareMatchers_j70 v1 v2 v3 r_16 σ_15 Q Y0) else x_compareRest (gA s 86 (w32 (w32 (62 * v1) + v3))) (gA s 86 (w32 (w32 (62 * v2) + v3))) s (fun r_12 σ_11 => x_compareMatchers_j70 v1 v2 v3 r_12 σ_11 Q Y0))) else Q 0 s)) (fun v3' s' => I v3' s' ∧ me v3' s' < me v3 s)) : x_compareMatchers_L2 v1 v2 v3 σ0 Q := by
  unfold x_compareMatchers_L2
  intro Y hY
  have key : ∀ (n : Nat) (v3 : Int) (s : S), me v3 s < n → Fr wX_compareMatchers σ0 s → I v3 s → Y v3 s := by
    intro n
    induction n with
    | zero => intro v3 s h; exact absurd h (Nat.not_lt_zero _)
    | succ n ih =>
      intro v3 s hm fr hi
      exact hY v3 s (fx_compareMatchers_L2_b (v1 := v1) (v2 := v2) (v3 := v3) (Q := Q) (Q2 := Q) (X2 := (fun v3' s' => I v3' s' ∧ me v3' s' < me v3 s)) (X22 := Y) fr (step v3 s fr hi) (fun _ _ _ h => h) (fun v3 s f h => ih v3 s (by omega) f h.1))
  exact key _ v3 σ0 (Nat.lt_succ_self _) Fr.rf h0
theorem fm_x_compareMatchers {v1 : Int} {v2 : Int} {σ0 : S} {Q Q2 : Int → S → Prop} (h : x_compareMatchers v1 v2 σ0 Q) (kQ : ∀ r s, Fr wX_compareMatchers σ0 s → Q r s → Q2 r s) : x_compareMatchers v1 v2 σ0 Q2 := by
  have fr : Fr wX_compareMatchers σ0 σ0 := Fr.rf
  unfold x_compareMatchers at h ⊢
  exact fx_compareMatchers_L2 fr h kQ
theorem fx_list_j209 {σ0 σ : S} {Q Q2 : Int → S → Prop} {E E2 : S → Prop} (fr : Fr wX_list σ0 σ) (h : x_list_j209  σ Q E) (kQ : ∀ r s, Fr wX_list σ0 s → Q r s → Q2 r s) (kE : ∀ s, Fr wX_list σ0 s → E s → E2 s) : x_list_j209  σ Q2 E2 := by
  unfold x_list_j209 at h ⊢
  exact fun σ_22 e0 => (have f0 : Fr wX_list σ0 σ_22 := Fr.putI fr e0 rfl; kQ _ _ f0 (h σ_22 e0))
theorem fx_list_j190 {v1 : Int} {v2 : Int} {v3 : Int} {v4 : Int} {σ0 σ : S} {Q Q2 : Int → S → Prop} {E E2 : S → Prop} {X130 X1302 : Int → S → Prop} (fr : Fr wX_list σ0 σ) (h : x_list_j190 v1 v2 v3 v4 σ Q E X130) (kQ : ∀ r s, Fr wX_list σ0 s → Q r s → Q2 r s) (kE : ∀ s, Fr wX_list σ0 s → E s → E2 s) (kX130 : ∀ a0 s, Fr wX_list σ0 s → X130 a0 s → X1302 a0 s) : x_list_j190 v1 v2 v3 v4 σ Q2 E2 X1302 := by
  unfold x_list_j190 at h ⊢
  exact ⟨h.1, fun σ_28 e1 => (have f1 : Fr wX_list σ0 σ_28 := Fr.putA fr e1 rfl; kX130 _ _ f1 (h.2 σ_28 e1))⟩
theorem fx_list_L152_b {v1 : Int} {v2 : Int} {v3 : Int} {v4 : Int} {v5 : Int} {σ0 σ : S} {Q Q2 : Int → S → Prop} {E E2 : S → Prop} {X130 X1302 : Int → S → Prop} {X152 X1522 : Int → S → Prop} (fr : Fr wX_list σ0 σ) (h : (if v5 ≤ v2 then x_list_j190 v1 v2 v3 v4 σ Q E X130 else inb (w32 (w32 (62 * (w32 (v5 - 1))) + v3)) 409200 ∧ inb (w32 (w32 (62 * v5) + v3)) 409200 ∧ ∀ σ_33, σ_33 = pA σ 86 (w32 (w32 (62 * v5) + v3)) (gA σ 86 (w32 (w32 (62 * (w32 (v5 - 1))) + v3))) → X152 (w32 (v5 + (-1))) σ_33)) (kQ : ∀ r s, Fr wX_list σ0 s → Q r s → Q2 r s) (kE : ∀ s, Fr wX_list σ0 s → E s → E2 s) (kX130 : ∀ a0 s, Fr wX_list σ0 s → X130 a0 s → X1302 a0 s) (kX152 : ∀ v5 s, Fr wX_list σ0 s → X152 v5 s → X1522 v5 s) : (if v5 ≤ v2 then x_list_j190 v1 v2 v3 v4 σ Q2 E2 X1302 else inb (w32 (w32 (62 * (w32 (v5 - 1))) + v3)) 409200 ∧ inb (w32 (w32 (62 * v5) + v3)) 409200 ∧ ∀ σ_33, σ_33 = pA σ 86 (w32 (w32 (62 * v5) + v3)) (gA σ 86 (w32 (w32 (62 * (w32 (v5 - 1))) + v3))) → X1522 (w32 (v5 + (-1))) σ_33) :=
  ite_m (fun _ h0 => fx_list_j190 fr h0 kQ kE kX130) (fun _ h0 => ⟨h0.1, ⟨h0.2.1, fun σ_33 e3 => (have f3 : Fr wX_list σ0 σ_33 := Fr.putA fr e3 rfl; kX152 _ _ f3 (h0.2.2 σ_33 e3))⟩⟩) h
theorem fx_list_L152 {v1 : Int} {v2 : Int} {v3 : Int} {v4 : Int} {v5 : Int} {σ0 σ : S} {Q Q2 : Int → S → Prop} {E E2 : S → Prop} {X130 X1302 : Int → S → Prop} (fr : Fr wX_list σ0 σ) (h : x_list_L152 v1 v2 v3 v4 v5 σ Q E X130) (kQ : ∀ r s, Fr wX_list σ0 s → Q r s → Q2 r s) (kE : ∀ s, Fr wX_list σ0 s → E s → E2 s) (kX130 : ∀ a0 s, Fr wX_list σ0 s → X130 a0 s → X1302 a0 s) : x_list_L152 v1 v2 v3 v4 v5 σ Q2 E2 X1302 := by
  unfold x_list_L152 at h ⊢
  intro Y hY
  exact h (fun v5 s => Fr wX_list σ0 s → Y v5 s) (fun v5 s h f => hY v5 s (fx_list_L152_b (v1 := v1) (v2 := v2) (v3 := v3) (v4 := v4) (v5 := v5) (Q := Q) (Q2 := Q2) (E := E) (E2 := E2) (X130 := X130) (X1302 := X1302) (X152 := fun v5 s => Fr wX_list σ0 s → Y v5 s) (X1522 := Y) f h kQ kE kX130 (fun v5 s f h => h f))) fr
theorem lx_list_L152 {v1 : Int} {v2 : Int} {v3 : Int} {v4 : Int} {v5 : Int} {σ0 : S} {Q : Int → S → Prop} {E : S → Prop} {X130 : Int → S → Prop} (I : Int → S → Prop) (me : Int → S → Nat) (h0 : I v5 σ0) (step : ∀ (v5 : Int) (s : S), Fr wX_list σ0 s → I v5 s → (fun (Y0 : Int → S → Prop) => (if v5 ≤ v2 then x_list_j190 v1 v2 v3 v4 s Q E X130 else inb (w32 (w32 (62 * (w32 (v5 - 1))) + v3)) 409200 ∧ inb (w32 (w32 (62 * v5) + v3)) 409200 ∧ ∀ σ_33, σ_33 = pA s 86 (w32 (w32 (62 * v5) + v3)) (gA s 86 (w32 (w32 (62 * (w32 (v5 - 1))) + v3))) → Y0 (w32 (v5 + (-1))) σ_33)) (fun v5' s' => I v5' s' ∧ me v5' s' < me v5 s)) : x_list_L152 v1 v2 v3 v4 v5 σ0 Q E X130 := by
  unfold x_list_L152
  intro Y hY
  have key : ∀ (n : Nat) (v5 : Int) (s : S), me v5 s < n → Fr wX_list σ0 s → I v5 s → Y v5 s := by
    intro n
    induction n with
    | zero => intro v5 s h; exact absurd h (Nat.not_lt_zero _)
    | succ n ih =>
      intro v5 s hm fr hi
      exact hY v5 s (fx_list_L152_b (v1 := v1) (v2 := v2) (v3 := v3) (v4 := v4) (v5 := v5) (Q := Q) (Q2 := Q) (E := E) (E2 := E) (X130 := X130) (X1302 := X130) (X152 := (fun v5' s' => I v5' s' ∧ me v5' s' < me v5 s)) (X1522 := Y) fr (step v5 s fr hi) (fun _ _ _ h => h) (fun _ _ h => h) (fun _ _ _ h => h) (fun v5 s f h => ih v5 s (by omega) f h.1))
  exact key _ v5 σ0 (Nat.lt_succ_self _) Fr.rf h0
theorem fx_list_L130_b {v1 : Int} {v2 : Int} {v3 : Int} {σ0 σ : S} {Q Q2 : Int → S → Prop} {E E2 : S → Prop} {X130 X1302 : Int → S → Prop} (fr : Fr wX_list σ0 σ) (h : (if v3 < 62 then inb (w32 (w32 (62 * v1) + v3)) 409200 ∧ x_list_L152 v1 v2 v3 (gA σ 86 (w32 (w32 (62 * v1) + v3))) v1 σ Q E X130 else x_list_j209 σ Q E)) (kQ : ∀ r s, Fr wX_list σ0 s → Q r s → Q2 r s) (kE : ∀ s, Fr wX_list σ0 s → E s → E2 s) (kX130 : ∀ v3 s, Fr wX_list σ0 s → X130 v3 s → X1302 v3 s) : (if v3 < 62 then inb (w32 (w32 (62 * v1) + v3)) 409200 ∧ x_list_L152 v1 v2 v3 (gA σ 86 (w32 (w32 (62 * v1) + v3))) v1 σ Q2 E2 X1302 else x_list_j209 σ Q2 E2) :=
  ite_m (fun _ h0 => ⟨h0.1, fx_list_L152 fr h0.2 kQ kE kX130⟩) (fun _ h0 => fx_list_j209 fr h0 kQ kE) h
theorem fx_list_L130 {v1 : Int} {v2 : Int} {v3 : Int} {σ0 σ : S} {Q Q2 : Int → S → Prop} {E E2 : S → Prop} (fr : Fr wX_list σ0 σ) (h : x_list_L130 v1 v2 v3 σ Q E) (kQ : ∀ r s, Fr wX_list σ0 s → Q r s → Q2 r s) (kE : ∀ s, Fr wX_list σ0 s → E s → E2 s) : x_list_L130 v1 v2 v3 σ Q2 E2 := by
  unfold x_list_L130 at h ⊢
  intro Y hY
  exact h (fun v3 s => Fr wX_list σ0 s → Y v3 s) (fun v3 s h f => hY v3 s (fx_list_L130_b (v1 := v1) (v2 := v2) (v3 := v3) (Q := Q) (Q2 := Q2) (E := E) (E2 := E2) (X130 := fun v3 s => Fr wX_list σ0 s → Y v3 s) (X1302 := Y) f h kQ kE (fun v3 s f h => h f))) fr
theorem lx_list_L130 {v1 : Int} {v2 : Int} {v3 : Int} {σ0 : S} {Q : Int → S → Prop} {E : S → Prop} (I : Int → S → Prop) (me : Int → S → Nat) (h0 : I v3 σ0) (step : ∀ (v3 : Int) (s : S), Fr wX_list σ0 s → I v3 s → (fun (Y0 : Int → S → Prop) => (if v3 < 62 then inb (w32 (w32 (62 * v1) + v3)) 409200 ∧ x_list_L152 v1 v2 v3 (gA s 86 (w32 (w32 (62 * v1) + v3))) v1 s Q E Y0 else x_list_j209 s Q E)) (fun v3' s' => I v3' s' ∧ me v3' s' < me v3 s)) : x_list_L130 v1 v2 v3 σ0 Q E := by
  unfold x_list_L130
  intro Y hY
  have key : ∀ (n : Nat) (v3 : Int) (s : S), me v3 s < n → Fr wX_list σ0 s → I v3 s → Y v3 s := by
    intro n
    induction n with
    | zero => intro v3 s h; exact absurd h (Nat.not_lt_zero _)
    | succ n ih =>
      intro v3 s hm fr hi
      exact hY v3 s (fx_list_L130_b (v1 := v1) (v2 := v2) (v3 := v3) (Q := Q) (Q2 := Q) (E := E) (E2 := E) (X130 := (fun v3' s' => I v3' s' ∧ me v3' s' < me v3 s)) (X1302 := Y) fr (step v3 s fr hi) (fun _ _ _ h => h) (fun _ _ h => h) (fun v3 s f h => ih v3 s (by omega) f h.1))
  exact key _ v3 σ0 (Nat.lt_succ_self _) Fr.rf h0
theorem fx_list_j112 {v1 : Int} {v2 : Int} {σ0 σ : S} {Q Q2 : Int → S → Prop} {E E2 : S → Prop} (fr : Fr wX_list σ0 σ) (h : x_list_j112 v1 v2 σ Q E) (kQ : ∀ r s, Fr wX_list σ0 s → Q r s → Q2 r s) (kE : ∀ s, Fr wX_list σ0 s → E s → E2 s) : x_list_j112 v1 v2 σ Q2 E2 := by
  unfold x_list_j112 at h ⊢
  exact ite_m (fun _ h0 => fm_x_stop h0 (fun _ σ_36 f h1 => (have f1 : Fr wX_list σ0 σ_36 := (fr.trans (f.weak (by decide +kernel))); kE _ f1 h1))) (fun _ h0 => fx_list_L130 fr h0 kQ kE) h
theorem fx_list_j103 {v1 : Int} {v2 : Int} {σ0 σ : S} {Q Q2 : Int → S → Prop} {E E2 : S → Prop} (fr : Fr wX_list σ0 σ) (h : x_list_j103 v1 v2 σ Q E) (kQ : ∀ r s, Fr wX_list σ0 s → Q r s → Q2 r s) (kE : ∀ s, Fr wX_list σ0 s → E s → E2 s) : x_list_j103 v1 v2 σ Q2 E2 := by
  unfold x_list_j103 at h ⊢
  exact fx_list_j112 fr h kQ kE
theorem fx_list_L77_b {v1 : Int} {v2 : Int} {σ0 σ : S} {Q Q2 : Int → S → Prop} {E E2 : S → Prop} {X77 X772 : Int → S → Prop} (fr : Fr wX_list σ0 σ) (h : (if v2 ≤ gI σ 123 then x_list_j112 v1 v2 σ Q E else x_compareMatchers v1 (w32 (v2 - 1)) σ (fun r_38 σ_37 => (if r_38 = 0 then Q 0 σ_37 else (if r_38 ≤ 0 then X77 (w32 (v2 + (-1))) σ_37 else x_list_j103 v1 v2 σ_37 Q E))))) (kQ : ∀ r s, Fr wX_list σ0 s → Q r s → Q2 r s) (kE : ∀ s, Fr wX_list σ0 s → E s → E2 s) (kX77 : ∀ v2 s, Fr wX_list σ0 s → X77 v2 s → X772 v2 s) : (if v2 ≤ gI σ 123 then x_list_j112 v1 v2 σ Q2 E2 else x_compareMatchers v1 (w32 (v2 - 1)) σ (fun r_38 σ_37 => (if r_38 = 0 then Q2 0 σ_37 else (if r_38 ≤ 0 then X772 (w32 (v2 + (-1))) σ_37 else x_list_j103 v1 v2 σ_37 Q2 E2)))) :=
  ite_m (fun _ h0 => fx_list_j112 fr h0 kQ kE) (fun _ h0 => fm_x_compareMatchers h0 (fun r_38 σ_37 f h1 => (have f1 : Fr wX_list σ0 σ_37 := (fr.trans (f.weak (by decide +kernel))); ite_m (fun _ h2 => kQ _ _ f1 h2) (fun _ h2 => ite_m (fun _ h3 => kX77 _ _ f1 h3) (fun _ h3 => fx_list_j103 f1 h3 kQ kE) h2) h1))) h
theorem fx_list_L77 {v1 : Int} {v2 : Int} {σ0 σ : S} {Q Q2 : Int → S → Prop} {E E2 : S → Prop} (fr : Fr wX_list σ0 σ) (h : x_list_L77 v1 v2 σ Q E) (kQ : ∀ r s, Fr wX_list σ0 s → Q r s → Q2 r s) (kE : ∀ s, Fr wX_list σ0 s → E s → E2 s) : x_list_L77 v1 v2 σ Q2 E2 := by
  unfold x_list_L77 at h ⊢
  intro Y hY
  exact h (fun v2 s => Fr wX_list σ0 s → Y v2 s) (fun v2 s h f => hY v2 s (fx_list_L77_b (v1 := v1) (v2 := v2) (Q := Q) (Q2 := Q2) (E := E) (E2 := E2) (X77 := fun v2 s => Fr wX_list σ0 s → Y v2 s) (X772 := Y) f h kQ kE (fun v2 s f h => h f))) fr
theorem lx_list_L77 {v1 : Int} {v2 : Int} {σ0 : S} {Q : Int → S → Prop} {E : S → Prop} (I : Int → S → Prop) (me : Int → S → Nat) (h0 : I v2 σ0) (step : ∀ (v2 : Int) (s : S), Fr wX_list σ0 s → I v2 s → (fun (Y0 : Int → S → Prop) => (if v2 ≤ gI s 123 then x_list_j112 v1 v2 s Q E else x_compareMatchers v1 (w32 (v2 - 1)) s (fun r_38 σ_37 => (if r_38 = 0 then Q 0 σ_37 else (if r_38 ≤ 0 then Y0 (w32 (v2 + (-1))) σ_37 else x_list_j103 v1 v2 σ_37 Q E))))) (fun v2' s' => I v2' s' ∧ me v2' s' < me v2 s)) : x_list_L77 v1 v2 σ0 Q E := by
  unfold x_list_L77
  intro Y hY
  have key : ∀ (n : Nat) (v2 : Int) (s : S), me v2 s < n → Fr wX_list σ0 s → I v2 s → Y v2 s := by
    intro n
    induction n with
    | zero => intro v2 s h; exact absurd h (Nat.not_lt_zero _)
    | succ n ih =>
      intro v2 s hm fr hi
      exact hY v2 s (fx_list_L77_b (v1 := v1) (v2 := v2) (Q := Q) (Q2 := Q) (E := E) (E2 := E) (X77 := (fun v2' s' => I v2' s' ∧ me v2' s' < me v2 s)) (X772 := Y) fr (step v2 s fr hi) (fun _ _ _ h => h) (fun _ _ h => h) (fun v2 s f h => ih v2 s (by omega) f h.1))
  exact key _ v2 σ0 (Nat.lt_succ_self _) Fr.rf h0
theorem fx_list_j41 {v1 : Int} {σ0 σ : S} {Q Q2 : Int → S → Prop} {E E2 : S → Prop} (fr : Fr wX_list σ0 σ) (h : x_list_j41 v1 σ Q E) (kQ : ∀ r s, Fr wX_list σ0 s → Q r s → Q2 r s) (kE : ∀ s, Fr wX_list σ0 s → E s → E2 s) : x_list_j41 v1 σ Q2 E2 := by
  unfold x_list_j41 at h ⊢
  exact ⟨h.1, fun σ_6 e1 => (have f1 : Fr wX_list σ0 σ_6 := Fr.putA fr e1 rfl; ⟨(h.2 σ_6 e1).1, fun σ_10 e3 => (have f3 : Fr wX_list σ0 σ_10 := Fr.putA f1 e3 rfl; fx_list_L77 f3 ((h.2 σ_6 e1).2 σ_10 e3) kQ kE)⟩)⟩
theorem fx_list_L12_b {v1 : Int} {v2 : Int} {σ0 σ : S} {Q Q2 : Int → S → Prop} {E E2 : S → Prop} {X12 X122 : Int → S → Prop} (fr : Fr wX_list σ0 σ) (h : (if v2 < 60 then inb v2 60 ∧ inb (w32 (w32 (62 * v1) + v2)) 409200 ∧ ∀ σ_45, σ_45 = pA σ 86 (w32 (w32 (62 * v1) + v2)) (gA σ 83 v2) → X12 (w32 (v2 + 1)) σ_45 else x_list_j41 v1 σ Q E)) (kQ : ∀ r s, Fr wX_list σ0 s → Q r s → Q2 r s) (kE : ∀ s, Fr wX_list σ0 s → E s → E2 s) (kX12 : ∀ v2 s, Fr wX_list σ0 s → X12 v2 s → X122 v2 s) : (if v2 < 60 then inb v2 60 ∧ inb (w32 (w32 (62 * v1) + v2)) 409200 ∧ ∀ σ_45, σ_45 = pA σ 86 (w32 (w32 (62 * v1) + v2)) (gA σ 83 v2) → X122 (w32 (v2 + 1)) σ_45 else x_list_j41 v1 σ Q2 E2) :=
  ite_m (fun _ h0 => ⟨h0.1, ⟨h0.2.1, fun σ_45 e3 => (have f3 : Fr wX_list σ0 σ_45 := Fr.putA fr e3 rfl; kX12 _ _ f3 (h0.2.2 σ_45 e3))⟩⟩) (fun _ h0 => fx_list_j41 fr h0 kQ kE) h
theorem fx_list_L12 {v1 : Int} {v2 : Int} {σ0 σ : S} {Q Q2 : Int → S → Prop} {E E2 : S → Prop} (fr : Fr wX_list σ0 σ) (h : x_list_L12 v1 v2 σ Q E) (kQ : ∀ r s, Fr wX_list σ0 s → Q r s → Q2 r s) (kE : ∀ s, Fr wX_list σ0 s → E s → E2 s) : x_list_L12 v1 v2 σ Q2 E2 := by
  unfold x_list_L12 at h ⊢
  intro Y hY
  exact h (fun v2 s => Fr wX_list σ0 s → Y v2 s) (fun v2 s h f => hY v2 s (fx_list_L12_b (v1 := v1) (v2 := v2) (Q := Q) (Q2 := Q2) (E := E) (E2 := E2) (X12 := fun v2 s => Fr wX_list σ0 s → Y v2 s) (X122 := Y) f h kQ kE (fun v2 s f h => h f))) fr
theorem lx_list_L12 {v1 : Int} {v2 : Int} {σ0 : S} {Q : Int → S → Prop} {E : S → Prop} (I : Int → S → Prop) (me : Int → S → Nat) (h0 : I v2 σ0) (step : ∀ (v2 : Int) (s : S), Fr wX_list σ0 s → I v2 s → (fun (Y0 : Int → S → Prop) => (if v2 < 60 then inb v2 60 ∧ inb (w32 (w32 (62 * v1) + v2)) 409200 ∧ ∀ σ_45, σ_45 = pA s 86 (w32 (w32 (62 * v1) + v2)) (gA s 83 v2) → Y0 (w32 (v2 + 1)) σ_45 else x_list_j41 v1 s Q E)) (fun v2' s' => I v2' s' ∧ me v2' s' < me v2 s)) : x_list_L12 v1 v2 σ0 Q E := by
  unfold x_list_L12
  intro Y hY
  have key : ∀ (n : Nat) (v2 : Int) (s : S), me v2 s < n → Fr wX_list σ0 s → I v2 s → Y v2 s := by
    intro n
    induction n with
    | zero => intro v2 s h; exact absurd h (Nat.not_lt_zero _)
    | succ n ih =>
      intro v2 s hm fr hi
      exact hY v2 s (fx_list_L12_b (v1 := v1) (v2 := v2) (Q := Q) (Q2 := Q) (E := E) (E2 := E) (X12 := (fun v2' s' => I v2' s' ∧ me v2' s' < me v2 s)) (X122 := Y) fr (step v2 s fr hi) (fun _ _ _ h => h) (fun _ _ h => h) (fun v2 s f h => ih v2 s (by omega) f h.1))
  exact key _ v2 σ0 (Nat.lt_succ_self _) Fr.rf h0
theorem fm_x_list {σ0 : S} {Q Q2 : Int → S → Prop} {E E2 : S → Prop} (h : x_list  σ0 Q E) (kQ : ∀ r s, Fr wX_list σ0 s → Q r s → Q2 r s) (kE : ∀ s, Fr wX_list σ0 s → E s → E2 s) : x_list  σ0 Q2 E2 := by
  have fr : Fr wX_list σ0 σ0 := Fr.rf
  unfold x_list at h ⊢
  exact fx_list_L12 fr h kQ kE
theorem fm_x_newShare {v1 : Int} {v2 : Int} {v3 : Int} {σ0 : S} {Q Q2 : Int → S → Prop} (h : x_newShare v1 v2 v3 σ0 Q) (kQ : ∀ r s, Fr wX_newShare σ0 s → Q r s → Q2 r s) : x_newShare v1 v2 v3 σ0 Q2 := by
  have fr : Fr wX_newShare σ0 σ0 := Fr.rf
  unfold x_newShare at h ⊢
  exact ⟨h.1, fun σ_2 e1 => (have f1 : Fr wX_newShare σ0 σ_2 := Fr.putA fr e1 rfl; ⟨(h.2 σ_2 e1).1, fun σ_6 e3 => (have f3 : Fr wX_newShare σ0 σ_6 := Fr.putA f1 e3 rfl; ⟨((h.2 σ_2 e1).2 σ_6 e3).1, fun σ_10 e5 => (have f5 : Fr wX_newShare σ0 σ_10 := Fr.putA f3 e5 rfl; fun σ_14 e6 => (have f6 : Fr wX_newShare σ0 σ_14 := Fr.putI f5 e6 rfl; kQ _ _ f6 ((((h.2 σ_2 e1).2 σ_6 e3).2 σ_10 e5) σ_14 e6)))⟩)⟩)⟩
theorem fx_solve_j191 {v1 : Int} {v2 : Int} {v3 : Int} {σ0 σ : S} {Q Q2 : Int → S → Prop} {E E2 : S → Prop} {G : Orc} (hG : FrO wX_solve G) (fr : Fr wX_solve σ0 σ) (h : x_solve_j191 G v1 v2 v3 σ Q E) (kQ : ∀ r s, Fr wX_solve σ0 s → Q r s → Q2 r s) (kE : ∀ s, Fr wX_solve σ0 s → E s → E2 s) : x_solve_j191 G v1 v2 v3 σ Q2 E2 := by
  unfold x_solve_j191 at h ⊢
  exact fun σ_28 e0 => (have f0 : Fr wX_solve σ0 σ_28 := Fr.putI fr e0 rfl; ⟨(h σ_28 e0).1, fun σ_30 e2 => (have f2 : Fr wX_solve σ0 σ_30 := Fr.putA f0 e2 rfl; ⟨((h σ_28 e0).2 σ_30 e2).1, fun σ_33 e4 => (have f4 : Fr wX_solve σ0 σ_33 := Fr.putA f2 e4 rfl; kQ _ _ f4 (((h σ_28 e0).2 σ_30 e2).2 σ_33 e4))⟩)⟩)
theorem fx_solve_j126 {v1 : Int} {v2 : Int} {v3 : Int} {v4 : Int} {σ0 σ : S} {Q Q2 : Int → S → Prop} {E E2 : S → Prop} {G : Orc} (hG : FrO wX_solve G) (fr : Fr wX_solve σ0 σ) (h : x_solve_j126 G v1 v2 v3 v4 σ Q E) (kQ : ∀ r s, Fr wX_solve σ0 s → Q r s → Q2 r s) (kE : ∀ s, Fr wX_solve σ0 s → E s → E2 s) : x_solve_j126 G v1 v2 v3 v4 σ Q2 E2 := by
  unfold x_solve_j126 at h ⊢
  exact hG _ _ _ _ _ _ _ h (fun _ σ_26 f h0 => (have f0 : Fr wX_solve σ0 σ_26 := (fr.trans f); fx_solve_j191 hG f0 h0 kQ kE)) (fun s f h => kE _ (fr.trans f) h)
theorem fx_solve_j187 {v1 : Int} {v2 : Int} {v3 : Int} {σ0 σ : S} {Q Q2 : Int → S → Prop} {E E2 : S → Prop} {G : Orc} (hG : FrO wX_solve G) (fr : Fr wX_solve σ0 σ) (h : x_solve_j187 G v1 v2 v3 σ Q E) (kQ : ∀ r s, Fr wX_solve σ0 s → Q r s → Q2 r s) (kE : ∀ s, Fr wX_solve σ0 s → E s → E2 s) : x_solve_j187 G v1 v2 v3 σ Q2 E2 := by
  unfold x_solve_j187 at h ⊢
  exact hG _ _ _ _ _ _ _ h (fun _ σ_48 f h0 => (have f0 : Fr wX_solve σ0 σ_48 := (fr.trans f); fx_solve_j191 hG f0 h0 kQ kE)) (fun s f h => kE _ (fr.trans f) h)
theorem fx_solve_L158_b {v1 : Int} {v2 : Int} {v3 : Int} {v5 : Int} {σ0 σ : S} {Q Q2 : Int → S → Prop} {E E2 : S → Prop} {X158 X1582 : Int → S → Prop} {G : Orc} (hG : FrO wX_solve G) (fr : Fr wX_solve σ0 σ) (h : (if v5 < 0 then x_solve_j187 G v1 v2 v3 σ Q E else x_at v2 v5 σ (fun r_51 σ_50 => x_at v3 v5 σ_50 (fun r_53 σ_52 => x_goal r_51 r_53 σ_52 (fun _ σ_54 => X158 (w32 (v5 + (-1))) σ_54))))) (kQ : ∀ r s, Fr wX_solve σ0 s → Q r s → Q2 r s) (kE : ∀ s, Fr wX_solve σ0 s → E s → E2 s) (kX158 : ∀ v5 s, Fr wX_solve σ0 s → X158 v5 s → X1582 v5 s) : (if v5 < 0 then x_solve_j187 G v1 v2 v3 σ Q2 E2 else x_at v2 v5 σ (fun r_51 σ_50 => x_at v3 v5 σ_50 (fun r_53 σ_52 => x_goal r_51 r_53 σ_52 (fun _ σ_54 => X1582 (w32 (v5 + (-1))) σ_54)))) :=
  ite_m (fun _ h0 => fx_solve_j187 hG fr h0 kQ kE) (fun _ h0 => fm_x_at h0 (fun r_51 σ_50 f h1 => (have f1 : Fr wX_solve σ0 σ_50 := (fr.trans (f.weak (by decide +kernel))); fm_x_at h1 (fun r_53 σ_52 f h2 => (have f2 : Fr wX_solve σ0 σ_52 := (f1.trans (f.weak (by decide +kernel))); fm_x_goal h2 (fun _ σ_54 f h3 => (have f3 : Fr wX_solve σ0 σ_54 := (f2.trans (f.weak (by decide +kernel))); kX158 _ _ f3 h3))))))) h
theorem fx_solve_L158 {v1 : Int} {v2 : Int} {v3 : Int} {v5 : Int} {σ0 σ : S} {Q Q2 : Int → S → Prop} {E E2 : S → Prop} {G : Orc} (hG : FrO wX_solve G) (fr : Fr wX_solve σ0 σ) (h : x_solve_L158 G v1 v2 v3 v5 σ Q E) (kQ : ∀ r s, Fr wX_solve σ0 s → Q r s → Q2 r s) (kE : ∀ s, Fr wX_solve σ0 s → E s → E2 s) : x_solve_L158 G v1 v2 v3 v5 σ Q2 E2 := by
  unfold x_solve_L158 at h ⊢
  intro Y hY
  exact h (fun v5 s => Fr wX_solve σ0 s → Y v5 s) (fun v5 s h f => hY v5 s (fx_solve_L158_b (v1 := v1) (v2 := v2) (v3 := v3) (v5 := v5) (Q := Q) (Q2 := Q2) (E := E) (E2 := E2) (X158 := fun v5 s => Fr wX_solve σ0 s → Y v5 s) (X1582 := Y) hG f h kQ kE (fun v5 s f h => h f))) fr
theorem lx_solve_L158 {v1 : Int} {v2 : Int} {v3 : Int} {v5 : Int} {σ0 : S} {Q : Int → S → Prop} {E : S → Prop} {G : Orc} (hG : FrO wX_solve G) (I : Int → S → Prop) (me : Int → S → Nat) (h0 : I v5 σ0) (step : ∀ (v5 : Int) (s : S), Fr wX_solve σ0 s → I v5 s → (fun (Y0 : Int → S → Prop) => (if v5 < 0 then x_solve_j187 G v1 v2 v3 s Q E else x_at v2 v5 s (fun r_51 σ_50 => x_at v3 v5 σ_50 (fun r_53 σ_52 => x_goal r_51 r_53 σ_52 (fun _ σ_54 => Y0 (w32 (v5 + (-1))) σ_54))))) (fun v5' s' => I v5' s' ∧ me v5' s' < me v5 s)) : x_solve_L158 G v1 v2 v3 v5 σ0 Q E := by
  unfold x_solve_L158
  intro Y hY
  have key : ∀ (n : Nat) (v5 : Int) (s : S), me v5 s < n → Fr wX_solve σ0 s → I v5 s → Y v5 s := by
    intro n
    induction n with
    | zero => intro v5 s h; exact absurd h (Nat.not_lt_zero _)
    | succ n ih =>
      intro v5 s hm fr hi
      exact hY v5 s (fx_solve_L158_b (v1 := v1) (v2 := v2) (v3 := v3) (v5 := v5) (Q := Q) (Q2 := Q) (E := E) (E2 := E) (X158 := (fun v5' s' => I v5' s' ∧ me v5' s' < me v5 s)) (X1582 := Y) hG fr (step v5 s fr hi) (fun _ _ _ h => h) (fun _ _ h => h) (fun v5 s f h => ih v5 s (by omega) f h.1))
  exact key _ v5 σ0 (Nat.lt_succ_self _) Fr.rf h0
theorem fx_solve_F {σ0 : S} {Q Q2 : Int → S → Prop} {E E2 : S → Prop} {G : Orc} (hG : FrO wX_solve G) (h : x_solve_F G  σ0 Q E) (kQ : ∀ r s, Fr wX_solve σ0 s → Q r s → Q2 r s) (kE : ∀ s, Fr wX_solve σ0 s → E s → E2 s) : x_solve_F G  σ0 Q2 E2 := by
  have fr : Fr wX_solve σ0 σ0 := Fr.rf
  unfold x_solve_F at h ⊢
  exact ite_m (fun _ h0 => fm_x_list h0 (fun _ σ_61 f h1 => (have f1 : Fr wX_solve σ0 σ_61 := (fr.trans (f.weak (by decide +kernel))); kQ _ _ f1 h1)) (fun s f h => kE _ (fr.trans (f.weak (by decide +kernel))) h)) (fun _ h0 => fun σ_5 e1 => (have f1 : Fr wX_solve σ0 σ_5 := Fr.putI fr e1 rfl; ⟨(h0 σ_5 e1).1, ⟨(h0 σ_5 e1).2.1, ⟨(h0 σ_5 e1).2.2.1, ite_m (fun _ h5 => hG _ _ _ _ _ _ _ h5 (fun _ σ_59 f h6 => (have f6 : Fr wX_solve σ0 σ_59 := (f1.trans f); fx_solve_j191 hG f6 h6 kQ kE)) (fun s f h => kE _ (f1.trans f) h)) (fun _ h5 => ite_m (fun _ h6 => hG _ _ _ _ _ _ _ h6 (fun _ σ_57 f h7 => (have f7 : Fr wX_solve σ0 σ_57 := (f1.trans f); fx_solve_j191 hG f7 h7 kQ kE)) (fun s f h => kE _ (f1.trans f) h)) (fun _ h6 => ⟨h6.1, ite_m (fun _ h8 => ⟨h8.1, ite_m (fun _ h10 => ⟨h10.1, ite_m (fun _ h12 => ⟨h12.1, ite_m (fun _ h14 => ⟨h14.1, fx_solve_L158 hG f1 h14.2 kQ kE⟩) (fun _ h14 => fx_solve_j191 hG f1 h14 kQ kE) h12.2⟩) (fun _ h12 => fx_solve_j126 hG f1 h12 kQ kE) h10.2⟩) (fun _ h10 => fx_solve_j126 hG f1 h10 kQ kE) h8.2⟩) (fun _ h8 => hG _ _ _ _ _ _ _ h8 (fun _ σ_55 f h9 => (have f9 : Fr wX_solve σ0 σ_55 := (f1.trans f); fx_solve_j191 hG f9 h9 kQ kE)) (fun s f h => kE _ (f1.trans f) h)) h6.2⟩) h5) (h0 σ_5 e1).2.2.2⟩⟩⟩)) h
theorem fx_solveVariable_F {v1 : Int} {v2 : Int} {σ0 : S} {Q Q2 : Int → S → Prop} {E E2 : S → Prop} {G : Orc} (hG : FrO wX_solveVariable G) (h : x_solveVariable_F G v1 v2 σ0 Q E) (kQ : ∀ r s, Fr wX_solveVariable σ0 s → Q r s → Q2 r s) (kE : ∀ s, Fr wX_solveVariable σ0 s → E s → E2 s) : x_solveVariable_F G v1 v2 σ0 Q2 E2 := by
  have fr : Fr wX_solveVariable σ0 σ0 := Fr.rf
  unfold x_solveVariable_F at h ⊢
  exact ⟨h.1, ite_m (fun _ h1 => ⟨h1.1, ite_m (fun _ h3 => kQ _ _ fr h3) (fun _ h3 => ⟨h3.1, fm_x_sortOfVariable h3.2 (fun r_12 σ_11 f h5 => (have f5 : Fr wX_solveVariable σ0 σ_11 := (fr.trans (f.weak (by decide +kernel))); fm_x_isBelow h5 (fun r_14 σ_13 f h6 => (have f6 : Fr wX_solveVariable σ0 σ_13 := (f5.trans (f.weak (by decide +kernel))); ite_m (fun _ h7 => kQ _ _ f6 h7) (fun _ h7 => ⟨h7.1, fun σ_17 e9 => (have f9 : Fr wX_solveVariable σ0 σ_17 := Fr.putA f6 e9 rfl; hG _ _ _ _ _ _ _ (h7.2 σ_17 e9) (fun _ σ_20 f h10 => (have f10 : Fr wX_solveVariable σ0 σ_20 := (f9.trans f); ⟨h10.1, fun σ_22 e12 => (have f12 : Fr wX_solveVariable σ0 σ_22 := Fr.putA f10 e12 rfl; kQ _ _ f12 (h10.2 σ_22 e12))⟩)) (fun s f h => kE _ (f9.trans f) h))⟩) h6))))⟩) h1.2⟩) (fun _ h1 => ⟨h1.1, ite_m (fun _ h3 => hG _ _ _ _ _ _ _ h3 (fun _ σ_29 f h4 => (have f4 : Fr wX_solveVariable σ0 σ_29 := (fr.trans f); kQ _ _ f4 h4)) (fun s f h => kE _ (fr.trans f) h)) (fun _ h3 => kQ _ _ fr h3) h1.2⟩) h.2⟩
theorem fx_solvePair_F {v1 : Int} {v2 : Int} {v3 : Int} {σ0 : S} {Q Q2 : Int → S → Prop} {E E2 : S → Prop} {G : Orc} (hG : FrO wX_solvePair G) (h : x_solvePair_F G v1 v2 v3 σ0 Q E) (kQ : ∀ r s, Fr wX_solvePair σ0 s → Q r s → Q2 r s) (kE : ∀ s, Fr wX_solvePair σ0 s → E s → E2 s) : x_solvePair_F G v1 v2 v3 σ0 Q2 E2 := by
  have fr : Fr wX_solvePair σ0 σ0 := Fr.rf
  unfold x_solvePair_F at h ⊢
  exact fm_x_at h (fun r_3 σ_2 f h0 => (have f0 : Fr wX_solvePair σ0 σ_2 := (fr.trans (f.weak (by decide +kernel))); fm_x_goal h0 (fun _ σ_4 f h1 => (have f1 : Fr wX_solvePair σ0 σ_4 := (f0.trans (f.weak (by decide +kernel))); fm_x_at h1 (fun r_6 σ_5 f h2 => (have f2 : Fr wX_solvePair σ0 σ_5 := (f1.trans (f.weak (by decide +kernel))); fm_x_goal h2 (fun _ σ_7 f h3 => (have f3 : Fr wX_solvePair σ0 σ_7 := (f2.trans (f.weak (by decide +kernel))); hG _ _ _ _ _ _ _ h3 (fun _ σ_8 f h4 => (have f4 : Fr wX_solvePair σ0 σ_8 := (f3.trans f); fun σ_10 e5 => (have f5 : Fr wX_solvePair σ0 σ_10 := Fr.putI f4 e5 rfl; kQ _ _ f5 (h4 σ_10 e5)))) (fun s f h => kE _ (f3.trans f) h)))))))))
theorem fx_solveTwo_j53 {v1 : Int} {v2 : Int} {v3 : Int} {σ0 σ : S} {Q Q2 : Int → S → Prop} {E E2 : S → Prop} {G : Orc} (hG : FrO wX_solveTwo G) (fr : Fr wX_solveTwo σ0 σ) (h : x_solveTwo_j53 G v1 v2 v3 σ Q E) (kQ : ∀ r s, Fr wX_solveTwo σ0 s → Q r s → Q2 r s) (kE : ∀ s, Fr wX_solveTwo σ0 s → E s → E2 s) : x_solveTwo_j53 G v1 v2 v3 σ Q2 E2 := by
  unfold x_solveTwo_j53 at h ⊢
  exact ⟨h.1, ite_m (fun _ h1 => kQ _ _ fr h1) (fun _ h1 => fm_x_unitNode h1 (fun r_10 σ_9 f h2 => (have f2 : Fr wX_solveTwo σ0 σ_9 := (fr.trans (f.weak (by decide +kernel))); hG _ _ _ _ _ _ _ h2 (fun _ σ_12 f h3 => (have f3 : Fr wX_solveTwo σ0 σ_12 := (f2.trans f); fm_x_unitNode h3 (fun r_15 σ_14 f h4 => (have f4 : Fr wX_solveTwo σ0 σ_14 := (f3.trans (f.weak (by decide +kernel))); hG _ _ _ _ _ _ _ h4 (fun _ σ_17 f h5 => (have f5 : Fr wX_solveTwo σ0 σ_17 := (f4.trans f); kQ _ _ f5 h5)) (fun s f h => kE _ (f4.trans f) h))) (fun s f h => kE _ (f3.trans (f.weak (by decide +kernel))) h))) (fun s f h => kE _ (f2.trans f) h))) (fun s f h => kE _ (fr.trans (f.weak (by decide +kernel))) h)) h.2⟩
theorem fx_solveTwo_F {v1 : Int} {v2 : Int} {v3 : Int} {σ0 : S} {Q Q2 : Int → S → Prop} {E E2 : S → Prop} {G : Orc} (hG : FrO wX_solveTwo G) (h : x_solveTwo_F G v1 v2 v3 σ0 Q E) (kQ : ∀ r s, Fr wX_solveTwo σ0 s → Q r s → Q2 r s) (kE : ∀ s, Fr wX_solveTwo σ0 s → E s → E2 s) : x_solveTwo_F G v1 v2 v3 σ0 Q2 E2 := by
  have fr : Fr wX_solveTwo σ0 σ0 := Fr.rf
  unfold x_solveTwo_F at h ⊢
  exact ⟨h.1, ite_m (fun _ h1 => fm_x_at h1 (fun r_20 σ_19 f h2 => (have f2 : Fr wX_solveTwo σ0 σ_19 := (fr.trans (f.weak (by decide +kernel))); fm_x_at h2 (fun r_22 σ_21 f h3 => (have f3 : Fr wX_solveTwo σ0 σ_21 := (f2.trans (f.weak (by decide +kernel))); hG _ _ _ _ _ _ _ h3 (fun _ σ_23 f h4 => (have f4 : Fr wX_solveTwo σ0 σ_23 := (f3.trans f); ⟨h4.1, ite_m (fun _ h6 => fx_solveTwo_j53 hG f4 h6 kQ kE) (fun _ h6 => fm_x_at h6 (fun r_30 σ_29 f h7 => (have f7 : Fr wX_solveTwo σ0 σ_29 := (f4.trans (f.weak (by decide +kernel))); fm_x_at h7 (fun r_32 σ_31 f h8 => (have f8 : Fr wX_solveTwo σ0 σ_31 := (f7.trans (f.weak (by decide +kernel))); hG _ _ _ _ _ _ _ h8 (fun _ σ_33 f h9 => (have f9 : Fr wX_solveTwo σ0 σ_33 := (f8.trans f); fx_solveTwo_j53 hG f9 h9 kQ kE)) (fun s f h => kE _ (f8.trans f) h)))))) h4.2⟩)) (fun s f h => kE _ (f3.trans f) h)))))) (fun _ h1 => fx_solveTwo_j53 hG fr h1 kQ kE) h.2⟩
theorem fx_solveAssoc_j159 {v4 : Int} {σ0 σ : S} {Q Q2 : Int → S → Prop} {E E2 : S → Prop} {G : Orc} (hG : FrO wX_solveAssoc G) (fr : Fr wX_solveAssoc σ0 σ) (h : x_solveAssoc_j159 G v4 σ Q E) (kQ : ∀ r s, Fr wX_solveAssoc σ0 s → Q r s → Q2 r s) (kE : ∀ s, Fr wX_solveAssoc σ0 s → E s → E2 s) : x_solveAssoc_j159 G v4 σ Q2 E2 := by
  unfold x_solveAssoc_j159 at h ⊢
  exact fun σ_30 e0 => (have f0 : Fr wX_solveAssoc σ0 σ_30 := Fr.putI fr e0 rfl; kQ _ _ f0 (h σ_30 e0))
theorem fx_solveAssoc_j99 {v1 : Int} {v2 : Int} {v4 : Int} {σ0 σ : S} {Q Q2 : Int → S → Prop} {E E2 : S → Prop} {G : Orc} (hG : FrO wX_solveAssoc G) (fr : Fr wX_solveAssoc σ0 σ) (h : x_solveAssoc_j99 G v1 v2 v4 σ Q E) (kQ : ∀ r s, Fr wX_solveAssoc σ0 s → Q r s → Q2 r s) (kE : ∀ s, Fr wX_solveAssoc σ0 s → E s → E2 s) : x_solveAssoc_j99 G v1 v2 v4 σ Q2 E2 := by
  unfold x_solveAssoc_j99 at h ⊢
  exact ⟨h.1, ⟨h.2.1, ite_m (fun _ h2 => fm_x_newShare h2 (fun r_24 σ_23 f h3 => (have f3 : Fr wX_solveAssoc σ0 σ_23 := (fr.trans (f.weak (by decide +kernel))); hG _ _ _ _ _ _ _ h3 (fun _ σ_25 f h4 => (have f4 : Fr wX_solveAssoc σ0 σ_25 := (f3.trans f); fun σ_28 e5 => (have f5 : Fr wX_solveAssoc σ0 σ_28 := Fr.putI f4 e5 rfl; fx_solveAssoc_j159 hG f5 (h4 σ_28 e5) kQ kE))) (fun s f h => kE _ (f3.trans f) h)))) (fun _ h2 => fx_solveAssoc_j159 hG fr h2 kQ kE) h.2.2⟩⟩
theorem fx_solveAssoc_j82 {v1 : Int} {v2 : Int} {v3 : Int} {v4 : Int} {σ0 σ : S} {Q Q2 : Int → S → Prop} {E E2 : S → Prop} {G : Orc} (hG : FrO wX_solveAssoc G) (fr : Fr wX_solveAssoc σ0 σ) (h : x_solveAssoc_j82 G v1 v2 v3 v4 σ Q E) (kQ : ∀ r s, Fr wX_solveAssoc σ0 s → Q r s → Q2 r s) (kE : ∀ s, Fr wX_solveAssoc σ0 s → E s → E2 s) : x_solveAssoc_j82 G v1 v2 v3 v4 σ Q2 E2 := by
  unfold x_solveAssoc_j82 at h ⊢
  exact fun σ_11 e0 => (have f0 : Fr wX_solveAssoc σ0 σ_11 := Fr.putI fr e0 rfl; ⟨(h σ_11 e0).1, fun σ_13 e2 => (have f2 : Fr wX_solveAssoc σ0 σ_13 := Fr.putA f0 e2 rfl; fx_solveAssoc_j99 hG f2 ((h σ_11 e0).2 σ_13 e2) kQ kE)⟩)
theorem fx_solveAssoc_j59 {v1 : Int} {v2 : Int} {v4 : Int} {σ0 σ : S} {Q Q2 : Int → S → Prop} {E E2 : S → Prop} {G : Orc} (hG : FrO wX_solveAssoc G) (fr : Fr wX_solveAssoc σ0 σ) (h : x_solveAssoc_j59 G v1 v2 v4 σ Q E) (kQ : ∀ r s, Fr wX_solveAssoc σ0 s → Q r s → Q2 r s) (kE : ∀ s, Fr wX_solveAssoc σ0 s → E s → E2 s) : x_solveAssoc_j59 G v1 v2 v4 σ Q2 E2 := by
  unfold x_solveAssoc_j59 at h ⊢
  exact fx_solveAssoc_j99 hG fr h kQ kE
theorem fx_solveAssoc_L19_b {v1 : Int} {v2 : Int} {v3 : Int} {v4 : Int} {v5 : Int} {σ0 σ : S} {Q Q2 : Int → S → Prop} {E E2 : S → Prop} {X19 X192 : Int → S → Prop} {G : Orc} (hG : FrO wX_solveAssoc G) (fr : Fr wX_solveAssoc σ0 σ) (h : inb v3 200000 ∧ (if v5 < gA σ 68 v3 then ∀ σ_45, σ_45 = pI σ 134 (w32 (gI σ 134 + 1)) → x_at v3 v5 σ_45 (fun r_48 σ_47 => inb (gI σ 134) 4000 ∧ ∀ σ_49, σ_49 = pA σ_47 87 (gI σ 134) r_48 → X19 (w32 (v5 + 1)) σ_49) else x_solveAssoc_j59 G v1 v2 v4 σ Q E)) (kQ : ∀ r s, Fr wX_solveAssoc σ0 s → Q r s → Q2 r s) (kE : ∀ s, Fr wX_solveAssoc σ0 s → E s → E2 s) (kX19 : ∀ v5 s, Fr wX_solveAssoc σ0 s → X19 v5 s → X192 v5 s) : inb v3 200000 ∧ (if v5 < gA σ 68 v3 then ∀ σ_45, σ_45 = pI σ 134 (w32 (gI σ 134 + 1)) → x_at v3 v5 σ_45 (fun r_48 σ_47 => inb (gI σ 134) 4000 ∧ ∀ σ_49, σ_49 = pA σ_47 87 (gI σ 134) r_48 → X192 (w32 (v5 + 1)) σ_49) else x_solveAssoc_j59 G v1 v2 v4 σ Q2 E2) :=
  ⟨h.1, ite_m (fun _ h1 => fun σ_45 e2 => (have f2 : Fr wX_solveAssoc σ0 σ_45 := Fr.putI fr e2 rfl; fm_x_at (h1 σ_45 e2) (fun r_48 σ_47 f h3 => (have f3 : Fr wX_solveAssoc σ0 σ_47 := (f2.trans (f.weak (by decide +kernel))); ⟨h3.1, fun σ_49 e5 => (have f5 : Fr wX_solveAssoc σ0 σ_49 := Fr.putA f3 e5 rfl; kX19 _ _ f5 (h3.2 σ_49 e5))⟩)))) (fun _ h1 => fx_solveAssoc_j59 hG fr h1 kQ kE) h.2⟩
theorem fx_solveAssoc_L19 {v1 : Int} {v2 : Int} {v3 : Int} {v4 : Int} {v5 : Int} {σ0 σ : S} {Q Q2 : Int → S → Prop} {E E2 : S → Prop} {G : Orc} (hG : FrO wX_solveAssoc G) (fr : Fr wX_solveAssoc σ0 σ) (h : x_solveAssoc_L19 G v1 v2 v3 v4 v5 σ Q E) (kQ : ∀ r s, Fr wX_solveAssoc σ0 s → Q r s → Q2 r s) (kE : ∀ s, Fr wX_solveAssoc σ0 s → E s → E2 s) : x_solveAssoc_L19 G v1 v2 v3 v4 v5 σ Q2 E2 := by
  unfold x_solveAssoc_L19 at h ⊢
  intro Y hY
  exact h (fun v5 s => Fr wX_solveAssoc σ0 s → Y v5 s) (fun v5 s h f => hY v5 s (fx_solveAssoc_L19_b (v1 := v1) (v2 := v2) (v3 := v3) (v4 := v4) (v5 := v5) (Q := Q) (Q2 := Q2) (E := E) (E2 := E2) (X19 := fun v5 s => Fr wX_solveAssoc σ0 s → Y v5 s) (X192 := Y) hG f h kQ kE (fun v5 s f h => h f))) fr
theorem lx_solveAssoc_L19 {v1 : Int} {v2 : Int} {v3 : Int} {v4 : Int} {v5 : Int} {σ0 : S} {Q : Int → S → Prop} {E : S → Prop} {G : Orc} (hG : FrO wX_solveAssoc G) (I : Int → S → Prop) (me : Int → S → Nat) (h0 : I v5 σ0) (step : ∀ (v5 : Int) (s : S), Fr wX_solveAssoc σ0 s → I v5 s → (fun (Y0 : Int → S → Prop) => inb v3 200000 ∧ (if v5 < gA s 68 v3 then ∀ σ_45, σ_45 = pI s 134 (w32 (gI s 134 + 1)) → x_at v3 v5 σ_45 (fun r_48 σ_47 => inb (gI s 134) 4000 ∧ ∀ σ_49, σ_49 = pA σ_47 87 (gI s 134) r_48 → Y0 (w32 (v5 + 1)) σ_49) else x_solveAssoc_j59 G v1 v2 v4 s Q E)) (fun v5' s' => I v5' s' ∧ me v5' s' < me v5 s)) : x_solveAssoc_L19 G v1 v2 v3 v4 v5 σ0 Q E := by
  unfold x_solveAssoc_L19
  intro Y hY
  have key : ∀ (n : Nat) (v5 : Int) (s : S), me v5 s < n → Fr wX_solveAssoc σ0 s → I v5 s → Y v5 s := by
    intro n
    induction n with
    | zero => intro v5 s h; exact absurd h (Nat.not_lt_zero _)
    | succ n ih =>
      intro v5 s hm fr hi
      exact hY v5 s (fx_solveAssoc_L19_b (v1 := v1) (v2 := v2) (v3 := v3) (v4 := v4) (v5 := v5) (Q := Q) (Q2 := Q) (E := E) (E2 := E) (X19 := (fun v5' s' => I v5' s' ∧ me v5' s' < me v5 s)) (X192 := Y) hG fr (step v5 s fr hi) (fun _ _ _ h => h) (fun _ _ h => h) (fun v5 s f h => ih v5 s (by omega) f h.1))
  exact key _ v5 σ0 (Nat.lt_succ_self _) Fr.rf h0
theorem fx_solveAssoc_F {v1 : Int} {v2 : Int} {v3 : Int} {σ0 : S} {Q Q2 : Int → S → Prop} {E E2 : S → Prop} {G : Orc} (hG : FrO wX_solveAssoc G) (h : x_solveAssoc_F G v1 v2 v3 σ0 Q E) (kQ : ∀ r s, Fr wX_solveAssoc σ0 s → Q r s → Q2 r s) (kE : ∀ s, Fr wX_solveAssoc σ0 s → E s → E2 s) : x_solveAssoc_F G v1 v2 v3 σ0 Q2 E2 := by
  have fr : Fr wX_solveAssoc σ0 σ0 := Fr.rf
  unfold x_solveAssoc_F at h ⊢
  exact ⟨h.1, ite_m (fun _ h1 => fx_solveAssoc_L19 hG fr h1 kQ kE) (fun _ h1 => ⟨h1.1, ite_m (fun _ h3 => fx_solveAssoc_j82 hG fr h3 kQ kE) (fun _ h3 => fm_x_unitNode h3 (fun r_36 σ_35 f h4 => (have f4 : Fr wX_solveAssoc σ0 σ_35 := (fr.trans (f.weak (by decide +kernel))); ite_m (fun _ h5 => fx_solveAssoc_j99 hG f4 h5 kQ kE) (fun _ h5 => fx_solveAssoc_j82 hG f4 h5 kQ kE) h4)) (fun s f h => kE _ (fr.trans (f.weak (by decide +kernel))) h)) h1.2⟩) h.2⟩
theorem fx_share_j152 {v1 : Int} {v2 : Int} {v3 : Int} {v5 : Int} {v6 : Int} {v7 : Int} {σ0 σ : S} {Q Q2 : Int → S → Prop} {E E2 : S → Prop} {X47 X472 : Int → S → Prop} {G : Orc} (hG : FrO wX_share G) (fr : Fr wX_share σ0 σ) (h : x_share_j152 G v1 v2 v3 v5 v6 v7 σ Q E X47) (kQ : ∀ r s, Fr wX_share σ0 s → Q r s → Q2 r s) (kE : ∀ s, Fr wX_share σ0 s → E s → E2 s) (kX47 : ∀ a0 s, Fr wX_share σ0 s → X47 a0 s → X472 a0 s) : x_share_j152 G v1 v2 v3 v5 v6 v7 σ Q2 E2 X472 := by
  unfold x_share_j152 at h ⊢
  exact kX47 _ _ fr h
theorem fx_share_j143 {v1 : Int} {v2 : Int} {v3 : Int} {v5 : Int} {v6 : Int} {v7 : Int} {σ0 σ : S} {Q Q2 : Int → S → Prop} {E E2 : S → Prop} {X47 X472 : Int → S → Prop} {G : Orc} (hG : FrO wX_share G) (fr : Fr wX_share σ0 σ) (h : x_share_j143 G v1 v2 v3 v5 v6 v7 σ Q E X47) (kQ : ∀ r s, Fr wX_share σ0 s → Q r s → Q2 r s) (kE : ∀ s, Fr wX_share σ0 s → E s → E2 s) (kX47 : ∀ a0 s, Fr wX_share σ0 s → X47 a0 s → X472 a0 s) : x_share_j143 G v1 v2 v3 v5 v6 v7 σ Q2 E2 X472 := by
  unfold x_share_j143 at h ⊢
  exact hG _ _ _ _ _ _ _ h (fun _ σ_29 f h0 => (have f0 : Fr wX_share σ0 σ_29 := (fr.trans f); fx_share_j152 hG f0 h0 kQ kE kX47)) (fun s f h => kE _ (fr.trans f) h)
theorem fx_share_L47_b {v1 : Int} {v2 : Int} {v3 : Int} {v5 : Int} {v6 : Int} {v7 : Int} {σ0 σ : S} {Q Q2 : Int → S → Prop} {E E2 : S → Prop} {X47 X472 : Int → S → Prop} {G : Orc} (hG : FrO wX_share G) (fr : Fr wX_share σ0 σ) (h : (if v7 < 0 then Q 0 σ else inb v2 50 ∧ (if bi (¬ (gA σ 53 v2 = 0) ∨ ((bAnd v5 (w32 (-v5)) = 0) ∨ (((v7 = 0) ∧ (bAnd v7 (w32 (v7 + (bAnd v5 (w32 (-v5))))) = 0)) ∨ (¬ (v7 = 0) ∧ ((bAnd v7 (w32 (-v7)) = bAnd v5 (w32 (-v5))) ∧ (bAnd v7 (w32 (v7 + (bAnd v5 (w32 (-v5))))) = 0)))))) = 0 then x_share_j152 G v1 v2 v3 v5 v6 v7 σ Q E X47 else inb v2 50 ∧ (if gA σ 54 v2 = (-2) then (if bCnt (bXor v5 v7) < w32 (v6 - 1) then x_share_j152 G v1 v2 v3 v5 v6 v7 σ Q E X47 else x_share_j143 G v1 v2 v3 v5 v6 v7 σ Q E X47) else x_share_j143 G v1 v2 v3 v5 v6 v7 σ Q E X47)))) (kQ : ∀ r s, Fr wX_share σ0 s → Q r s → Q2 r s) (kE : ∀ s, Fr wX_share σ0 s → E s → E2 s) (kX47 : ∀ v7 s, Fr wX_share σ0 s → X47 v7 s → X472 v7 s) : (if v7 < 0 then Q2 0 σ else inb v2 50 ∧ (if bi (¬ (gA σ 53 v2 = 0) ∨ ((bAnd v5 (w32 (-v5)) = 0) ∨ (((v7 = 0) ∧ (bAnd v7 (w32 (v7 + (bAnd v5 (w32 (-v5))))) = 0)) ∨ (¬ (v7 = 0) ∧ ((bAnd v7 (w32 (-v7)) = bAnd v5 (w32 (-v5))) ∧ (bAnd v7 (w32 (v7 + (bAnd v5 (w32 (-v5))))) = 0)))))) = 0 then x_share_j152 G v1 v2 v3 v5 v6 v7 σ Q2 E2 X472 else inb v2 50 ∧ (if gA σ 54 v2 = (-2) then (if bCnt (bXor v5 v7) < w32 (v6 - 1) then x_share_j152 G v1 v2 v3 v5 v6 v7 σ Q2 E2 X472 else x_share_j143 G v1 v2 v3 v5 v6 v7 σ Q2 E2 X472) else x_share_j143 G v1 v2 v3 v5 v6 v7 σ Q2 E2 X472))) :=
  ite_m (fun _ h0 => kQ _ _ fr h0) (fun _ h0 => ⟨h0.1, ite_m (fun _ h2 => fx_share_j152 hG fr h2 kQ kE kX47) (fun _ h2 => ⟨h2.1, ite_m (fun _ h4 => ite_m (fun _ h5 => fx_share_j152 hG fr h5 kQ kE kX47) (fun _ h5 => fx_share_j143 hG fr h5 kQ kE kX47) h4) (fun _ h4 => fx_share_j143 hG fr h4 kQ kE kX47) h2.2⟩) h0.2⟩) h
theorem fx_share_L47 {v1 : Int} {v2 : Int} {v3 : Int} {v5 : Int} {v6 : Int} {v7 : Int} {σ0 σ : S} {Q Q2 : Int → S → Prop} {E E2 : S → Prop} {G : Orc} (hG : FrO wX_share G) (fr : Fr wX_share σ0 σ) (h : x_share_L47 G v1 v2 v3 v5 v6 v7 σ Q E) (kQ : ∀ r s, Fr wX_share σ0 s → Q r s → Q2 r s) (kE : ∀ s, Fr wX_share σ0 s → E s → E2 s) : x_share_L47 G v1 v2 v3 v5 v6 v7 σ Q2 E2 := by
  unfold x_share_L47 at h ⊢
  intro Y hY
  exact h (fun v7 s => Fr wX_share σ0 s → Y v7 s) (fun v7 s h f => hY v7 s (fx_share_L47_b (v1 := v1) (v2 := v2) (v3 := v3) (v5 := v5) (v6 := v6) (v7 := v7) (Q := Q) (Q2 := Q2) (E := E) (E2 := E2) (X47 := fun v7 s => Fr wX_share σ0 s → Y v7 s) (X472 := Y) hG f h kQ kE (fun v7 s f h => h f))) fr
theorem lx_share_L47 {v1 : Int} {v2 : Int} {v3 : Int} {v5 : Int} {v6 : Int} {v7 : Int} {σ0 : S} {Q : Int → S → Prop} {E : S → Prop} {G : Orc} (hG : FrO wX_share G) (I : Int → S → Prop) (me : Int → S → Nat) (h0 : I v7 σ0) (step : ∀ (v7 : Int) (s : S), Fr wX_share σ0 s → I v7 s → (fun (Y0 : Int → S → Prop) => (if v7 < 0 then Q 0 s else inb v2 50 ∧ (if bi (¬ (gA s 53 v2 = 0) ∨ ((bAnd v5 (w32 (-v5)) = 0) ∨ (((v7 = 0) ∧ (bAnd v7 (w32 (v7 + (bAnd v5 (w32 (-v5))))) = 0)) ∨ (¬ (v7 = 0) ∧ ((bAnd v7 (w32 (-v7)) = bAnd v5 (w32 (-v5))) ∧ (bAnd v7 (w32 (v7 + (bAnd v5 (w32 (-v5))))) = 0)))))) = 0 then x_share_j152 G v1 v2 v3 v5 v6 v7 s Q E Y0 else inb v2 50 ∧ (if gA s 54 v2 = (-2) then (if bCnt (bXor v5 v7) < w32 (v6 - 1) then x_share_j152 G v1 v2 v3 v5 v6 v7 s Q E Y0 else x_share_j143 G v1 v2 v3 v5 v6 v7 s Q E Y0) else x_share_j143 G v1 v2 v3 v5 v6 v7 s Q E Y0)))) (fun v7' s' => I v7' s' ∧ me v7' s' < me v7 s)) : x_share_L47 G v1 v2 v3 v5 v6 v7 σ0 Q E := by
  unfold x_share_L47
  intro Y hY
  have key : ∀ (n : Nat) (v7 : Int) (s : S), me v7 s < n → Fr wX_share σ0 s → I v7 s → Y v7 s := by
    intro n
    induction n with
    | zero => intro v7 s h; exact absurd h (Nat.not_lt_zero _)
    | succ n ih =>
      intro v7 s hm fr hi
      exact hY v7 s (fx_share_L47_b (v1 := v1) (v2 := v2) (v3 := v3) (v5 := v5) (v6 := v6) (v7 := v7) (Q := Q) (Q2 := Q) (E := E) (E2 := E) (X47 := (fun v7' s' => I v7' s' ∧ me v7' s' < me v7 s)) (X472 := Y) hG fr (step v7 s fr hi) (fun _ _ _ h => h) (fun _ _ h => h) (fun v7 s f h => ih v7 s (by omega) f h.1))
  exact key _ v7 σ0 (Nat.lt_succ_self _) Fr.rf h0
theorem fx_share_F {v1 : Int} {v2 : Int} {v3 : Int} {σ0 : S} {Q Q2 : Int → S → Prop} {E E2 : S → Prop} {G : Orc} (hG : FrO wX_share G) (h : x_share_F G v1 v2 v3 σ0 Q E) (kQ : ∀ r s, Fr wX_share σ0 s → Q r s → Q2 r s) (kE : ∀ s, Fr wX_share σ0 s → E s → E2 s) : x_share_F G v1 v2 v3 σ0 Q2 E2 := by
  have fr : Fr wX_share σ0 σ0 := Fr.rf
  unfold x_share_F at h ⊢
  exact ⟨h.1, ⟨h.2.1, ⟨h.2.2.1, ite_m (fun _ h3 => hG _ _ _ _ _ _ _ h3 (fun _ σ_35 f h4 => (have f4 : Fr wX_share σ0 σ_35 := (fr.trans f); kQ _ _ f4 h4)) (fun s f h => kE _ (fr.trans f) h)) (fun _ h3 => fx_share_L47 hG fr h3 kQ kE) h.2.2.2⟩⟩⟩
theorem fx_shareOne_j136 {v3 : Int} {v6 : Int} {v7 : Int} {v8 : Int} {v9 : Int} {σ0 σ : S} {Q Q2 : Int → S → Prop} {E E2 : S → Prop} {G : Orc} (hG : FrO wX_shareOne G) (fr : Fr wX_shareOne σ0 σ) (h : x_shareOne_j136 G v3 v6 v7 v8 v9 σ Q E) (kQ : ∀ r s, Fr wX_shareOne σ0 s → Q r s → Q2 r s) (kE : ∀ s, Fr wX_shareOne σ0 s → E s → E2 s) : x_shareOne_j136 G v3 v6 v7 v8 v9 σ Q2 E2 := by
  unfold x_shareOne_j136 at h ⊢
  exact fm_x_at h (fun r_18 σ_17 f h0 => (have f0 : Fr wX_shareOne σ0 σ_17 := (fr.trans (f.weak (by decide +kernel))); fm_x_goal h0 (fun _ σ_19 f h1 => (have f1 : Fr wX_shareOne σ0 σ_19 := (f0.trans (f.weak (by decide +kernel))); hG _ _ _ _ _ _ _ h1 (fun _ σ_20 f h2 => (have f2 : Fr wX_shareOne σ0 σ_20 := (f1.trans f); fun σ_22 e3 => (have f3 : Fr wX_shareOne σ0 σ_22 := Fr.putI f2 e3 rfl; fun σ_26 e4 => (have f4 : Fr wX_shareOne σ0 σ_26 := Fr.putI f3 e4 rfl; kQ _ _ f4 ((h2 σ_22 e3) σ_26 e4))))) (fun s f h => kE _ (f1.trans f) h)))))
theorem fx_shareOne_j52 {v1 : Int} {v2 : Int} {v3 : Int} {v4 : Int} {v5 : Int} {σ0 σ : S} {Q Q2 : Int → S → Prop} {E E2 : S → Prop} {G : Orc} (hG : FrO wX_shareOne G) (fr : Fr wX_shareOne σ0 σ) (h : x_shareOne_j52 G v1 v2 v3 v4 v5 σ Q E) (kQ : ∀ r s, Fr wX_shareOne σ0 s → Q r s → Q2 r s) (kE : ∀ s, Fr wX_shareOne σ0 s → E s → E2 s) : x_shareOne_j52 G v1 v2 v3 v4 v5 σ Q2 E2 := by
  unfold x_shareOne_j52 at h ⊢
  exact fm_x_makeSome h (fun r_5 σ_4 f h0 => (have f0 : Fr wX_shareOne σ0 σ_4 := (fr.trans (f.weak (by decide +kernel))); ite_m (fun _ h1 => kQ _ _ f0 h1) (fun _ h1 => ⟨h1.1, ⟨h1.2.1, ite_m (fun _ h4 => fx_shareOne_j136 hG f0 h4 kQ kE) (fun _ h4 => ⟨h4.1, ⟨h4.2.1, fm_x_newShare h4.2.2 (fun r_35 σ_34 f h7 => (have f7 : Fr wX_shareOne σ0 σ_34 := (f0.trans (f.weak (by decide +kernel))); fm_x_goal h7 (fun _ σ_36 f h8 => (have f8 : Fr wX_shareOne σ0 σ_36 := (f7.trans (f.weak (by decide +kernel))); fx_shareOne_j136 hG f8 h8 kQ kE))))⟩⟩) h1.2.2⟩⟩) h0)) (fun s f h => kE _ (fr.trans (f.weak (by decide +kernel))) h)
theorem fx_shareOne_j46 {v1 : Int} {v2 : Int} {v3 : Int} {v4 : Int} {v5 : Int} {v6 : Int} {σ0 σ : S} {Q Q2 : Int → S → Prop} {E E2 : S → Prop} {X9 X92 : Int → S → Prop} {G : Orc} (hG : FrO wX_shareOne G) (fr : Fr wX_shareOne σ0 σ) (h : x_shareOne_j46 G v1 v2 v3 v4 v5 v6 σ Q E X9) (kQ : ∀ r s, Fr wX_shareOne σ0 s → Q r s → Q2 r s) (kE : ∀ s, Fr wX_shareOne σ0 s → E s → E2 s) (kX9 : ∀ a0 s, Fr wX_shareOne σ0 s → X9 a0 s → X92 a0 s) : x_shareOne_j46 G v1 v2 v3 v4 v5 v6 σ Q2 E2 X92 := by
  unfold x_shareOne_j46 at h ⊢
  exact kX9 _ _ fr h
theorem fx_shareOne_L9_b {v1 : Int} {v2 : Int} {v3 : Int} {v4 : Int} {v5 : Int} {v6 : Int} {σ0 σ : S} {Q Q2 : Int → S → Prop} {E E2 : S → Prop} {X9 X92 : Int → S → Prop} {G : Orc} (hG : FrO wX_shareOne G) (fr : Fr wX_shareOne σ0 σ) (h : (if bShr v4 v6 = 0 then x_shareOne_j52 G v1 v2 v3 v4 v5 σ Q E else (if bAnd (bShr v4 v6) 1 = 1 then inb v1 400 ∧ inb (w32 (gA σ 89 v1 + v6)) 4000 ∧ x_push (gA σ 87 (w32 (gA σ 89 v1 + v6))) σ (fun _ σ_45 => x_shareOne_j46 G v1 v2 v3 v4 v5 v6 σ_45 Q E X9) else x_shareOne_j46 G v1 v2 v3 v4 v5 v6 σ Q E X9))) (kQ : ∀ r s, Fr wX_shareOne σ0 s → Q r s → Q2 r s) (kE : ∀ s, Fr wX_shareOne σ0 s → E s → E2 s) (kX9 : ∀ v6 s, Fr wX_shareOne σ0 s → X9 v6 s → X92 v6 s) : (if bShr v4 v6 = 0 then x_shareOne_j52 G v1 v2 v3 v4 v5 σ Q2 E2 else (if bAnd (bShr v4 v6) 1 = 1 then inb v1 400 ∧ inb (w32 (gA σ 89 v1 + v6)) 4000 ∧ x_push (gA σ 87 (w32 (gA σ 89 v1 + v6))) σ (fun _ σ_45 => x_shareOne_j46 G v1 v2 v3 v4 v5 v6 σ_45 Q2 E2 X92) else x_shareOne_j46 G v1 v2 v3 v4 v5 v6 σ Q2 E2 X92)) :=
  ite_m (fun _ h0 => fx_shareOne_j52 hG fr h0 kQ kE) (fun _ h0 => ite_m (fun _ h1 => ⟨h1.1, ⟨h1.2.1, fm_x_push h1.2.2 (fun _ σ_45 f h4 => (have f4 : Fr wX_shareOne σ0 σ_45 := (fr.trans (f.weak (by decide +kernel))); fx_shareOne_j46 hG f4 h4 kQ kE kX9))⟩⟩) (fun _ h1 => fx_shareOne_j46 hG fr h1 kQ kE kX9) h0) h
theorem fx_shareOne_L9 {v1 : Int} {v2 : Int} {v3 : Int} {v4 : Int} {v5 : Int} {v6 : Int} {σ0 σ : S} {Q Q2 : Int → S → Prop} {E E2 : S → Prop} {G : Orc} (hG : FrO wX_shareOne G) (fr : Fr wX_shareOne σ0 σ) (h : x_shareOne_L9 G v1 v2 v3 v4 v5 v6 σ Q E) (kQ : ∀ r s, Fr wX_shareOne σ0 s → Q r s → Q2 r s) (kE : ∀ s, Fr wX_shareOne σ0 s → E s → E2 s) : x_shareOne_L9 G v1 v2 v3 v4 v5 v6 σ Q2 E2 := by
  unfold x_shareOne_L9 at h ⊢
  intro Y hY
  exact h (fun v6 s => Fr wX_shareOne σ0 s → Y v6 s) (fun v6 s h f => hY v6 s (fx_shareOne_L9_b (v1 := v1) (v2 := v2) (v3 := v3) (v4 := v4) (v5 := v5) (v6 := v6) (Q := Q) (Q2 := Q2) (E := E) (E2 := E2) (X9 := fun v6 s => Fr wX_shareOne σ0 s → Y v6 s) (X92 := Y) hG f h kQ kE (fun v6 s f h => h f))) fr
theorem lx_shareOne_L9 {v1 : Int} {v2 : Int} {v3 : Int} {v4 : Int} {v5 : Int} {v6 : Int} {σ0 : S} {Q : Int → S → Prop} {E : S → Prop} {G : Orc} (hG : FrO wX_shareOne G) (I : Int → S → Prop) (me : Int → S → Nat) (h0 : I v6 σ0) (step : ∀ (v6 : Int) (s : S), Fr wX_shareOne σ0 s → I v6 s → (fun (Y0 : Int → S → Prop) => (if bShr v4 v6 = 0 then x_shareOne_j52 G v1 v2 v3 v4 v5 s Q E else (if bAnd (bShr v4 v6) 1 = 1 then inb v1 400 ∧ inb (w32 (gA s 89 v1 + v6)) 4000 ∧ x_push (gA s 87 (w32 (gA s 89 v1 + v6))) s (fun _ σ_45 => x_shareOne_j46 G v1 v2 v3 v4 v5 v6 σ_45 Q E Y0) else x_shareOne_j46 G v1 v2 v3 v4 v5 v6 s Q E Y0))) (fun v6' s' => I v6' s' ∧ me v6' s' < me v6 s)) : x_shareOne_L9 G v1 v2 v3 v4 v5 v6 σ0 Q E := by
  unfold x_shareOne_L9
  intro Y hY
  have key : ∀ (n : Nat) (v6 : Int) (s : S), me v6 s < n → Fr wX_shareOne σ0 s → I v6 s → Y v6 s := by
    intro n
    induction n with
    | zero => intro v6 s h; exact absurd h (Nat.not_lt_zero _)
    | succ n ih =>
      intro v6 s hm fr hi
      exact hY v6 s (fx_shareOne_L9_b (v1 := v1) (v2 := v2) (v3 := v3) (v4 := v4) (v5 := v5) (v6 := v6) (Q := Q) (Q2 := Q) (E := E) (E2 := E) (X9 := (fun v6' s' => I v6' s' ∧ me v6' s' < me v6 s)) (X92 := Y) hG fr (step v6 s fr hi) (fun _ _ _ h => h) (fun _ _ h => h) (fun v6 s f h => ih v6 s (by omega) f h.1))
  exact key _ v6 σ0 (Nat.lt_succ_self _) Fr.rf h0
theorem fx_shareOne_F {v1 : Int} {v2 : Int} {v3 : Int} {v4 : Int} {σ0 : S} {Q Q2 : Int → S → Prop} {E E2 : S → Prop} {G : Orc} (hG : FrO wX_shareOne G) (h : x_shareOne_F G v1 v2 v3 v4 σ0 Q E) (kQ : ∀ r s, Fr wX_shareOne σ0 s → Q r s → Q2 r s) (kE : ∀ s, Fr wX_shareOne σ0 s → E s → E2 s) : x_shareOne_F G v1 v2 v3 v4 σ0 Q2 E2 := by
  have fr : Fr wX_shareOne σ0 σ0 := Fr.rf
  unfold x_shareOne_F at h ⊢
  exact fx_shareOne_L9 hG fr h kQ kE
theorem fo_x_S_solve : ∀ n, FrO wX_solve (x_S_solve n)
  | 0 => fun _ _ _ _ _ _ _ h _ _ => h.elim
  | n + 1 => fun i a σ Q Q2 E E2 h kQ kE => by
    unfold x_S_solve at h ⊢
    split at h
    · exact fx_solve_F (fo_x_S_solve n) h kQ kE
    · exact fx_solveVariable_F (fo_x_S_solve n) h kQ kE
    · exact fx_solvePair_F (fo_x_S_solve n) h kQ kE
    · exact fx_solveTwo_F (fo_x_S_solve n) h kQ kE
    · exact fx_solveAssoc_F (fo_x_S_solve n) h kQ kE
    · exact fx_share_F (fo_x_S_solve n) h kQ kE
    · exact fx_shareOne_F (fo_x_S_solve n) h kQ kE
    · exact h.elim
theorem fm_x_solve {σ0 : S} {Q Q2 : Int → S → Prop} {E E2 : S → Prop} (h : x_solve  σ0 Q E) (kQ : ∀ r s, Fr wX_solve σ0 s → Q r s → Q2 r s) (kE : ∀ s, Fr wX_solve σ0 s → E s → E2 s) : x_solve  σ0 Q2 E2 := fo_x_S_solve 420 _ _ _ _ _ _ _ h kQ kE
theorem fm_x_solveVariable {v1 : Int} {v2 : Int} {σ0 : S} {Q Q2 : Int → S → Prop} {E E2 : S → Prop} (h : x_solveVariable v1 v2 σ0 Q E) (kQ : ∀ r s, Fr wX_solveVariable σ0 s → Q r s → Q2 r s) (kE : ∀ s, Fr wX_solveVariable σ0 s → E s → E2 s) : x_solveVariable v1 v2 σ0 Q2 E2 := fo_x_S_solve 420 _ _ _ _ _ _ _ h kQ kE
theorem fm_x_solvePair {v1 : Int} {v2 : Int} {v3 : Int} {σ0 : S} {Q Q2 : Int → S → Prop} {E E2 : S → Prop} (h : x_solvePair v1 v2 v3 σ0 Q E) (kQ : ∀ r s, Fr wX_solvePair σ0 s → Q r s → Q2 r s) (kE : ∀ s, Fr wX_solvePair σ0 s → E s → E2 s) : x_solvePair v1 v2 v3 σ0 Q2 E2 := fo_x_S_solve 420 _ _ _ _ _ _ _ h kQ kE
theorem fm_x_solveTwo {v1 : Int} {v2 : Int} {v3 : Int} {σ0 : S} {Q Q2 : Int → S → Prop} {E E2 : S → Prop} (h : x_solveTwo v1 v2 v3 σ0 Q E) (kQ : ∀ r s, Fr wX_solveTwo σ0 s → Q r s → Q2 r s) (kE : ∀ s, Fr wX_solveTwo σ0 s → E s → E2 s) : x_solveTwo v1 v2 v3 σ0 Q2 E2 := fo_x_S_solve 420 _ _ _ _ _ _ _ h kQ kE
theorem fm_x_solveAssoc {v1 : Int} {v2 : Int} {v3 : Int} {σ0 : S} {Q Q2 : Int → S → Prop} {E E2 : S → Prop} (h : x_solveAssoc v1 v2 v3 σ0 Q E) (kQ : ∀ r s, Fr wX_solveAssoc σ0 s → Q r s → Q2 r s) (kE : ∀ s, Fr wX_solveAssoc σ0 s → E s → E2 s) : x_solveAssoc v1 v2 v3 σ0 Q2 E2 := fo_x_S_solve 420 _ _ _ _ _ _ _ h kQ kE
theorem fm_x_share {v1 : Int} {v2 : Int} {v3 : Int} {σ0 : S} {Q Q2 : Int → S → Prop} {E E2 : S → Prop} (h : x_share v1 v2 v3 σ0 Q E) (kQ : ∀ r s, Fr wX_share σ0 s → Q r s → Q2 r s) (kE : ∀ s, Fr wX_share σ0 s → E s → E2 s) : x_share v1 v2 v3 σ0 Q2 E2 := fo_x_S_solve 420 _ _ _ _ _ _ _ h kQ kE
theorem fm_x_shareOne {v1 : Int} {v2 : Int} {v3 : Int} {v4 : Int} {σ0 : S} {Q Q2 : Int → S → Prop} {E E2 : S → Prop} (h : x_shareOne v1 v2 v3 v4 σ0 Q E) (kQ : ∀ r s, Fr wX_shareOne σ0 s → Q r s → Q2 r s) (kE : ∀ s, Fr wX_shareOne σ0 s → E s → E2 s) : x_shareOne v1 v2 v3 v4 σ0 Q2 E2 := fo_x_S_solve 420 _ _ _ _ _ _ _ h kQ kE
theorem fm_x_matchPart {v1 : Int} {v2 : Int} {σ0 : S} {Q Q2 : Int → S → Prop} {E E2 : S → Prop} (h : x_matchPart v1 v2 σ0 Q E) (kQ : ∀ r s, Fr wX_matchPart σ0 s → Q r s → Q2 r s) (kE : ∀ s, Fr wX_matchPart σ0 s → E s → E2 s) : x_matchPart v1 v2 σ0 Q2 E2 := by
  have fr : Fr wX_matchPart σ0 σ0 := Fr.rf
  unfold x_matchPart at h ⊢
  exact fun σ_1 e0 => (have f0 : Fr wX_matchPart σ0 σ_1 := Fr.putI fr e0 rfl; fm_x_goal (h σ_1 e0) (fun _ σ_3 f h1 => (have f1 : Fr wX_matchPart σ0 σ_3 := (f0.trans (f.weak (by decide +kernel))); fm_x_solve h1 (fun _ σ_4 f h2 => (have f2 : Fr wX_matchPart σ0 σ_4 := (f1.trans (f.weak (by decide +kernel))); kQ _ _ f2 h2)) (fun s f h => kE _ (f1.trans (f.weak (by decide +kernel))) h))))
theorem fx_some_j47 {v2 : Int} {v4 : Int} {σ0 σ : S} {Q Q2 : Int → S → Prop} {E E2 : S → Prop} (fr : Fr wX_some σ0 σ) (h : x_some_j47 v2 v4 σ Q E) (kQ : ∀ r s, Fr wX_some σ0 s → Q r s → Q2 r s) (kE : ∀ s, Fr wX_some σ0 s → E s → E2 s) : x_some_j47 v2 v4 σ Q2 E2 := by
  unfold x_some_j47 at h ⊢
  exact ite_m (fun _ h0 => kQ _ _ fr h0) (fun _ h0 => fm_x_makeSome h0 (fun r_10 σ_9 f h1 => (have f1 : Fr wX_some σ0 σ_9 := (fr.trans (f.weak (by decide +kernel))); kQ _ _ f1 h1)) (fun s f h => kE _ (fr.trans (f.weak (by decide +kernel))) h)) h
theorem fx_some_j41 {v1 : Int} {v2 : Int} {v3 : Int} {v4 : Int} {v5 : Int} {σ0 σ : S} {Q Q2 : Int → S → Prop} {E E2 : S → Prop} {X9 X92 : Int → S → Prop} (fr : Fr wX_some σ0 σ) (h : x_some_j41 v1 v2 v3 v4 v5 σ Q E X9) (kQ : ∀ r s, Fr wX_some σ0 s → Q r s → Q2 r s) (kE : ∀ s, Fr wX_some σ0 s → E s → E2 s) (kX9 : ∀ a0 s, Fr wX_some σ0 s → X9 a0 s → X92 a0 s) : x_some_j41 v1 v2 v3 v4 v5 σ Q2 E2 X92 := by
  unfold x_some_j41 at h ⊢
  exact kX9 _ _ fr h
theorem fx_some_L9_b {v1 : Int} {v2 : Int} {v3 : Int} {v4 : Int} {v5 : Int} {σ0 σ : S} {Q Q2 : Int → S → Prop} {E E2 : S → Prop} {X9 X92 : Int → S → Prop} (fr : Fr wX_some σ0 σ) (h : inb v1 200000 ∧ (if v5 < gA σ 68 v1 then (if bAnd (bShr v3 v5) 1 = 1 then x_at v1 v5 σ (fun r_15 σ_14 => x_push r_15 σ_14 (fun _ σ_16 => x_some_j41 v1 v2 v3 v4 v5 σ_16 Q E X9)) else x_some_j41 v1 v2 v3 v4 v5 σ Q E X9) else x_some_j47 v2 v4 σ Q E)) (kQ : ∀ r s, Fr wX_some σ0 s → Q r s → Q2 r s) (kE : ∀ s, Fr wX_some σ0 s → E s → E2 s) (kX9 : ∀ v5 s, Fr wX_some σ0 s → X9 v5 s → X92 v5 s) : inb v1 200000 ∧ (if v5 < gA σ 68 v1 then (if bAnd (bShr v3 v5) 1 = 1 then x_at v1 v5 σ (fun r_15 σ_14 => x_push r_15 σ_14 (fun _ σ_16 => x_some_j41 v1 v2 v3 v4 v5 σ_16 Q2 E2 X92)) else x_some_j41 v1 v2 v3 v4 v5 σ Q2 E2 X92) else x_some_j47 v2 v4 σ Q2 E2) :=
  ⟨h.1, ite_m (fun _ h1 => ite_m (fun _ h2 => fm_x_at h2 (fun r_15 σ_14 f h3 => (have f3 : Fr wX_some σ0 σ_14 := (fr.trans (f.weak (by decide +kernel))); fm_x_push h3 (fun _ σ_16 f h4 => (have f4 : Fr wX_some σ0 σ_16 := (f3.trans (f.weak (by decide +kernel))); fx_some_j41 f4 h4 kQ kE kX9))))) (fun _ h2 => fx_some_j41 fr h2 kQ kE kX9) h1) (fun _ h1 => fx_some_j47 fr h1 kQ kE) h.2⟩
theorem fx_some_L9 {v1 : Int} {v2 : Int} {v3 : Int} {v4 : Int} {v5 : Int} {σ0 σ : S} {Q Q2 : Int → S → Prop} {E E2 : S → Prop} (fr : Fr wX_some σ0 σ) (h : x_some_L9 v1 v2 v3 v4 v5 σ Q E) (kQ : ∀ r s, Fr wX_some σ0 s → Q r s → Q2 r s) (kE : ∀ s, Fr wX_some σ0 s → E s → E2 s) : x_some_L9 v1 v2 v3 v4 v5 σ Q2 E2 := by
  unfold x_some_L9 at h ⊢
  intro Y hY
  exact h (fun v5 s => Fr wX_some σ0 s → Y v5 s) (fun v5 s h f => hY v5 s (fx_some_L9_b (v1 := v1) (v2 := v2) (v3 := v3) (v4 := v4) (v5 := v5) (Q := Q) (Q2 := Q2) (E := E) (E2 := E2) (X9 := fun v5 s => Fr wX_some σ0 s → Y v5 s) (X92 := Y) f h kQ kE (fun v5 s f h => h f))) fr
theorem lx_some_L9 {v1 : Int} {v2 : Int} {v3 : Int} {v4 : Int} {v5 : Int} {σ0 : S} {Q : Int → S → Prop} {E : S → Prop} (I : Int → S → Prop) (me : Int → S → Nat) (h0 : I v5 σ0) (step : ∀ (v5 : Int) (s : S), Fr wX_some σ0 s → I v5 s → (fun (Y0 : Int → S → Prop) => inb v1 200000 ∧ (if v5 < gA s 68 v1 then (if bAnd (bShr v3 v5) 1 = 1 then x_at v1 v5 s (fun r_15 σ_14 => x_push r_15 σ_14 (fun _ σ_16 => x_some_j41 v1 v2 v3 v4 v5 σ_16 Q E Y0)) else x_some_j41 v1 v2 v3 v4 v5 s Q E Y0) else x_some_j47 v2 v4 s Q E)) (fun v5' s' => I v5' s' ∧ me v5' s' < me v5 s)) : x_some_L9 v1 v2 v3 v4 v5 σ0 Q E := by
  unfold x_some_L9
  intro Y hY
  have key : ∀ (n : Nat) (v5 : Int) (s : S), me v5 s < n → Fr wX_some σ0 s → I v5 s → Y v5 s := by
    intro n
    induction n with
    | zero => intro v5 s h; exact absurd h (Nat.not_lt_zero _)
    | succ n ih =>
      intro v5 s hm fr hi
      exact hY v5 s (fx_some_L9_b (v1 := v1) (v2 := v2) (v3 := v3) (v4 := v4) (v5 := v5) (Q := Q) (Q2 := Q) (E := E) (E2 := E) (X9 := (fun v5' s' => I v5' s' ∧ me v5' s' < me v5 s)) (X92 := Y) fr (step v5 s fr hi) (fun _ _ _ h => h) (fun _ _ h => h) (fun v5 s f h => ih v5 s (by omega) f h.1))
  exact key _ v5 σ0 (Nat.lt_succ_self _) Fr.rf h0
theorem fm_x_some {v1 : Int} {v2 : Int} {v3 : Int} {σ0 : S} {Q Q2 : Int → S → Prop} {E E2 : S → Prop} (h : x_some v1 v2 v3 σ0 Q E) (kQ : ∀ r s, Fr wX_some σ0 s → Q r s → Q2 r s) (kE : ∀ s, Fr wX_some σ0 s → E s → E2 s) : x_some v1 v2 v3 σ0 Q2 E2 := by
  have fr : Fr wX_some σ0 σ0 := Fr.rf
  unfold x_some at h ⊢
  exact fx_some_L9 fr h kQ kE
theorem fx_matchBag_L3_b {v1 : Int} {v2 : Int} {v3 : Int} {v4 : Int} {σ0 σ : S} {Q Q2 : Int → S → Prop} {E E2 : S → Prop} {X3 X32 : Int → S → Prop} (fr : Fr wX_matchBag σ0 σ) (h : inb v2 200000 ∧ (if v4 < bShl 1 (gA σ 68 v2) then x_some v2 v3 (bXor v4 (-1)) σ (fun r_6 σ_5 => ∀ σ_8, σ_8 = pI σ_5 126 r_6 → x_some v2 v3 v4 σ_8 (fun r_11 σ_10 => x_matchPart v1 r_11 σ_10 (fun _ σ_13 => X3 (w32 (v4 + 1)) σ_13) E) E) E else Q 0 σ)) (kQ : ∀ r s, Fr wX_matchBag σ0 s → Q r s → Q2 r s) (kE : ∀ s, Fr wX_matchBag σ0 s → E s → E2 s) (kX3 : ∀ v4 s, Fr wX_matchBag σ0 s → X3 v4 s → X32 v4 s) : inb v2 200000 ∧ (if v4 < bShl 1 (gA σ 68 v2) then x_some v2 v3 (bXor v4 (-1)) σ (fun r_6 σ_5 => ∀ σ_8, σ_8 = pI σ_5 126 r_6 → x_some v2 v3 v4 σ_8 (fun r_11 σ_10 => x_matchPart v1 r_11 σ_10 (fun _ σ_13 => X32 (w32 (v4 + 1)) σ_13) E2) E2) E2 else Q2 0 σ) :=
  ⟨h.1, ite_m (fun _ h1 => fm_x_some h1 (fun r_6 σ_5 f h2 => (have f2 : Fr wX_matchBag σ0 σ_5 := (fr.trans (f.weak (by decide +kernel))); fun σ_8 e3 => (have f3 : Fr wX_matchBag σ0 σ_8 := Fr.putI f2 e3 rfl; fm_x_some (h2 σ_8 e3) (fun r_11 σ_10 f h4 => (have f4 : Fr wX_matchBag σ0 σ_10 := (f3.trans (f.weak (by decide +kernel))); fm_x_matchPart h4 (fun _ σ_13 f h5 => (have f5 : Fr wX_matchBag σ0 σ_13 := (f4.trans (f.weak (by decide +kernel))); kX3 _ _ f5 h5)) (fun s f h => kE _ (f4.trans (f.weak (by decide +kernel))) h))) (fun s f h => kE _ (f3.trans (f.weak (by decide +kernel))) h)))) (fun s f h => kE _ (fr.trans (f.weak (by decide +kernel))) h)) (fun _ h1 => kQ _ _ fr h1) h.2⟩
theorem fx_matchBag_L3 {v1 : Int} {v2 : Int} {v3 : Int} {v4 : Int} {σ0 σ : S} {Q Q2 : Int → S → Prop} {E E2 : S → Prop} (fr : Fr wX_matchBag σ0 σ) (h : x_matchBag_L3 v1 v2 v3 v4 σ Q E) (kQ : ∀ r s, Fr wX_matchBag σ0 s → Q r s → Q2 r s) (kE : ∀ s, Fr wX_matchBag σ0 s → E s → E2 s) : x_matchBag_L3 v1 v2 v3 v4 σ Q2 E2 := by
  unfold x_matchBag_L3 at h ⊢
  intro Y hY
  exact h (fun v4 s => Fr wX_matchBag σ0 s → Y v4 s) (fun v4 s h f => hY v4 s (fx_matchBag_L3_b (v1 := v1) (v2 := v2) (v3 := v3) (v4 := v4) (Q := Q) (Q2 := Q2) (E := E) (E2 := E2) (X3 := fun v4 s => Fr wX_matchBag σ0 s → Y v4 s) (X32 := Y) f h kQ kE (fun v4 s f h => h f))) fr
theorem lx_matchBag_L3 {v1 : Int} {v2 : Int} {v3 : Int} {v4 : Int} {σ0 : S} {Q : Int → S → Prop} {E : S → Prop} (I : Int → S → Prop) (me : Int → S → Nat) (h0 : I v4 σ0) (step : ∀ (v4 : Int) (s : S), Fr wX_matchBag σ0 s → I v4 s → (fun (Y0 : Int → S → Prop) => inb v2 200000 ∧ (if v4 < bShl 1 (gA s 68 v2) then x_some v2 v3 (bXor v4 (-1)) s (fun r_6 σ_5 => ∀ σ_8, σ_8 = pI σ_5 126 r_6 → x_some v2 v3 v4 σ_8 (fun r_11 σ_10 => x_matchPart v1 r_11 σ_10 (fun _ σ_13 => Y0 (w32 (v4 + 1)) σ_13) E) E) E else Q 0 s)) (fun v4' s' => I v4' s' ∧ me v4' s' < me v4 s)) : x_matchBag_L3 v1 v2 v3 v4 σ0 Q E := by
  unfold x_matchBag_L3
  intro Y hY
  have key : ∀ (n : Nat) (v4 : Int) (s : S), me v4 s < n → Fr wX_matchBag σ0 s → I v4 s → Y v4 s := by
    intro n
    induction n with
    | zero => intro v4 s h; exact absurd h (Nat.not_lt_zero _)
    | succ n ih =>
      intro v4 s hm fr hi
      exact hY v4 s (fx_matchBag_L3_b (v1 := v1) (v2 := v2) (v3 := v3) (v4 := v4) (Q := Q) (Q2 := Q) (E := E) (E2 := E) (X3 := (fun v4' s' => I v4' s' ∧ me v4' s' < me v4 s)) (X32 := Y) fr (step v4 s fr hi) (fun _ _ _ h => h) (fun _ _ h => h) (fun v4 s f h => ih v4 s (by omega) f h.1))
  exact key _ v4 σ0 (Nat.lt_succ_self _) Fr.rf h0
theorem fm_x_matchBag {v1 : Int} {v2 : Int} {v3 : Int} {σ0 : S} {Q Q2 : Int → S → Prop} {E E2 : S → Prop} (h : x_matchBag v1 v2 v3 σ0 Q E) (kQ : ∀ r s, Fr wX_matchBag σ0 s → Q r s → Q2 r s) (kE : ∀ s, Fr wX_matchBag σ0 s → E s → E2 s) : x_matchBag v1 v2 v3 σ0 Q2 E2 := by
  have fr : Fr wX_matchBag σ0 σ0 := Fr.rf
  unfold x_matchBag at h ⊢
  exact fx_matchBag_L3 fr h kQ kE
theorem fm_x_span {v1 : Int} {v2 : Int} {v3 : Int} {v4 : Int} {σ0 : S} {Q Q2 : Int → S → Prop} {E E2 : S → Prop} (h : x_span v1 v2 v3 v4 σ0 Q E) (kQ : ∀ r s, Fr wX_span σ0 s → Q r s → Q2 r s) (kE : ∀ s, Fr wX_span σ0 s → E s → E2 s) : x_span v1 v2 v3 v4 σ0 Q2 E2 := by
  have fr : Fr wX_span σ0 σ0 := Fr.rf
  unfold x_span at h ⊢
  exact fm_x_some h (fun r_2 σ_1 f h0 => (have f0 : Fr wX_span σ0 σ_1 := (fr.trans (f.weak (by decide +kernel))); kQ _ _ f0 h0)) (fun s f h => kE _ (fr.trans (f.weak (by decide +kernel))) h)
theorem fx_matchRow_j83 {v1 : Int} {v2 : Int} {v3 : Int} {v4 : Int} {σ0 σ : S} {Q Q2 : Int → S → Prop} {E E2 : S → Prop} {X3 X32 : Int → S → Prop} (fr : Fr wX_matchRow σ0 σ) (h : x_matchRow_j83 v1 v2 v3 v4 σ Q E X3) (kQ : ∀ r s, Fr wX_matchRow σ0 s → Q r s → Q2 r s) (kE : ∀ s, Fr wX_matchRow σ0 s → E s → E2 s) (kX3 : ∀ a0 s, Fr wX_matchRow σ0 s → X3 a0 s → X32 a0 s) : x_matchRow_j83 v1 v2 v3 v4 σ Q2 E2 X32 := by
  unfold x_matchRow_j83 at h ⊢
  exact kX3 _ _ fr h
theorem fx_matchRow_L20_b {v1 : Int} {v2 : Int} {v3 : Int} {v4 : Int} {v5 : Int} {σ0 σ : S} {Q Q2 : Int → S → Prop} {E E2 : S → Prop} {X3 X32 : Int → S → Prop} {X20 X202 : Int → S → Prop} (fr : Fr wX_matchRow σ0 σ) (h : inb v2 200000 ∧ (if v5 ≤ gA σ 68 v2 then x_span v2 v3 0 v4 σ (fun r_10 σ_9 => ∀ σ_12, σ_12 = pI σ_9 125 r_10 → inb v2 200000 ∧ x_span v2 v3 v5 (gA σ_12 68 v2) σ_12 (fun r_17 σ_16 => ∀ σ_19, σ_19 = pI σ_16 126 r_17 → x_span v2 v3 v4 v5 σ_19 (fun r_22 σ_21 => x_matchPart v1 r_22 σ_21 (fun _ σ_24 => X20 (w32 (v5 + 1)) σ_24) E) E) E) E else x_matchRow_j83 v1 v2 v3 v4 σ Q E X3)) (kQ : ∀ r s, Fr wX_matchRow σ0 s → Q r s → Q2 r s) (kE : ∀ s, Fr wX_matchRow σ0 s → E s → E2 s) (kX3 : ∀ a0 s, Fr wX_matchRow σ0 s → X3 a0 s → X32 a0 s) (kX20 : ∀ v5 s, Fr wX_matchRow σ0 s → X20 v5 s → X202 v5 s) : inb v2 200000 ∧ (if v5 ≤ gA σ 68 v2 then x_span v2 v3 0 v4 σ (fun r_10 σ_9 => ∀ σ_12, σ_12 = pI σ_9 125 r_10 → inb v2 200000 ∧ x_span v2 v3 v5 (gA σ_12 68 v2) σ_12 (fun r_17 σ_16 => ∀ σ_19, σ_19 = pI σ_16 126 r_17 → x_span v2 v3 v4 v5 σ_19 (fun r_22 σ_21 => x_matchPart v1 r_22 σ_21 (fun _ σ_24 => X202 (w32 (v5 + 1)) σ_24) E2) E2) E2) E2 else x_matchRow_j83 v1 v2 v3 v4 σ Q2 E2 X32) :=
  ⟨h.1, ite_m (fun _ h1 => fm_x_span h1 (fun r_10 σ_9 f h2 => (have f2 : Fr wX_matchRow σ0 σ_9 := (fr.trans (f.weak (by decide +kernel))); fun σ_12 e3 => (have f3 : Fr wX_matchRow σ0 σ_12 := Fr.putI f2 e3 rfl; ⟨(h2 σ_12 e3).1, fm_x_span (h2 σ_12 e3).2 (fun r_17 σ_16 f h5 => (have f5 : Fr wX_matchRow σ0 σ_16 := (f3.trans (f.weak (by decide +kernel))); fun σ_19 e6 => (have f6 : Fr wX_matchRow σ0 σ_19 := Fr.putI f5 e6 rfl; fm_x_span (h5 σ_19 e6) (fun r_22 σ_21 f h7 => (have f7 : Fr wX_matchRow σ0 σ_21 := (f6.trans (f.weak (by decide +kernel))); fm_x_matchPart h7 (fun _ σ_24 f h8 => (have f8 : Fr wX_matchRow σ0 σ_24 := (f7.trans (f.weak (by decide +kernel))); kX20 _ _ f8 h8)) (fun s f h => kE _ (f7.trans (f.weak (by decide +kernel))) h))) (fun s f h => kE _ (f6.trans (f.weak (by decide +kernel))) h)))) (fun s f h => kE _ (f3.trans (f.weak (by decide +kernel))) h)⟩))) (fun s f h => kE _ (fr.trans (f.weak (by decide +kernel))) h)) (fun _ h1 => fx_matchRow_j83 fr h1 kQ kE kX3) h.2⟩
theorem fx_matchRow_L20 {v1 : Int} {v2 : Int} {v3 : Int} {v4 : Int} {v5 : Int} {σ0 σ : S} {Q Q2 : Int → S → Prop} {E E2 : S → Prop} {X3 X32 : Int → S → Prop} (fr : Fr wX_matchRow σ0 σ) (h : x_matchRow_L20 v1 v2 v3 v4 v5 σ Q E X3) (kQ : ∀ r s, Fr wX_matchRow σ0 s → Q r s → Q2 r s) (kE : ∀ s, Fr wX_matchRow σ0 s → E s → E2 s) (kX3 : ∀ a0 s, Fr wX_matchRow σ0 s → X3 a0 s → X32 a0 s) : x_matchRow_L20 v1 v2 v3 v4 v5 σ Q2 E2 X32 := by
  unfold x_matchRow_L20 at h ⊢
  intro Y hY
  exact h (fun v5 s => Fr wX_matchRow σ0 s → Y v5 s) (fun v5 s h f => hY v5 s (fx_matchRow_L20_b (v1 := v1) (v2 := v2) (v3 := v3) (v4 := v4) (v5 := v5) (Q := Q) (Q2 := Q2) (E := E) (E2 := E2) (X3 := X3) (X32 := X32) (X20 := fun v5 s => Fr wX_matchRow σ0 s → Y v5 s) (X202 := Y) f h kQ kE kX3 (fun v5 s f h => h f))) fr
theorem lx_matchRow_L20 {v1 : Int} {v2 : Int} {v3 : Int} {v4 : Int} {v5 : Int} {σ0 : S} {Q : Int → S → Prop} {E : S → Prop} {X3 : Int → S → Prop} (I : Int → S → Prop) (me : Int → S → Nat) (h0 : I v5 σ0) (step : ∀ (v5 : Int) (s : S), Fr wX_matchRow σ0 s → I v5 s → (fun (Y0 : Int → S → Prop) => inb v2 200000 ∧ (if v5 ≤ gA s 68 v2 then x_span v2 v3 0 v4 s (fun r_10 σ_9 => ∀ σ_12, σ_12 = pI σ_9 125 r_10 → inb v2 200000 ∧ x_span v2 v3 v5 (gA σ_12 68 v2) σ_12 (fun r_17 σ_16 => ∀ σ_19, σ_19 = pI σ_16 126 r_17 → x_span v2 v3 v4 v5 σ_19 (fun r_22 σ_21 => x_matchPart v1 r_22 σ_21 (fun _ σ_24 => Y0 (w32 (v5 + 1)) σ_24) E) E) E) E else x_matchRow_j83 v1 v2 v3 v4 s Q E X3)) (fun v5' s' => I v5' s' ∧ me v5' s' < me v5 s)) : x_matchRow_L20 v1 v2 v3 v4 v5 σ0 Q E X3 := by
  unfold x_matchRow_L20
  intro Y hY
  have key : ∀ (n : Nat) (v5 : Int) (s : S), me v5 s < n → Fr wX_matchRow σ0 s → I v5 s → Y v5 s := by
    intro n
    induction n with
    | zero => intro v5 s h; exact absurd h (Nat.not_lt_zero _)
    | succ n ih =>
      intro v5 s hm fr hi
      exact hY v5 s (fx_matchRow_L20_b (v1 := v1) (v2 := v2) (v3 := v3) (v4 := v4) (v5 := v5) (Q := Q) (Q2 := Q) (E := E) (E2 := E) (X3 := X3) (X32 := X3) (X20 := (fun v5' s' => I v5' s' ∧ me v5' s' < me v5 s)) (X202 := Y) fr (step v5 s fr hi) (fun _ _ _ h => h) (fun _ _ h => h) (fun _ _ _ h => h) (fun v5 s f h => ih v5 s (by omega) f h.1))
  exact key _ v5 σ0 (Nat.lt_succ_self _) Fr.rf h0
theorem fx_matchRow_L3_b {v1 : Int} {v2 : Int} {v3 : Int} {v4 : Int} {σ0 σ : S} {Q Q2 : Int → S → Prop} {E E2 : S → Prop} {X3 X32 : Int → S → Prop} (fr : Fr wX_matchRow σ0 σ) (h : inb v2 200000 ∧ (if v4 < gA σ 68 v2 then x_matchRow_L20 v1 v2 v3 v4 (w32 (v4 + 1)) σ Q E X3 else Q 0 σ)) (kQ : ∀ r s, Fr wX_matchRow σ0 s → Q r s → Q2 r s) (kE : ∀ s, Fr wX_matchRow σ0 s → E s → E2 s) (kX3 : ∀ v4 s, Fr wX_matchRow σ0 s → X3 v4 s → X32 v4 s) : inb v2 200000 ∧ (if v4 < gA σ 68 v2 then x_matchRow_L20 v1 v2 v3 v4 (w32 (v4 + 1)) σ Q2 E2 X32 else Q2 0 σ) :=
  ⟨h.1, ite_m (fun _ h1 => fx_matchRow_L20 fr h1 kQ kE kX3) (fun _ h1 => kQ _ _ fr h1) h.2⟩
theorem fx_matchRow_L3 {v1 : Int} {v2 : Int} {v3 : Int} {v4 : Int} {σ0 σ : S} {Q Q2 : Int → S → Prop} {E E2 : S → Prop} (fr : Fr wX_matchRow σ0 σ) (h : x_matchRow_L3 v1 v2 v3 v4 σ Q E) (kQ : ∀ r s, Fr wX_matchRow σ0 s → Q r s → Q2 r s) (kE : ∀ s, Fr wX_matchRow σ0 s → E s → E2 s) : x_matchRow_L3 v1 v2 v3 v4 σ Q2 E2 := by
  unfold x_matchRow_L3 at h ⊢
  intro Y hY
  exact h (fun v4 s => Fr wX_matchRow σ0 s → Y v4 s) (fun v4 s h f => hY v4 s (fx_matchRow_L3_b (v1 := v1) (v2 := v2) (v3 := v3) (v4 := v4) (Q := Q) (Q2 := Q2) (E := E) (E2 := E2) (X3 := fun v4 s => Fr wX_matchRow σ0 s → Y v4 s) (X32 := Y) f h kQ kE (fun v4 s f h => h f))) fr
theorem lx_matchRow_L3 {v1 : Int} {v2 : Int} {v3 : Int} {v4 : Int} {σ0 : S} {Q : Int → S → Prop} {E : S → Prop} (I : Int → S → Prop) (me : Int → S → Nat) (h0 : I v4 σ0) (step : ∀ (v4 : Int) (s : S), Fr wX_matchRow σ0 s → I v4 s → (fun (Y0 : Int → S → Prop) => inb v2 200000 ∧ (if v4 < gA s 68 v2 then x_matchRow_L20 v1 v2 v3 v4 (w32 (v4 + 1)) s Q E Y0 else Q 0 s)) (fun v4' s' => I v4' s' ∧ me v4' s' < me v4 s)) : x_matchRow_L3 v1 v2 v3 v4 σ0 Q E := by
  unfold x_matchRow_L3
  intro Y hY
  have key : ∀ (n : Nat) (v4 : Int) (s : S), me v4 s < n → Fr wX_matchRow σ0 s → I v4 s → Y v4 s := by
    intro n
    induction n with
    | zero => intro v4 s h; exact absurd h (Nat.not_lt_zero _)
    | succ n ih =>
      intro v4 s hm fr hi
      exact hY v4 s (fx_matchRow_L3_b (v1 := v1) (v2 := v2) (v3 := v3) (v4 := v4) (Q := Q) (Q2 := Q) (E := E) (E2 := E) (X3 := (fun v4' s' => I v4' s' ∧ me v4' s' < me v4 s)) (X32 := Y) fr (step v4 s fr hi) (fun _ _ _ h => h) (fun _ _ h => h) (fun v4 s f h => ih v4 s (by omega) f h.1))
  exact key _ v4 σ0 (Nat.lt_succ_self _) Fr.rf h0
theorem fm_x_matchRow {v1 : Int} {v2 : Int} {v3 : Int} {σ0 : S} {Q Q2 : Int → S → Prop} {E E2 : S → Prop} (h : x_matchRow v1 v2 v3 σ0 Q E) (kQ : ∀ r s, Fr wX_matchRow σ0 s → Q r s → Q2 r s) (kE : ∀ s, Fr wX_matchRow σ0 s → E s → E2 s) : x_matchRow v1 v2 v3 σ0 Q2 E2 := by
  have fr : Fr wX_matchRow σ0 σ0 := Fr.rf
  unfold x_matchRow at h ⊢
  exact fx_matchRow_L3 fr h kQ kE
theorem fx_matchers_j160 {σ0 σ : S} {Q Q2 : Int → S → Prop} {E E2 : S → Prop} (fr : Fr wX_matchers σ0 σ) (h : x_matchers_j160  σ Q E) (kQ : ∀ r s, Fr wX_matchers σ0 s → Q r s → Q2 r s) (kE : ∀ s, Fr wX_matchers σ0 s → E s → E2 s) : x_matchers_j160  σ Q2 E2 := by
  unfold x_matchers_j160 at h ⊢
  exact fun σ_31 e0 => (have f0 : Fr wX_matchers σ0 σ_31 := Fr.putI fr e0 rfl; fun σ_35 e1 => (have f1 : Fr wX_matchers σ0 σ_35 := Fr.putI f0 e1 rfl; ite_m (fun _ h2 => kQ _ _ f1 h2) (fun _ h2 => fm_x_stop h2 (fun _ σ_41 f h3 => (have f3 : Fr wX_matchers σ0 σ_41 := (f1.trans (f.weak (by decide +kernel))); kE _ f3 h3))) ((h σ_31 e0) σ_35 e1)))
theorem fx_matchers_j150 {v1 : Int} {v2 : Int} {σ0 σ : S} {Q Q2 : Int → S → Prop} {E E2 : S → Prop} (fr : Fr wX_matchers σ0 σ) (h : x_matchers_j150 v1 v2 σ Q E) (kQ : ∀ r s, Fr wX_matchers σ0 s → Q r s → Q2 r s) (kE : ∀ s, Fr wX_matchers σ0 s → E s → E2 s) : x_matchers_j150 v1 v2 σ Q2 E2 := by
  unfold x_matchers_j150 at h ⊢
  exact fm_x_goal h (fun _ σ_28 f h0 => (have f0 : Fr wX_matchers σ0 σ_28 := (fr.trans (f.weak (by decide +kernel))); fm_x_solve h0 (fun _ σ_29 f h1 => (have f1 : Fr wX_matchers σ0 σ_29 := (f0.trans (f.weak (by decide +kernel))); fx_matchers_j160 f1 h1 kQ kE)) (fun s f h => kE _ (f0.trans (f.weak (by decide +kernel))) h)))
theorem fm_x_matchers {v1 : Int} {v2 : Int} {v3 : Int} {σ0 : S} {Q Q2 : Int → S → Prop} {E E2 : S → Prop} (h : x_matchers v1 v2 v3 σ0 Q E) (kQ : ∀ r s, Fr wX_matchers σ0 s → Q r s → Q2 r s) (kE : ∀ s, Fr wX_matchers σ0 s → E s → E2 s) : x_matchers v1 v2 v3 σ0 Q2 E2 := by
  have fr : Fr wX_matchers σ0 σ0 := Fr.rf
  unfold x_matchers at h ⊢
  exact fm_x_isWide h (fun r_2 σ_1 f h0 => (have f0 : Fr wX_matchers σ0 σ_1 := (fr.trans (f.weak (by decide +kernel))); ite_m (fun _ h1 => fm_x_deals h1 (fun r_7 σ_6 f h2 => (have f2 : Fr wX_matchers σ0 σ_6 := (f0.trans (f.weak (by decide +kernel))); fun σ_8 e3 => (have f3 : Fr wX_matchers σ0 σ_8 := Fr.putL f2 e3 rfl; ite_m (fun _ h4 => fun σ_14 e5 => (have f5 : Fr wX_matchers σ0 σ_14 := Fr.putI f3 e5 rfl; fun σ_16 e6 => (have f6 : Fr wX_matchers σ0 σ_16 := Fr.putI f5 e6 rfl; fun σ_18 e7 => (have f7 : Fr wX_matchers σ0 σ_18 := Fr.putI f6 e7 rfl; fun σ_20 e8 => (have f8 : Fr wX_matchers σ0 σ_20 := Fr.putI f7 e8 rfl; ⟨((((h4 σ_14 e5) σ_16 e6) σ_18 e7) σ_20 e8).1, fun σ_24 e10 => (have f10 : Fr wX_matchers σ0 σ_24 := Fr.putI f8 e10 rfl; ite_m (fun _ h11 => fx_matchers_j150 f10 h11 kQ kE) (fun _ h11 => ite_m (fun _ h12 => fx_matchers_j150 f10 h12 kQ kE) (fun _ h12 => ⟨h12.1, ite_m (fun _ h14 => fx_matchers_j150 f10 h14 kQ kE) (fun _ h14 => ⟨h14.1, ite_m (fun _ h16 => ⟨h16.1, ite_m (fun _ h18 => fm_x_matchRow h18 (fun _ σ_56 f h19 => (have f19 : Fr wX_matchers σ0 σ_56 := (f10.trans (f.weak (by decide +kernel))); fx_matchers_j160 f19 h19 kQ kE)) (fun s f h => kE _ (f10.trans (f.weak (by decide +kernel))) h)) (fun _ h18 => fm_x_matchBag h18 (fun _ σ_58 f h19 => (have f19 : Fr wX_matchers σ0 σ_58 := (f10.trans (f.weak (by decide +kernel))); fx_matchers_j160 f19 h19 kQ kE)) (fun s f h => kE _ (f10.trans (f.weak (by decide +kernel))) h)) h16.2⟩) (fun _ h16 => fx_matchers_j150 f10 h16 kQ kE) h14.2⟩) h12.2⟩) h11) (((((h4 σ_14 e5) σ_16 e6) σ_18 e7) σ_20 e8).2 σ_24 e10))⟩))))) (fun _ h4 => fm_x_stop h4 (fun _ σ_60 f h5 => (have f5 : Fr wX_matchers σ0 σ_60 := (f3.trans (f.weak (by decide +kernel))); kE _ f5 h5))) (h2 σ_8 e3))))) (fun _ h1 => fm_x_stop h1 (fun _ σ_61 f h2 => (have f2 : Fr wX_matchers σ0 σ_61 := (f0.trans (f.weak (by decide +kernel))); kE _ f2 h2))) h0))
theorem fx_takeRow_L2_b {v1 : Int} {v2 : Int} {σ0 σ : S} {Q Q2 : Int → S → Prop} {X2 X22 : Int → S → Prop} (fr : Fr wX_takeRow σ0 σ) (h : (if v2 < 60 then inb (w32 (w32 (62 * v1) + v2)) 409200 ∧ inb v2 60 ∧ ∀ σ_5, σ_5 = pA σ 83 v2 (gA σ 86 (w32 (w32 (62 * v1) + v2))) → X2 (w32 (v2 + 1)) σ_5 else Q 0 σ)) (kQ : ∀ r s, Fr wX_takeRow σ0 s → Q r s → Q2 r s) (kX2 : ∀ v2 s, Fr wX_takeRow σ0 s → X2 v2 s → X22 v2 s) : (if v2 < 60 then inb (w32 (w32 (62 * v1) + v2)) 409200 ∧ inb v2 60 ∧ ∀ σ_5, σ_5 = pA σ 83 v2 (gA σ 86 (w32 (w32 (62 * v1) + v2))) → X22 (w32 (v2 + 1)) σ_5 else Q2 0 σ) :=
  ite_m (fun _ h0 => ⟨h0.1, ⟨h0.2.1, fun σ_5 e3 => (have f3 : Fr wX_takeRow σ0 σ_5 := Fr.putA fr e3 rfl; kX2 _ _ f3 (h0.2.2 σ_5 e3))⟩⟩) (fun _ h0 => kQ _ _ fr h0) h
theorem fx_takeRow_L2 {v1 : Int} {v2 : Int} {σ0 σ : S} {Q Q2 : Int → S → Prop} (fr : Fr wX_takeRow σ0 σ) (h : x_takeRow_L2 v1 v2 σ Q) (kQ : ∀ r s, Fr wX_takeRow σ0 s → Q r s → Q2 r s) : x_takeRow_L2 v1 v2 σ Q2 := by
  unfold x_takeRow_L2 at h ⊢
  intro Y hY
  exact h (fun v2 s => Fr wX_takeRow σ0 s → Y v2 s) (fun v2 s h f => hY v2 s (fx_takeRow_L2_b (v1 := v1) (v2 := v2) (Q := Q) (Q2 := Q2) (X2 := fun v2 s => Fr wX_takeRow σ0 s → Y v2 s) (X22 := Y) f h kQ (fun v2 s f h => h f))) fr
theorem lx_takeRow_L2 {v1 : Int} {v2 : Int} {σ0 : S} {Q : Int → S → Prop} (I : Int → S → Prop) (me : Int → S → Nat) (h0 : I v2 σ0) (step : ∀ (v2 : Int) (s : S), Fr wX_takeRow σ0 s → I v2 s → (fun (Y0 : Int → S → Prop) => (if v2 < 60 then inb (w32 (w32 (62 * v1) + v2)) 409200 ∧ inb v2 60 ∧ ∀ σ_5, σ_5 = pA s 83 v2 (gA s 86 (w32 (w32 (62 * v1) + v2))) → Y0 (w32 (v2 + 1)) σ_5 else Q 0 s)) (fun v2' s' => I v2' s' ∧ me v2' s' < me v2 s)) : x_takeRow_L2 v1 v2 σ0 Q := by
  unfold x_takeRow_L2
  intro Y hY
  have key : ∀ (n : Nat) (v2 : Int) (s : S), me v2 s < n → Fr wX_takeRow σ0 s → I v2 s → Y v2 s := by
    intro n
    induction n with
    | zero => intro v2 s h; exact absurd h (Nat.not_lt_zero _)
    | succ n ih =>
      intro v2 s hm fr hi
      exact hY v2 s (fx_takeRow_L2_b (v1 := v1) (v2 := v2) (Q := Q) (Q2 := Q) (X2 := (fun v2' s' => I v2' s' ∧ me v2' s' < me v2 s)) (X22 := Y) fr (step v2 s fr hi) (fun _ _ _ h => h) (fun v2 s f h => ih v2 s (by omega) f h.1))
  exact key _ v2 σ0 (Nat.lt_succ_self _) Fr.rf h0
theorem fm_x_takeRow {v1 : Int} {σ0 : S} {Q Q2 : Int → S → Prop} (h : x_takeRow v1 σ0 Q) (kQ : ∀ r s, Fr wX_takeRow σ0 s → Q r s → Q2 r s) : x_takeRow v1 σ0 Q2 := by
  have fr : Fr wX_takeRow σ0 σ0 := Fr.rf
  unfold x_takeRow at h ⊢
  exact fx_takeRow_L2 fr h kQ
theorem fx_unbind_L2_b {v1 : Int} {σ0 σ : S} {Q Q2 : Int → S → Prop} {X2 X22 : Int → S → Prop} (fr : Fr wX_unbind σ0 σ) (h : (if v1 < 60 then inb v1 60 ∧ ∀ σ_3, σ_3 = pA σ 83 v1 0 → X2 (w32 (v1 + 1)) σ_3 else Q 0 σ)) (kQ : ∀ r s, Fr wX_unbind σ0 s → Q r s → Q2 r s) (kX2 : ∀ v1 s, Fr wX_unbind σ0 s → X2 v1 s → X22 v1 s) : (if v1 < 60 then inb v1 60 ∧ ∀ σ_3, σ_3 = pA σ 83 v1 0 → X22 (w32 (v1 + 1)) σ_3 else Q2 0 σ) :=
  ite_m (fun _ h0 => ⟨h0.1, fun σ_3 e2 => (have f2 : Fr wX_unbind σ0 σ_3 := Fr.putA fr e2 rfl; kX2 _ _ f2 (h0.2 σ_3 e2))⟩) (fun _ h0 => kQ _ _ fr h0) h
theorem fx_unbind_L2 {v1 : Int} {σ0 σ : S} {Q Q2 : Int → S → Prop} (fr : Fr wX_unbind σ0 σ) (h : x_unbind_L2 v1 σ Q) (kQ : ∀ r s, Fr wX_unbind σ0 s → Q r s → Q2 r s) : x_unbind_L2 v1 σ Q2 := by
  unfold x_unbind_L2 at h ⊢
  intro Y hY
  exact h (fun v1 s => Fr wX_unbind σ0 s → Y v1 s) (fun v1 s h f => hY v1 s (fx_unbind_L2_b (v1 := v1) (Q := Q) (Q2 := Q2) (X2 := fun v1 s => Fr wX_unbind σ0 s → Y v1 s) (X22 := Y) f h kQ (fun v1 s f h => h f))) fr
theorem lx_unbind_L2 {v1 : Int} {σ0 : S} {Q : Int → S → Prop} (I : Int → S → Prop) (me : Int → S → Nat) (h0 : I v1 σ0) (step : ∀ (v1 : Int) (s : S), Fr wX_unbind σ0 s → I v1 s → (fun (Y0 : Int → S → Prop) => (if v1 < 60 then inb v1 60 ∧ ∀ σ_3, σ_3 = pA s 83 v1 0 → Y0 (w32 (v1 + 1)) σ_3 else Q 0 s)) (fun v1' s' => I v1' s' ∧ me v1' s' < me v1 s)) : x_unbind_L2 v1 σ0 Q := by
  unfold x_unbind_L2
  intro Y hY
  have key : ∀ (n : Nat) (v1 : Int) (s : S), me v1 s < n → Fr wX_unbind σ0 s → I v1 s → Y v1 s := by
    intro n
    induction n with
    | zero => intro v1 s h; exact absurd h (Nat.not_lt_zero _)
    | succ n ih =>
      intro v1 s hm fr hi
      exact hY v1 s (fx_unbind_L2_b (v1 := v1) (Q := Q) (Q2 := Q) (X2 := (fun v1' s' => I v1' s' ∧ me v1' s' < me v1 s)) (X22 := Y) fr (step v1 s fr hi) (fun _ _ _ h => h) (fun v1 s f h => ih v1 s (by omega) f h.1))
  exact key _ v1 σ0 (Nat.lt_succ_self _) Fr.rf h0
theorem fm_x_unbind {σ0 : S} {Q Q2 : Int → S → Prop} (h : x_unbind  σ0 Q) (kQ : ∀ r s, Fr wX_unbind σ0 s → Q r s → Q2 r s) : x_unbind  σ0 Q2 := by
  have fr : Fr wX_unbind σ0 σ0 := Fr.rf
  unfold x_unbind at h ⊢
  exact fx_unbind_L2 fr h kQ
theorem fx_filled_j64 {v1 : Int} {v2 : Int} {σ0 σ : S} {Q Q2 : Int → S → Prop} {E E2 : S → Prop} {G : Orc} (hG : FrO wX_filled G) (fr : Fr wX_filled σ0 σ) (h : x_filled_j64 G v1 v2 σ Q E) (kQ : ∀ r s, Fr wX_filled σ0 s → Q r s → Q2 r s) (kE : ∀ s, Fr wX_filled σ0 s → E s → E2 s) : x_filled_j64 G v1 v2 σ Q2 E2 := by
  unfold x_filled_j64 at h ⊢
  exact ⟨h.1, ite_m (fun _ h1 => kQ _ _ fr h1) (fun _ h1 => ⟨h1.1, fm_x_make h1.2 (fun r_17 σ_16 f h3 => (have f3 : Fr wX_filled σ0 σ_16 := (fr.trans (f.weak (by decide +kernel))); kQ _ _ f3 h3)) (fun s f h => kE _ (fr.trans (f.weak (by decide +kernel))) h)⟩) h.2⟩
theorem fx_filled_L30_b {v1 : Int} {v2 : Int} {v3 : Int} {σ0 σ : S} {Q Q2 : Int → S → Prop} {E E2 : S → Prop} {X30 X302 : Int → S → Prop} {G : Orc} (hG : FrO wX_filled G) (fr : Fr wX_filled σ0 σ) (h : inb v1 200000 ∧ (if v3 < gA σ 68 v1 then x_at v1 v3 σ (fun r_20 σ_19 => G 0 [r_20] σ_19 (fun r_22 σ_21 => x_push r_22 σ_21 (fun _ σ_24 => X30 (w32 (v3 + 1)) σ_24)) E) else x_filled_j64 G v1 v2 σ Q E)) (kQ : ∀ r s, Fr wX_filled σ0 s → Q r s → Q2 r s) (kE : ∀ s, Fr wX_filled σ0 s → E s → E2 s) (kX30 : ∀ v3 s, Fr wX_filled σ0 s → X30 v3 s → X302 v3 s) : inb v1 200000 ∧ (if v3 < gA σ 68 v1 then x_at v1 v3 σ (fun r_20 σ_19 => G 0 [r_20] σ_19 (fun r_22 σ_21 => x_push r_22 σ_21 (fun _ σ_24 => X302 (w32 (v3 + 1)) σ_24)) E2) else x_filled_j64 G v1 v2 σ Q2 E2) :=
  ⟨h.1, ite_m (fun _ h1 => fm_x_at h1 (fun r_20 σ_19 f h2 => (have f2 : Fr wX_filled σ0 σ_19 := (fr.trans (f.weak (by decide +kernel))); hG _ _ _ _ _ _ _ h2 (fun r_22 σ_21 f h3 => (have f3 : Fr wX_filled σ0 σ_21 := (f2.trans f); fm_x_push h3 (fun _ σ_24 f h4 => (have f4 : Fr wX_filled σ0 σ_24 := (f3.trans (f.weak (by decide +kernel))); kX30 _ _ f4 h4)))) (fun s f h => kE _ (f2.trans f) h)))) (fun _ h1 => fx_filled_j64 hG fr h1 kQ kE) h.2⟩
theorem fx_filled_L30 {v1 : Int} {v2 : Int} {v3 : Int} {σ0 σ : S} {Q Q2 : Int → S → Prop} {E E2 : S → Prop} {G : Orc} (hG : FrO wX_filled G) (fr : Fr wX_filled σ0 σ) (h : x_filled_L30 G v1 v2 v3 σ Q E) (kQ : ∀ r s, Fr wX_filled σ0 s → Q r s → Q2 r s) (kE : ∀ s, Fr wX_filled σ0 s → E s → E2 s) : x_filled_L30 G v1 v2 v3 σ Q2 E2 := by
  unfold x_filled_L30 at h ⊢
  intro Y hY
  exact h (fun v3 s => Fr wX_filled σ0 s → Y v3 s) (fun v3 s h f => hY v3 s (fx_filled_L30_b (v1 := v1) (v2 := v2) (v3 := v3) (Q := Q) (Q2 := Q2) (E := E) (E2 := E2) (X30 := fun v3 s => Fr wX_filled σ0 s → Y v3 s) (X302 := Y) hG f h kQ kE (fun v3 s f h => h f))) fr
theorem lx_filled_L30 {v1 : Int} {v2 : Int} {v3 : Int} {σ0 : S} {Q : Int → S → Prop} {E : S → Prop} {G : Orc} (hG : FrO wX_filled G) (I : Int → S → Prop) (me : Int → S → Nat) (h0 : I v3 σ0) (step : ∀ (v3 : Int) (s : S), Fr wX_filled σ0 s → I v3 s → (fun (Y0 : Int → S → Prop) => inb v1 200000 ∧ (if v3 < gA s 68 v1 then x_at v1 v3 s (fun r_20 σ_19 => G 0 [r_20] σ_19 (fun r_22 σ_21 => x_push r_22 σ_21 (fun _ σ_24 => Y0 (w32 (v3 + 1)) σ_24)) E) else x_filled_j64 G v1 v2 s Q E)) (fun v3' s' => I v3' s' ∧ me v3' s' < me v3 s)) : x_filled_L30 G v1 v2 v3 σ0 Q E := by
  unfold x_filled_L30
  intro Y hY
  have key : ∀ (n : Nat) (v3 : Int) (s : S), me v3 s < n → Fr wX_filled σ0 s → I v3 s → Y v3 s := by
    intro n
    induction n with
    | zero => intro v3 s h; exact absurd h (Nat.not_lt_zero _)
    | succ n ih =>
      intro v3 s hm fr hi
      exact hY v3 s (fx_filled_L30_b (v1 := v1) (v2 := v2) (v3 := v3) (Q := Q) (Q2 := Q) (E := E) (E2 := E) (X30 := (fun v3' s' => I v3' s' ∧ me v3' s' < me v3 s)) (X302 := Y) hG fr (step v3 s fr hi) (fun _ _ _ h => h) (fun _ _ h => h) (fun v3 s f h => ih v3 s (by omega) f h.1))
  exact key _ v3 σ0 (Nat.lt_succ_self _) Fr.rf h0
theorem fx_filled_F {v1 : Int} {σ0 : S} {Q Q2 : Int → S → Prop} {E E2 : S → Prop} {G : Orc} (hG : FrO wX_filled G) (h : x_filled_F G v1 σ0 Q E) (kQ : ∀ r s, Fr wX_filled σ0 s → Q r s → Q2 r s) (kE : ∀ s, Fr wX_filled σ0 s → E s → E2 s) : x_filled_F G v1 σ0 Q2 E2 := by
  have fr : Fr wX_filled σ0 σ0 := Fr.rf
  unfold x_filled_F at h ⊢
  exact ⟨h.1, ite_m (fun _ h1 => ⟨h1.1, ⟨h1.2.1, kQ _ _ fr h1.2.2⟩⟩) (fun _ h1 => fx_filled_L30 hG fr h1 kQ kE) h.2⟩
theorem fo_x_S_filled : ∀ n, FrO wX_filled (x_S_filled n)
  | 0 => fun _ _ _ _ _ _ _ h _ _ => h.elim
  | n + 1 => fun i a σ Q Q2 E E2 h kQ kE => by
    unfold x_S_filled at h ⊢
    split at h
    · exact fx_filled_F (fo_x_S_filled n) h kQ kE
    · exact h.elim
theorem fm_x_filled {v1 : Int} {σ0 : S} {Q Q2 : Int → S → Prop} {E E2 : S → Prop} (h : x_filled v1 σ0 Q E) (kQ : ∀ r s, Fr wX_filled σ0 s → Q r s → Q2 r s) (kE : ∀ s, Fr wX_filled σ0 s → E s → E2 s) : x_filled v1 σ0 Q2 E2 := fo_x_S_filled 44 _ _ _ _ _ _ _ h kQ kE
theorem fm_x_came {v1 : Int} {σ0 : S} {Q Q2 : Int → S → Prop} (h : x_came v1 σ0 Q) (kQ : ∀ r s, Fr wX_came σ0 s → Q r s → Q2 r s) : x_came v1 σ0 Q2 := by
  have fr : Fr wX_came σ0 σ0 := Fr.rf
  unfold x_came at h ⊢
  exact ⟨h.1, ⟨h.2.1, kQ _ _ fr h.2.2⟩⟩
theorem fm_x_countStep {σ0 : S} {Q Q2 : Int → S → Prop} {E E2 : S → Prop} (h : x_countStep  σ0 Q E) (kQ : ∀ r s, Fr wX_countStep σ0 s → Q r s → Q2 r s) (kE : ∀ s, Fr wX_countStep σ0 s → E s → E2 s) : x_countStep  σ0 Q2 E2 := by
  have fr : Fr wX_countStep σ0 σ0 := Fr.rf
  unfold x_countStep at h ⊢
  exact fun σ_2 e0 => (have f0 : Fr wX_countStep σ0 σ_2 := Fr.putI fr e0 rfl; ite_m (fun _ h1 => kQ _ _ f0 h1) (fun _ h1 => fm_x_stop h1 (fun _ σ_7 f h2 => (have f2 : Fr wX_countStep σ0 σ_7 := (f0.trans (f.weak (by decide +kernel))); kE _ f2 h2))) (h σ_2 e0))
theorem fx_beside_j42 {v1 : Int} {v5 : Int} {σ0 σ : S} {Q Q2 : Int → S → Prop} {E E2 : S → Prop} (fr : Fr wX_beside σ0 σ) (h : x_beside_j42 v1 v5 σ Q E) (kQ : ∀ r s, Fr wX_beside σ0 s → Q r s → Q2 r s) (kE : ∀ s, Fr wX_beside σ0 s → E s → E2 s) : x_beside_j42 v1 v5 σ Q2 E2 := by
  unfold x_beside_j42 at h ⊢
  exact fm_x_make h (fun r_10 σ_9 f h0 => (have f0 : Fr wX_beside σ0 σ_9 := (fr.trans (f.weak (by decide +kernel))); kQ _ _ f0 h0)) (fun s f h => kE _ (fr.trans (f.weak (by decide +kernel))) h)
theorem fx_beside_j26 {v1 : Int} {v3 : Int} {v4 : Int} {v5 : Int} {σ0 σ : S} {Q Q2 : Int → S → Prop} {E E2 : S → Prop} (fr : Fr wX_beside σ0 σ) (h : x_beside_j26 v1 v3 v4 v5 σ Q E) (kQ : ∀ r s, Fr wX_beside σ0 s → Q r s → Q2 r s) (kE : ∀ s, Fr wX_beside σ0 s → E s → E2 s) : x_beside_j26 v1 v3 v4 v5 σ Q2 E2 := by
  unfold x_beside_j26 at h ⊢
  exact fm_x_push h (fun _ σ_6 f h0 => (have f0 : Fr wX_beside σ0 σ_6 := (fr.trans (f.weak (by decide +kernel))); ite_m (fun _ h1 => fx_beside_j42 f0 h1 kQ kE) (fun _ h1 => fm_x_push h1 (fun _ σ_12 f h2 => (have f2 : Fr wX_beside σ0 σ_12 := (f0.trans (f.weak (by decide +kernel))); fx_beside_j42 f2 h2 kQ kE))) h0))
theorem fm_x_beside {v1 : Int} {v2 : Int} {v3 : Int} {v4 : Int} {σ0 : S} {Q Q2 : Int → S → Prop} {E E2 : S → Prop} (h : x_beside v1 v2 v3 v4 σ0 Q E) (kQ : ∀ r s, Fr wX_beside σ0 s → Q r s → Q2 r s) (kE : ∀ s, Fr wX_beside σ0 s → E s → E2 s) : x_beside v1 v2 v3 v4 σ0 Q2 E2 := by
  have fr : Fr wX_beside σ0 σ0 := Fr.rf
  unfold x_beside at h ⊢
  exact ite_m (fun _ h0 => kQ _ _ fr h0) (fun _ h0 => ite_m (fun _ h1 => fx_beside_j26 fr h1 kQ kE) (fun _ h1 => fm_x_push h1 (fun _ σ_13 f h2 => (have f2 : Fr wX_beside σ0 σ_13 := (fr.trans (f.weak (by decide +kernel))); fx_beside_j26 f2 h2 kQ kE))) h0) h
theorem fm_x_countFilled {v1 : Int} {σ0 : S} {Q Q2 : Int → S → Prop} {E E2 : S → Prop} (h : x_countFilled v1 σ0 Q E) (kQ : ∀ r s, Fr wX_countFilled σ0 s → Q r s → Q2 r s) (kE : ∀ s, Fr wX_countFilled σ0 s → E s → E2 s) : x_countFilled v1 σ0 Q2 E2 := by
  have fr : Fr wX_countFilled σ0 σ0 := Fr.rf
  unfold x_countFilled at h ⊢
  exact ⟨h.1, fun σ_4 e1 => (have f1 : Fr wX_countFilled σ0 σ_4 := Fr.putI fr e1 rfl; ite_m (fun _ h2 => kQ _ _ f1 h2) (fun _ h2 => fm_x_stop h2 (fun _ σ_9 f h3 => (have f3 : Fr wX_countFilled σ0 σ_9 := (f1.trans (f.weak (by decide +kernel))); kE _ f3 h3))) (h.2 σ_4 e1))⟩
theorem fx_keepBound_L2_b {v1 : Int} {σ0 σ : S} {Q Q2 : Int → S → Prop} {X2 X22 : Int → S → Prop} (fr : Fr wX_keepBound σ0 σ) (h : (if v1 < 60 then ∀ σ_4, σ_4 = pI σ 143 (w32 (gI σ 143 + 1)) → inb v1 60 ∧ inb (gI σ 143) 9000 ∧ ∀ σ_8, σ_8 = pA σ_4 92 (gI σ 143) (gA σ_4 83 v1) → X2 (w32 (v1 + 1)) σ_8 else Q 0 σ)) (kQ : ∀ r s, Fr wX_keepBound σ0 s → Q r s → Q2 r s) (kX2 : ∀ v1 s, Fr wX_keepBound σ0 s → X2 v1 s → X22 v1 s) : (if v1 < 60 then ∀ σ_4, σ_4 = pI σ 143 (w32 (gI σ 143 + 1)) → inb v1 60 ∧ inb (gI σ 143) 9000 ∧ ∀ σ_8, σ_8 = pA σ_4 92 (gI σ 143) (gA σ_4 83 v1) → X22 (w32 (v1 + 1)) σ_8 else Q2 0 σ) :=
  ite_m (fun _ h0 => fun σ_4 e1 => (have f1 : Fr wX_keepBound σ0 σ_4 := Fr.putI fr e1 rfl; ⟨(h0 σ_4 e1).1, ⟨(h0 σ_4 e1).2.1, fun σ_8 e4 => (have f4 : Fr wX_keepBound σ0 σ_8 := Fr.putA f1 e4 rfl; kX2 _ _ f4 ((h0 σ_4 e1).2.2 σ_8 e4))⟩⟩)) (fun _ h0 => kQ _ _ fr h0) h
theorem fx_keepBound_L2 {v1 : Int} {σ0 σ : S} {Q Q2 : Int → S → Prop} (fr : Fr wX_keepBound σ0 σ) (h : x_keepBound_L2 v1 σ Q) (kQ : ∀ r s, Fr wX_keepBound σ0 s → Q r s → Q2 r s) : x_keepBound_L2 v1 σ Q2 := by
  unfold x_keepBound_L2 at h ⊢
  intro Y hY
  exact h (fun v1 s => Fr wX_keepBound σ0 s → Y v1 s) (fun v1 s h f => hY v1 s (fx_keepBound_L2_b (v1 := v1) (Q := Q) (Q2 := Q2) (X2 := fun v1 s => Fr wX_keepBound σ0 s → Y v1 s) (X22 := Y) f h kQ (fun v1 s f h => h f))) fr
theorem lx_keepBound_L2 {v1 : Int} {σ0 : S} {Q : Int → S → Prop} (I : Int → S → Prop) (me : Int → S → Nat) (h0 : I v1 σ0) (step : ∀ (v1 : Int) (s : S), Fr wX_keepBound σ0 s → I v1 s → (fun (Y0 : Int → S → Prop) => (if v1 < 60 then ∀ σ_4, σ_4 = pI s 143 (w32 (gI s 143 + 1)) → inb v1 60 ∧ inb (gI s 143) 9000 ∧ ∀ σ_8, σ_8 = pA σ_4 92 (gI s 143) (gA σ_4 83 v1) → Y0 (w32 (v1 + 1)) σ_8 else Q 0 s)) (fun v1' s' => I v1' s' ∧ me v1' s' < me v1 s)) : x_keepBound_L2 v1 σ0 Q := by
  unfold x_keepBound_L2
  intro Y hY
  have key : ∀ (n : Nat) (v1 : Int) (s : S), me v1 s < n → Fr wX_keepBound σ0 s → I v1 s → Y v1 s := by
    intro n
    induction n with
    | zero => intro v1 s h; exact absurd h (Nat.not_lt_zero _)
    | succ n ih =>
      intro v1 s hm fr hi
      exact hY v1 s (fx_keepBound_L2_b (v1 := v1) (Q := Q) (Q2 := Q) (X2 := (fun v1' s' => I v1' s' ∧ me v1' s' < me v1 s)) (X22 := Y) fr (step v1 s fr hi) (fun _ _ _ h => h) (fun v1 s f h => ih v1 s (by omega) f h.1))
  exact key _ v1 σ0 (Nat.lt_succ_self _) Fr.rf h0
theorem fm_x_keepBound {σ0 : S} {Q Q2 : Int → S → Prop} (h : x_keepBound  σ0 Q) (kQ : ∀ r s, Fr wX_keepBound σ0 s → Q r s → Q2 r s) : x_keepBound  σ0 Q2 := by
  have fr : Fr wX_keepBound σ0 σ0 := Fr.rf
  unfold x_keepBound at h ⊢
  exact fx_keepBound_L2 fr h kQ
theorem fx_takeBound_L13_b {v1 : Int} {σ0 σ : S} {Q Q2 : Int → S → Prop} {X13 X132 : Int → S → Prop} (fr : Fr wX_takeBound σ0 σ) (h : (if v1 < 60 then inb (w32 (gI σ 143 + v1)) 9000 ∧ inb v1 60 ∧ ∀ σ_9, σ_9 = pA σ 83 v1 (gA σ 92 (w32 (gI σ 143 + v1))) → X13 (w32 (v1 + 1)) σ_9 else Q 0 σ)) (kQ : ∀ r s, Fr wX_takeBound σ0 s → Q r s → Q2 r s) (kX13 : ∀ v1 s, Fr wX_takeBound σ0 s → X13 v1 s → X132 v1 s) : (if v1 < 60 then inb (w32 (gI σ 143 + v1)) 9000 ∧ inb v1 60 ∧ ∀ σ_9, σ_9 = pA σ 83 v1 (gA σ 92 (w32 (gI σ 143 + v1))) → X132 (w32 (v1 + 1)) σ_9 else Q2 0 σ) :=
  ite_m (fun _ h0 => ⟨h0.1, ⟨h0.2.1, fun σ_9 e3 => (have f3 : Fr wX_takeBound σ0 σ_9 := Fr.putA fr e3 rfl; kX13 _ _ f3 (h0.2.2 σ_9 e3))⟩⟩) (fun _ h0 => kQ _ _ fr h0) h
theorem fx_takeBound_L13 {v1 : Int} {σ0 σ : S} {Q Q2 : Int → S → Prop} (fr : Fr wX_takeBound σ0 σ) (h : x_takeBound_L13 v1 σ Q) (kQ : ∀ r s, Fr wX_takeBound σ0 s → Q r s → Q2 r s) : x_takeBound_L13 v1 σ Q2 := by
  unfold x_takeBound_L13 at h ⊢
  intro Y hY
  exact h (fun v1 s => Fr wX_takeBound σ0 s → Y v1 s) (fun v1 s h f => hY v1 s (fx_takeBound_L13_b (v1 := v1) (Q := Q) (Q2 := Q2) (X13 := fun v1 s => Fr wX_takeBound σ0 s → Y v1 s) (X132 := Y) f h kQ (fun v1 s f h => h f))) fr
theorem lx_takeBound_L13 {v1 : Int} {σ0 : S} {Q : Int → S → Prop} (I : Int → S → Prop) (me : Int → S → Nat) (h0 : I v1 σ0) (step : ∀ (v1 : Int) (s : S), Fr wX_takeBound σ0 s → I v1 s → (fun (Y0 : Int → S → Prop) => (if v1 < 60 then inb (w32 (gI s 143 + v1)) 9000 ∧ inb v1 60 ∧ ∀ σ_9, σ_9 = pA s 83 v1 (gA s 92 (w32 (gI s 143 + v1))) → Y0 (w32 (v1 + 1)) σ_9 else Q 0 s)) (fun v1' s' => I v1' s' ∧ me v1' s' < me v1 s)) : x_takeBound_L13 v1 σ0 Q := by
  unfold x_takeBound_L13
  intro Y hY
  have key : ∀ (n : Nat) (v1 : Int) (s : S), me v1 s < n → Fr wX_takeBound σ0 s → I v1 s → Y v1 s := by
    intro n
    induction n with
    | zero => intro v1 s h; exact absurd h (Nat.not_lt_zero _)
    | succ n ih =>
      intro v1 s hm fr hi
      exact hY v1 s (fx_takeBound_L13_b (v1 := v1) (Q := Q) (Q2 := Q) (X13 := (fun v1' s' => I v1' s' ∧ me v1' s' < me v1 s)) (X132 := Y) fr (step v1 s fr hi) (fun _ _ _ h => h) (fun v1 s f h => ih v1 s (by omega) f h.1))
  exact key _ v1 σ0 (Nat.lt_succ_self _) Fr.rf h0
theorem fm_x_takeBound {σ0 : S} {Q Q2 : Int → S → Prop} (h : x_takeBound  σ0 Q) (kQ : ∀ r s, Fr wX_takeBound σ0 s → Q r s → Q2 r s) : x_takeBound  σ0 Q2 := by
  have fr : Fr wX_takeBound σ0 σ0 := Fr.rf
  unfold x_takeBound at h ⊢
  exact fun σ_2 e0 => (have f0 : Fr wX_takeBound σ0 σ_2 := Fr.putI fr e0 rfl; fx_takeBound_L13 f0 (h σ_2 e0) kQ)
theorem fx_toRest_j18 {v1 : Int} {σ0 σ : S} {Q Q2 : Int → S → Prop} {E E2 : S → Prop} {G : Orc} (hG : FrO wX_toRest G) (fr : Fr wX_toRest σ0 σ) (h : x_toRest_j18 G v1 σ Q E) (kQ : ∀ r s, Fr wX_toRest σ0 s → Q r s → Q2 r s) (kE : ∀ s, Fr wX_toRest σ0 s → E s → E2 s) : x_toRest_j18 G v1 σ Q2 E2 := by
  unfold x_toRest_j18 at h ⊢
  exact fm_x_came h (fun r_6 σ_5 f h0 => (have f0 : Fr wX_toRest σ0 σ_5 := (fr.trans (f.weak (by decide +kernel))); kQ _ _ f0 h0))
theorem fx_toRest_j207 {v4 : Int} {σ0 σ : S} {Q Q2 : Int → S → Prop} {E E2 : S → Prop} {G : Orc} (hG : FrO wX_toRest G) (fr : Fr wX_toRest σ0 σ) (h : x_toRest_j207 G v4 σ Q E) (kQ : ∀ r s, Fr wX_toRest σ0 s → Q r s → Q2 r s) (kE : ∀ s, Fr wX_toRest σ0 s → E s → E2 s) : x_toRest_j207 G v4 σ Q2 E2 := by
  unfold x_toRest_j207 at h ⊢
  exact fun σ_30 e0 => (have f0 : Fr wX_toRest σ0 σ_30 := Fr.putI fr e0 rfl; kQ _ _ f0 (h σ_30 e0))
theorem fx_toRest_j183 {v2 : Int} {v4 : Int} {σ0 σ : S} {Q Q2 : Int → S → Prop} {E E2 : S → Prop} {G : Orc} (hG : FrO wX_toRest G) (fr : Fr wX_toRest σ0 σ) (h : x_toRest_j183 G v2 v4 σ Q E) (kQ : ∀ r s, Fr wX_toRest σ0 s → Q r s → Q2 r s) (kE : ∀ s, Fr wX_toRest σ0 s → E s → E2 s) : x_toRest_j183 G v2 v4 σ Q2 E2 := by
  unfold x_toRest_j183 at h ⊢
  exact fun σ_23 e0 => (have f0 : Fr wX_toRest σ0 σ_23 := Fr.putI fr e0 rfl; ⟨(h σ_23 e0).1, ite_m (fun _ h2 => fx_toRest_j207 hG f0 h2 kQ kE) (fun _ h2 => ⟨h2.1, fun σ_32 e4 => (have f4 : Fr wX_toRest σ0 σ_32 := Fr.putA f0 e4 rfl; fx_toRest_j207 hG f4 (h2.2 σ_32 e4) kQ kE)⟩) (h σ_23 e0).2⟩)
theorem fx_toRest_L154_b {v2 : Int} {v4 : Int} {v5 : Int} {σ0 σ : S} {Q Q2 : Int → S → Prop} {E E2 : S → Prop} {X154 X1542 : Int → S → Prop} {G : Orc} (hG : FrO wX_toRest G) (fr : Fr wX_toRest σ0 σ) (h : (if v5 < gI σ 141 then inb v5 1600 ∧ inb (gA σ 91 v5) 200000 ∧ ∀ σ_37, σ_37 = pA σ 75 (gA σ 91 v5) v4 → X154 (w32 (v5 + 1)) σ_37 else x_toRest_j183 G v2 v4 σ Q E)) (kQ : ∀ r s, Fr wX_toRest σ0 s → Q r s → Q2 r s) (kE : ∀ s, Fr wX_toRest σ0 s → E s → E2 s) (kX154 : ∀ v5 s, Fr wX_toRest σ0 s → X154 v5 s → X1542 v5 s) : (if v5 < gI σ 141 then inb v5 1600 ∧ inb (gA σ 91 v5) 200000 ∧ ∀ σ_37, σ_37 = pA σ 75 (gA σ 91 v5) v4 → X1542 (w32 (v5 + 1)) σ_37 else x_toRest_j183 G v2 v4 σ Q2 E2) :=
  ite_m (fun _ h0 => ⟨h0.1, ⟨h0.2.1, fun σ_37 e3 => (have f3 : Fr wX_toRest σ0 σ_37 := Fr.putA fr e3 rfl; kX154 _ _ f3 (h0.2.2 σ_37 e3))⟩⟩) (fun _ h0 => fx_toRest_j183 hG fr h0 kQ kE) h
theorem fx_toRest_L154 {v2 : Int} {v4 : Int} {v5 : Int} {σ0 σ : S} {Q Q2 : Int → S → Prop} {E E2 : S → Prop} {G : Orc} (hG : FrO wX_toRest G) (fr : Fr wX_toRest σ0 σ) (h : x_toRest_L154 G v2 v4 v5 σ Q E) (kQ : ∀ r s, Fr wX_toRest σ0 s → Q r s → Q2 r s) (kE : ∀ s, Fr wX_toRest σ0 s → E s → E2 s) : x_toRest_L154 G v2 v4 v5 σ Q2 E2 := by
  unfold x_toRest_L154 at h ⊢
  intro Y hY
  exact h (fun v5 s => Fr wX_toRest σ0 s → Y v5 s) (fun v5 s h f => hY v5 s (fx_toRest_L154_b (v2 := v2) (v4 := v4) (v5 := v5) (Q := Q) (Q2 := Q2) (E := E) (E2 := E2) (X154 := fun v5 s => Fr wX_toRest σ0 s → Y v5 s) (X1542 := Y) hG f h kQ kE (fun v5 s f h => h f))) fr
theorem lx_toRest_L154 {v2 : Int} {v4 : Int} {v5 : Int} {σ0 : S} {Q : Int → S → Prop} {E : S → Prop} {G : Orc} (hG : FrO wX_toRest G) (I : Int → S → Prop) (me : Int → S → Nat) (h0 : I v5 σ0) (step : ∀ (v5 : Int) (s : S), Fr wX_toRest σ0 s → I v5 s → (fun (Y0 : Int → S → Prop) => (if v5 < gI s 141 then inb v5 1600 ∧ inb (gA s 91 v5) 200000 ∧ ∀ σ_37, σ_37 = pA s 75 (gA s 91 v5) v4 → Y0 (w32 (v5 + 1)) σ_37 else x_toRest_j183 G v2 v4 s Q E)) (fun v5' s' => I v5' s' ∧ me v5' s' < me v5 s)) : x_toRest_L154 G v2 v4 v5 σ0 Q E := by
  unfold x_toRest_L154
  intro Y hY
  have key : ∀ (n : Nat) (v5 : Int) (s : S), me v5 s < n → Fr wX_toRest σ0 s → I v5 s → Y v5 s := by
    intro n
    induction n with
    | zero => intro v5 s h; exact absurd h (Nat.not_lt_zero _)
    | succ n ih =>
      intro v5 s hm fr hi
      exact hY v5 s (fx_toRest_L154_b (v2 := v2) (v4 := v4) (v5 := v5) (Q := Q) (Q2 := Q) (E := E) (E2 := E) (X154 := (fun v5' s' => I v5' s' ∧ me v5' s' < me v5 s)) (X1542 := Y) hG fr (step v5 s fr hi) (fun _ _ _ h => h) (fun _ _ h => h) (fun v5 s f h => ih v5 s (by omega) f h.1))
  exact key _ v5 σ0 (Nat.lt_succ_self _) Fr.rf h0
theorem fx_toRest_j151 {v2 : Int} {v4 : Int} {σ0 σ : S} {Q Q2 : Int → S → Prop} {E E2 : S → Prop} {G : Orc} (hG : FrO wX_toRest G) (fr : Fr wX_toRest σ0 σ) (h : x_toRest_j151 G v2 v4 σ Q E) (kQ : ∀ r s, Fr wX_toRest σ0 s → Q r s → Q2 r s) (kE : ∀ s, Fr wX_toRest σ0 s → E s → E2 s) : x_toRest_j151 G v2 v4 σ Q2 E2 := by
  unfold x_toRest_j151 at h ⊢
  exact fx_toRest_L154 hG fr h kQ kE
theorem fx_toRest_j148 {v2 : Int} {v3 : Int} {v4 : Int} {σ0 σ : S} {Q Q2 : Int → S → Prop} {E E2 : S → Prop} {X59 X592 : Int → Int → S → Prop} {G : Orc} (hG : FrO wX_toRest G) (fr : Fr wX_toRest σ0 σ) (h : x_toRest_j148 G v2 v3 v4 σ Q E X59) (kQ : ∀ r s, Fr wX_toRest σ0 s → Q r s → Q2 r s) (kE : ∀ s, Fr wX_toRest σ0 s → E s → E2 s) (kX59 : ∀ a0 a1 s, Fr wX_toRest σ0 s → X59 a0 a1 s → X592 a0 a1 s) : x_toRest_j148 G v2 v3 v4 σ Q2 E2 X592 := by
  unfold x_toRest_j148 at h ⊢
  exact kX59 _ _ _ fr h
theorem fx_toRest_j143 {v2 : Int} {v6 : Int} {s0 : Int} {σ0 σ : S} {Q Q2 : Int → S → Prop} {E E2 : S → Prop} {X59 X592 : Int → Int → S → Prop} {G : Orc} (hG : FrO wX_toRest G) (fr : Fr wX_toRest σ0 σ) (h : x_toRest_j143 G v2 v6 s0 σ Q E X59) (kQ : ∀ r s, Fr wX_toRest σ0 s → Q r s → Q2 r s) (kE : ∀ s, Fr wX_toRest σ0 s → E s → E2 s) (kX59 : ∀ a0 a1 s, Fr wX_toRest σ0 s → X59 a0 a1 s → X592 a0 a1 s) : x_toRest_j143 G v2 v6 s0 σ Q2 E2 X592 := by
  unfold x_toRest_j143 at h ⊢
  exact fx_toRest_j148 hG fr h kQ kE kX59
theorem fx_toRest_L59_b {v2 : Int} {v3 : Int} {v4 : Int} {σ0 σ : S} {Q Q2 : Int → S → Prop} {E E2 : S → Prop} {X59 X592 : Int → Int → S → Prop} {G : Orc} (hG : FrO wX_toRest G) (fr : Fr wX_toRest σ0 σ) (h : (if v4 = 0 then ∀ σ_41, σ_41 = pI σ 141 (w32 (gI σ 141 + 1)) → inb (gI σ 141) 1600 ∧ ∀ σ_43, σ_43 = pA σ_41 91 (gI σ 141) v3 → G 1 [v3] σ_43 (fun r_47 σ_46 => x_came r_47 σ_46 (fun r_50 σ_49 => (if r_50 = 0 then ∀ σ_54, σ_54 = pI σ_49 141 (w32 (gI σ_49 141 + 1)) → inb (gI σ_49 141) 1600 ∧ ∀ σ_56, σ_56 = pA σ_54 91 (gI σ_49 141) r_47 → G 2 [r_47] σ_56 (fun r_60 σ_59 => (if r_60 = 0 then x_toRest_j143 G v2 r_60 r_47 σ_59 Q E X59 else x_came r_60 σ_59 (fun r_65 σ_64 => x_toRest_j143 G v2 r_60 r_65 σ_64 Q E X59))) E else x_toRest_j148 G v2 v3 r_50 σ_49 Q E X59))) E else x_toRest_j151 G v2 v4 σ Q E)) (kQ : ∀ r s, Fr wX_toRest σ0 s → Q r s → Q2 r s) (kE : ∀ s, Fr wX_toRest σ0 s → E s → E2 s) (kX59 : ∀ v3 v4 s, Fr wX_toRest σ0 s → X59 v3 v4 s → X592 v3 v4 s) : (if v4 = 0 then ∀ σ_41, σ_41 = pI σ 141 (w32 (gI σ 141 + 1)) → inb (gI σ 141) 1600 ∧ ∀ σ_43, σ_43 = pA σ_41 91 (gI σ 141) v3 → G 1 [v3] σ_43 (fun r_47 σ_46 => x_came r_47 σ_46 (fun r_50 σ_49 => (if r_50 = 0 then ∀ σ_54, σ_54 = pI σ_49 141 (w32 (gI σ_49 141 + 1)) → inb (gI σ_49 141) 1600 ∧ ∀ σ_56, σ_56 = pA σ_54 91 (gI σ_49 141) r_47 → G 2 [r_47] σ_56 (fun r_60 σ_59 => (if r_60 = 0 then x_toRest_j143 G v2 r_60 r_47 σ_59 Q2 E2 X592 else x_came r_60 σ_59 (fun r_65 σ_64 => x_toRest_j143 G v2 r_60 r_65 σ_64 Q2 E2 X592))) E2 else x_toRest_j148 G v2 v3 r_50 σ_49 Q2 E2 X592))) E2 else x_toRest_j151 G v2 v4 σ Q2 E2) :=
  ite_m (fun _ h0 => fun σ_41 e1 => (have f1 : Fr wX_toRest σ0 σ_41 := Fr.putI fr e1 rfl; ⟨(h0 σ_41 e1).1, fun σ_43 e3 => (have f3 : Fr wX_toRest σ0 σ_43 := Fr.putA f1 e3 rfl; hG _ _ _ _ _ _ _ ((h0 σ_41 e1).2 σ_43 e3) (fun r_47 σ_46 f h4 => (have f4 : Fr wX_toRest σ0 σ_46 := (f3.trans f); fm_x_came h4 (fun r_50 σ_49 f h5 => (have f5 : Fr wX_toRest σ0 σ_49 := (f4.trans (f.weak (by decide +kernel))); ite_m (fun _ h6 => fun σ_54 e7 => (have f7 : Fr wX_toRest σ0 σ_54 := Fr.putI f5 e7 rfl; ⟨(h6 σ_54 e7).1, fun σ_56 e9 => (have f9 : Fr wX_toRest σ0 σ_56 := Fr.putA f7 e9 rfl; hG _ _ _ _ _ _ _ ((h6 σ_54 e7).2 σ_56 e9) (fun r_60 σ_59 f h10 => (have f10 : Fr wX_toRest σ0 σ_59 := (f9.trans f); ite_m (fun _ h11 => fx_toRest_j143 hG f10 h11 kQ kE kX59) (fun _ h11 => fm_x_came h11 (fun r_65 σ_64 f h12 => (have f12 : Fr wX_toRest σ0 σ_64 := (f10.trans (f.weak (by decide +kernel))); fx_toRest_j143 hG f12 h12 kQ kE kX59))) h10)) (fun s f h => kE _ (f9.trans f) h))⟩)) (fun _ h6 => fx_toRest_j148 hG f5 h6 kQ kE kX59) h5)))) (fun s f h => kE _ (f3.trans f) h))⟩)) (fun _ h0 => fx_toRest_j151 hG fr h0 kQ kE) h
theorem fx_toRest_L59 {v2 : Int} {v3 : Int} {v4 : Int} {σ0 σ : S} {Q Q2 : Int → S → Prop} {E E2 : S → Prop} {G : Orc} (hG : FrO wX_toRest G) (fr : Fr wX_toRest σ0 σ) (h : x_toRest_L59 G v2 v3 v4 σ Q E) (kQ : ∀ r s, Fr wX_toRest σ0 s → Q r s → Q2 r s) (kE : ∀ s, Fr wX_toRest σ0 s → E s → E2 s) : x_toRest_L59 G v2 v3 v4 σ Q2 E2 := by
  unfold x_toRest_L59 at h ⊢
  intro Y hY
  exact h (fun v3 v4 s => Fr wX_toRest σ0 s → Y v3 v4 s) (fun v3 v4 s h f => hY v3 v4 s (fx_toRest_L59_b (v2 := v2) (v3 := v3) (v4 := v4) (Q := Q) (Q2 := Q2) (E := E) (E2 := E2) (X59 := fun v3 v4 s => Fr wX_toRest σ0 s → Y v3 v4 s) (X592 := Y) hG f h kQ kE (fun v3 v4 s f h => h f))) fr
theorem lx_toRest_L59 {v2 : Int} {v3 : Int} {v4 : Int} {σ0 : S} {Q : Int → S → Prop} {E : S → Prop} {G : Orc} (hG : FrO wX_toRest G) (I : Int → Int → S → Prop) (me : Int → Int → S → Nat) (h0 : I v3 v4 σ0) (step : ∀ (v3 : Int) (v4 : Int) (s : S), Fr wX_toRest σ0 s → I v3 v4 s → (fun (Y0 : Int → Int → S → Prop) => (if v4 = 0 then ∀ σ_41, σ_41 = pI s 141 (w32 (gI s 141 + 1)) → inb (gI s 141) 1600 ∧ ∀ σ_43, σ_43 = pA σ_41 91 (gI s 141) v3 → G 1 [v3] σ_43 (fun r_47 σ_46 => x_came r_47 σ_46 (fun r_50 σ_49 => (if r_50 = 0 then ∀ σ_54, σ_54 = pI σ_49 141 (w32 (gI σ_49 141 + 1)) → inb (gI σ_49 141) 1600 ∧ ∀ σ_56, σ_56 = pA σ_54 91 (gI σ_49 141) r_47 → G 2 [r_47] σ_56 (fun r_60 σ_59 => (if r_60 = 0 then x_toRest_j143 G v2 r_60 r_47 σ_59 Q E Y0 else x_came r_60 σ_59 (fun r_65 σ_64 => x_toRest_j143 G v2 r_60 r_65 σ_64 Q E Y0))) E else x_toRest_j148 G v2 v3 r_50 σ_49 Q E Y0))) E else x_toRest_j151 G v2 v4 s Q E)) (fun v3' v4' s' => I v3' v4' s' ∧ me v3' v4' s' < me v3 v4 s)) : x_toRest_L59 G v2 v3 v4 σ0 Q E := by
  unfold x_toRest_L59
  intro Y hY
  have key : ∀ (n : Nat) (v3 : Int) (v4 : Int) (s : S), me v3 v4 s < n → Fr wX_toRest σ0 s → I v3 v4 s → Y v3 v4 s := by
    intro n
    induction n with
    | zero => intro v3 v4 s h; exact absurd h (Nat.not_lt_zero _)
    | succ n ih =>
      intro v3 v4 s hm fr hi
      exact hY v3 v4 s (fx_toRest_L59_b (v2 := v2) (v3 := v3) (v4 := v4) (Q := Q) (Q2 := Q) (E := E) (E2 := E) (X59 := (fun v3' v4' s' => I v3' v4' s' ∧ me v3' v4' s' < me v3 v4 s)) (X592 := Y) hG fr (step v3 v4 s fr hi) (fun _ _ _ h => h) (fun _ _ h => h) (fun v3 v4 s f h => ih v3 v4 s (by omega) f h.1))
  exact key _ v3 v4 σ0 (Nat.lt_succ_self _) Fr.rf h0
theorem fx_toRest_F {v1 : Int} {σ0 : S} {Q Q2 : Int → S → Prop} {E E2 : S → Prop} {G : Orc} (hG : FrO wX_toRest G) (h : x_toRest_F G v1 σ0 Q E) (kQ : ∀ r s, Fr wX_toRest σ0 s → Q r s → Q2 r s) (kE : ∀ s, Fr wX_toRest σ0 s → E s → E2 s) : x_toRest_F G v1 σ0 Q2 E2 := by
  have fr : Fr wX_toRest σ0 σ0 := Fr.rf
  unfold x_toRest_F at h ⊢
  exact ⟨h.1, ite_m (fun _ h1 => fx_toRest_j18 hG fr h1 kQ kE) (fun _ h1 => ⟨h1.1, ite_m (fun _ h3 => ite_m (fun _ h4 => fun σ_15 e5 => (have f5 : Fr wX_toRest σ0 σ_15 := Fr.putI fr e5 rfl; fx_toRest_L59 hG f5 (h4 σ_15 e5) kQ kE)) (fun _ h4 => fm_x_stop h4 (fun _ σ_66 f h5 => (have f5 : Fr wX_toRest σ0 σ_66 := (fr.trans (f.weak (by decide +kernel))); kE _ f5 h5))) h3) (fun _ h3 => fx_toRest_j18 hG fr h3 kQ kE) h1.2⟩) h.2⟩
theorem fx_reduceRow_j77 {v1 : Int} {v2 : Int} {v3 : Int} {σ0 σ : S} {Q Q2 : Int → S → Prop} {E E2 : S → Prop} {G : Orc} (hG : FrO wX_reduceRow G) (fr : Fr wX_reduceRow σ0 σ) (h : x_reduceRow_j77 G v1 v2 v3 σ Q E) (kQ : ∀ r s, Fr wX_reduceRow σ0 s → Q r s → Q2 r s) (kE : ∀ s, Fr wX_reduceRow σ0 s → E s → E2 s) : x_reduceRow_j77 G v1 v2 v3 σ Q2 E2 := by
  unfold x_reduceRow_j77 at h ⊢
  exact ite_m (fun _ h0 => ⟨h0.1, fm_x_make h0.2 (fun r_15 σ_14 f h2 => (have f2 : Fr wX_reduceRow σ0 σ_14 := (fr.trans (f.weak (by decide +kernel))); kQ _ _ f2 h2)) (fun s f h => kE _ (fr.trans (f.weak (by decide +kernel))) h)⟩) (fun _ h0 => fun σ_17 e1 => (have f1 : Fr wX_reduceRow σ0 σ_17 := Fr.putI fr e1 rfl; kQ _ _ f1 (h0 σ_17 e1))) h
theorem fx_reduceRow_L21_b {v1 : Int} {v2 : Int} {v3 : Int} {v4 : Int} {σ0 σ : S} {Q Q2 : Int → S → Prop} {E E2 : S → Prop} {X21 X212 : Int → Int → S → Prop} {G : Orc} (hG : FrO wX_reduceRow G) (fr : Fr wX_reduceRow σ0 σ) (h : inb v1 200000 ∧ (if v4 < gA σ 68 v1 then x_at v1 v4 σ (fun r_20 σ_19 => G 0 [r_20] σ_19 (fun r_22 σ_21 => x_at v1 v4 σ_21 (fun r_25 σ_24 => x_push r_22 σ_24 (fun _ σ_27 => X21 (bAnd v3 (bi (r_22 = r_25))) (w32 (v4 + 1)) σ_27))) E) else x_reduceRow_j77 G v1 v2 v3 σ Q E)) (kQ : ∀ r s, Fr wX_reduceRow σ0 s → Q r s → Q2 r s) (kE : ∀ s, Fr wX_reduceRow σ0 s → E s → E2 s) (kX21 : ∀ v3 v4 s, Fr wX_reduceRow σ0 s → X21 v3 v4 s → X212 v3 v4 s) : inb v1 200000 ∧ (if v4 < gA σ 68 v1 then x_at v1 v4 σ (fun r_20 σ_19 => G 0 [r_20] σ_19 (fun r_22 σ_21 => x_at v1 v4 σ_21 (fun r_25 σ_24 => x_push r_22 σ_24 (fun _ σ_27 => X212 (bAnd v3 (bi (r_22 = r_25))) (w32 (v4 + 1)) σ_27))) E2) else x_reduceRow_j77 G v1 v2 v3 σ Q2 E2) :=
  ⟨h.1, ite_m (fun _ h1 => fm_x_at h1 (fun r_20 σ_19 f h2 => (have f2 : Fr wX_reduceRow σ0 σ_19 := (fr.trans (f.weak (by decide +kernel))); hG _ _ _ _ _ _ _ h2 (fun r_22 σ_21 f h3 => (have f3 : Fr wX_reduceRow σ0 σ_21 := (f2.trans f); fm_x_at h3 (fun r_25 σ_24 f h4 => (have f4 : Fr wX_reduceRow σ0 σ_24 := (f3.trans (f.weak (by decide +kernel))); fm_x_push h4 (fun _ σ_27 f h5 => (have f5 : Fr wX_reduceRow σ0 σ_27 := (f4.trans (f.weak (by decide +kernel))); kX21 _ _ _ f5 h5)))))) (fun s f h => kE _ (f2.trans f) h)))) (fun _ h1 => fx_reduceRow_j77 hG fr h1 kQ kE) h.2⟩
theorem fx_reduceRow_L21 {v1 : Int} {v2 : Int} {v3 : Int} {v4 : Int} {σ0 σ : S} {Q Q2 : Int → S → Prop} {E E2 : S → Prop} {G : Orc} (hG : FrO wX_reduceRow G) (fr : Fr wX_reduceRow σ0 σ) (h : x_reduceRow_L21 G v1 v2 v3 v4 σ Q E) (kQ : ∀ r s, Fr wX_reduceRow σ0 s → Q r s → Q2 r s) (kE : ∀ s, Fr wX_reduceRow σ0 s → E s → E2 s) : x_reduceRow_L21 G v1 v2 v3 v4 σ Q2 E2 := by
  unfold x_reduceRow_L21 at h ⊢
  intro Y hY
  exact h (fun v3 v4 s => Fr wX_reduceRow σ0 s → Y v3 v4 s) (fun v3 v4 s h f => hY v3 v4 s (fx_reduceRow_L21_b (v1 := v1) (v2 := v2) (v3 := v3) (v4 := v4) (Q := Q) (Q2 := Q2) (E := E) (E2 := E2) (X21 := fun v3 v4 s => Fr wX_reduceRow σ0 s → Y v3 v4 s) (X212 := Y) hG f h kQ kE (fun v3 v4 s f h => h f))) fr
theorem lx_reduceRow_L21 {v1 : Int} {v2 : Int} {v3 : Int} {v4 : Int} {σ0 : S} {Q : Int → S → Prop} {E : S → Prop} {G : Orc} (hG : FrO wX_reduceRow G) (I : Int → Int → S → Prop) (me : Int → Int → S → Nat) (h0 : I v3 v4 σ0) (step : ∀ (v3 : Int) (v4 : Int) (s : S), Fr wX_reduceRow σ0 s → I v3 v4 s → (fun (Y0 : Int → Int → S → Prop) => inb v1 200000 ∧ (if v4 < gA s 68 v1 then x_at v1 v4 s (fun r_20 σ_19 => G 0 [r_20] σ_19 (fun r_22 σ_21 => x_at v1 v4 σ_21 (fun r_25 σ_24 => x_push r_22 σ_24 (fun _ σ_27 => Y0 (bAnd v3 (bi (r_22 = r_25))) (w32 (v4 + 1)) σ_27))) E) else x_reduceRow_j77 G v1 v2 v3 s Q E)) (fun v3' v4' s' => I v3' v4' s' ∧ me v3' v4' s' < me v3 v4 s)) : x_reduceRow_L21 G v1 v2 v3 v4 σ0 Q E := by
  unfold x_reduceRow_L21
  intro Y hY
  have key : ∀ (n : Nat) (v3 : Int) (v4 : Int) (s : S), me v3 v4 s < n → Fr wX_reduceRow σ0 s → I v3 v4 s → Y v3 v4 s := by
    intro n
    induction n with
    | zero => intro v3 v4 s h; exact absurd h (Nat.not_lt_zero _)
    | succ n ih =>
      intro v3 v4 s hm fr hi
      exact hY v3 v4 s (fx_reduceRow_L21_b (v1 := v1) (v2 := v2) (v3 := v3) (v4 := v4) (Q := Q) (Q2 := Q) (E := E) (E2 := E) (X21 := (fun v3' v4' s' => I v3' v4' s' ∧ me v3' v4' s' < me v3 v4 s)) (X212 := Y) hG fr (step v3 v4 s fr hi) (fun _ _ _ h => h) (fun _ _ h => h) (fun v3 v4 s f h => ih v3 v4 s (by omega) f h.1))
  exact key _ v3 v4 σ0 (Nat.lt_succ_self _) Fr.rf h0
theorem fx_reduceRow_F {v1 : Int} {σ0 : S} {Q Q2 : Int → S → Prop} {E E2 : S → Prop} {G : Orc} (hG : FrO wX_reduceRow G) (h : x_reduceRow_F G v1 σ0 Q E) (kQ : ∀ r s, Fr wX_reduceRow σ0 s → Q r s → Q2 r s) (kE : ∀ s, Fr wX_reduceRow σ0 s → E s → E2 s) : x_reduceRow_F G v1 σ0 Q2 E2 := by
  have fr : Fr wX_reduceRow σ0 σ0 := Fr.rf
  unfold x_reduceRow_F at h ⊢
  exact ⟨h.1, ite_m (fun _ h1 => kQ _ _ fr h1) (fun _ h1 => fx_reduceRow_L21 hG fr h1 kQ kE) h.2⟩
theorem fx_tryEquations_j62 {v1 : Int} {v2 : Int} {σ0 σ : S} {Q Q2 : Int → S → Prop} {E E2 : S → Prop} {X2 X22 : Int → S → Prop} {G : Orc} (hG : FrO wX_tryEquations G) (fr : Fr wX_tryEquations σ0 σ) (h : x_tryEquations_j62 G v1 v2 σ Q E X2) (kQ : ∀ r s, Fr wX_tryEquations σ0 s → Q r s → Q2 r s) (kE : ∀ s, Fr wX_tryEquations σ0 s → E s → E2 s) (kX2 : ∀ a0 s, Fr wX_tryEquations σ0 s → X2 a0 s → X22 a0 s) : x_tryEquations_j62 G v1 v2 σ Q2 E2 X22 := by
  unfold x_tryEquations_j62 at h ⊢
  exact kX2 _ _ fr h
theorem fx_tryEquations_j56 {v1 : Int} {v2 : Int} {v3 : Int} {σ0 σ : S} {Q Q2 : Int → S → Prop} {E E2 : S → Prop} {X2 X22 : Int → S → Prop} {X9 X92 : Int → S → Prop} {G : Orc} (hG : FrO wX_tryEquations G) (fr : Fr wX_tryEquations σ0 σ) (h : x_tryEquations_j56 G v1 v2 v3 σ Q E X2 X9) (kQ : ∀ r s, Fr wX_tryEquations σ0 s → Q r s → Q2 r s) (kE : ∀ s, Fr wX_tryEquations σ0 s → E s → E2 s) (kX2 : ∀ a0 s, Fr wX_tryEquations σ0 s → X2 a0 s → X22 a0 s) (kX9 : ∀ a0 s, Fr wX_tryEquations σ0 s → X9 a0 s → X92 a0 s) : x_tryEquations_j56 G v1 v2 v3 σ Q2 E2 X22 X92 := by
  unfold x_tryEquations_j56 at h ⊢
  exact kX9 _ _ fr h
theorem fx_tryEquations_j49 {v4 : Int} {σ0 σ : S} {Q Q2 : Int → S → Prop} {E E2 : S → Prop} {G : Orc} (hG : FrO wX_tryEquations G) (fr : Fr wX_tryEquations σ0 σ) (h : x_tryEquations_j49 G v4 σ Q E) (kQ : ∀ r s, Fr wX_tryEquations σ0 s → Q r s → Q2 r s) (kE : ∀ s, Fr wX_tryEquations σ0 s → E s → E2 s) : x_tryEquations_j49 G v4 σ Q2 E2 := by
  unfold x_tryEquations_j49 at h ⊢
  exact fm_x_countStep h (fun _ σ_17 f h0 => (have f0 : Fr wX_tryEquations σ0 σ_17 := (fr.trans (f.weak (by decide +kernel))); kQ _ _ f0 h0)) (fun s f h => kE _ (fr.trans (f.weak (by decide +kernel))) h)
theorem fx_tryEquations_j33 {v1 : Int} {v2 : Int} {v3 : Int} {s0 : Int} {s1 : Int} {σ0 σ : S} {Q Q2 : Int → S → Prop} {E E2 : S → Prop} {X2 X22 : Int → S → Prop} {X9 X92 : Int → S → Prop} {G : Orc} (hG : FrO wX_tryEquations G) (fr : Fr wX_tryEquations σ0 σ) (h : x_tryEquations_j33 G v1 v2 v3 s0 s1 σ Q E X2 X9) (kQ : ∀ r s, Fr wX_tryEquations σ0 s → Q r s → Q2 r s) (kE : ∀ s, Fr wX_tryEquations σ0 s → E s → E2 s) (kX2 : ∀ a0 s, Fr wX_tryEquations σ0 s → X2 a0 s → X22 a0 s) (kX9 : ∀ a0 s, Fr wX_tryEquations σ0 s → X9 a0 s → X92 a0 s) : x_tryEquations_j33 G v1 v2 v3 s0 s1 σ Q2 E2 X22 X92 := by
  unfold x_tryEquations_j33 at h ⊢
  exact ite_m (fun _ h0 => hG _ _ _ _ _ _ _ h0 (fun r_13 σ_12 f h1 => (have f1 : Fr wX_tryEquations σ0 σ_12 := (fr.trans f); ite_m (fun _ h2 => fx_tryEquations_j56 hG f1 h2 kQ kE kX2 kX9) (fun _ h2 => fx_tryEquations_j49 hG f1 h2 kQ kE) h1)) (fun s f h => kE _ (fr.trans f) h)) (fun _ h0 => fx_tryEquations_j56 hG fr h0 kQ kE kX2 kX9) h
theorem fx_tryEquations_L9_b {v1 : Int} {v2 : Int} {v3 : Int} {σ0 σ : S} {Q Q2 : Int → S → Prop} {E E2 : S → Prop} {X2 X22 : Int → S → Prop} {X9 X92 : Int → S → Prop} {G : Orc} (hG : FrO wX_tryEquations G) (fr : Fr wX_tryEquations σ0 σ) (h : (if v3 < gI σ 42 then inb v3 70 ∧ (if v2 = 1 then x_tryEquations_j33 G v1 v2 v3 1 (gA σ 26 v3) σ Q E X2 X9 else x_tryEquations_j33 G v1 v2 v3 0 (gA σ 26 v3) σ Q E X2 X9) else x_tryEquations_j62 G v1 v2 σ Q E X2)) (kQ : ∀ r s, Fr wX_tryEquations σ0 s → Q r s → Q2 r s) (kE : ∀ s, Fr wX_tryEquations σ0 s → E s → E2 s) (kX2 : ∀ a0 s, Fr wX_tryEquations σ0 s → X2 a0 s → X22 a0 s) (kX9 : ∀ v3 s, Fr wX_tryEquations σ0 s → X9 v3 s → X92 v3 s) : (if v3 < gI σ 42 then inb v3 70 ∧ (if v2 = 1 then x_tryEquations_j33 G v1 v2 v3 1 (gA σ 26 v3) σ Q2 E2 X22 X92 else x_tryEquations_j33 G v1 v2 v3 0 (gA σ 26 v3) σ Q2 E2 X22 X92) else x_tryEquations_j62 G v1 v2 σ Q2 E2 X22) :=
  ite_m (fun _ h0 => ⟨h0.1, ite_m (fun _ h2 => fx_tryEquations_j33 hG fr h2 kQ kE kX2 kX9) (fun _ h2 => fx_tryEquations_j33 hG fr h2 kQ kE kX2 kX9) h0.2⟩) (fun _ h0 => fx_tryEquations_j62 hG fr h0 kQ kE kX2) h
theorem fx_tryEquations_L9 {v1 : Int} {v2 : Int} {v3 : Int} {σ0 σ : S} {Q Q2 : Int → S → Prop} {E E2 : S → Prop} {X2 X22 : Int → S → Prop} {G : Orc} (hG : FrO wX_tryEquations G) (fr : Fr wX_tryEquations σ0 σ) (h : x_tryEquations_L9 G v1 v2 v3 σ Q E X2) (kQ : ∀ r s, Fr wX_tryEquations σ0 s → Q r s → Q2 r s) (kE : ∀ s, Fr wX_tryEquations σ0 s → E s → E2 s) (kX2 : ∀ a0 s, Fr wX_tryEquations σ0 s → X2 a0 s → X22 a0 s) : x_tryEquations_L9 G v1 v2 v3 σ Q2 E2 X22 := by
  unfold x_tryEquations_L9 at h ⊢
  intro Y hY
  exact h (fun v3 s => Fr wX_tryEquations σ0 s → Y v3 s) (fun v3 s h f => hY v3 s (fx_tryEquations_L9_b (v1 := v1) (v2 := v2) (v3 := v3) (Q := Q) (Q2 := Q2) (E := E) (E2 := E2) (X2 := X2) (X22 := X22) (X9 := fun v3 s => Fr wX_tryEquations σ0 s → Y v3 s) (X92 := Y) hG f h kQ kE kX2 (fun v3 s f h => h f))) fr
theorem lx_tryEquations_L9 {v1 : Int} {v2 : Int} {v3 : Int} {σ0 : S} {Q : Int → S → Prop} {E : S → Prop} {X2 : Int → S → Prop} {G : Orc} (hG : FrO wX_tryEquations G) (I : Int → S → Prop) (me : Int → S → Nat) (h0 : I v3 σ0) (step : ∀ (v3 : Int) (s : S), Fr wX_tryEquations σ0 s → I v3 s → (fun (Y0 : Int → S → Prop) => (if v3 < gI s 42 then inb v3 70 ∧ (if v2 = 1 then x_tryEquations_j33 G v1 v2 v3 1 (gA s 26 v3) s Q E X2 Y0 else x_tryEquations_j33 G v1 v2 v3 0 (gA s 26 v3) s Q E X2 Y0) else x_tryEquations_j62 G v1 v2 s Q E X2)) (fun v3' s' => I v3' s' ∧ me v3' s' < me v3 s)) : x_tryEquations_L9 G v1 v2 v3 σ0 Q E X2 := by
  unfold x_tryEquations_L9
  intro Y hY
  have key : ∀ (n : Nat) (v3 : Int) (s : S), me v3 s < n → Fr wX_tryEquations σ0 s → I v3 s → Y v3 s := by
    intro n
    induction n with
    | zero => intro v3 s h; exact absurd h (Nat.not_lt_zero _)
    | succ n ih =>
      intro v3 s hm fr hi
      exact hY v3 s (fx_tryEquations_L9_b (v1 := v1) (v2 := v2) (v3 := v3) (Q := Q) (Q2 := Q) (E := E) (E2 := E) (X2 := X2) (X22 := X2) (X9 := (fun v3' s' => I v3' s' ∧ me v3' s' < me v3 s)) (X92 := Y) hG fr (step v3 s fr hi) (fun _ _ _ h => h) (fun _ _ h => h) (fun _ _ _ h => h) (fun v3 s f h => ih v3 s (by omega) f h.1))
  exact key _ v3 σ0 (Nat.lt_succ_self _) Fr.rf h0
theorem fx_tryEquations_L2_b {v1 : Int} {v2 : Int} {σ0 σ : S} {Q Q2 : Int → S → Prop} {E E2 : S → Prop} {X2 X22 : Int → S → Prop} {G : Orc} (hG : FrO wX_tryEquations G) (fr : Fr wX_tryEquations σ0 σ) (h : (if v2 < 2 then x_tryEquations_L9 G v1 v2 0 σ Q E X2 else Q 0 σ)) (kQ : ∀ r s, Fr wX_tryEquations σ0 s → Q r s → Q2 r s) (kE : ∀ s, Fr wX_tryEquations σ0 s → E s → E2 s) (kX2 : ∀ v2 s, Fr wX_tryEquations σ0 s → X2 v2 s → X22 v2 s) : (if v2 < 2 then x_tryEquations_L9 G v1 v2 0 σ Q2 E2 X22 else Q2 0 σ) :=
  ite_m (fun _ h0 => fx_tryEquations_L9 hG fr h0 kQ kE kX2) (fun _ h0 => kQ _ _ fr h0) h
theorem fx_tryEquations_L2 {v1 : Int} {v2 : Int} {σ0 σ : S} {Q Q2 : Int → S → Prop} {E E2 : S → Prop} {G : Orc} (hG : FrO wX_tryEquations G) (fr : Fr wX_tryEquations σ0 σ) (h : x_tryEquations_L2 G v1 v2 σ Q E) (kQ : ∀ r s, Fr wX_tryEquations σ0 s → Q r s → Q2 r s) (kE : ∀ s, Fr wX_tryEquations σ0 s → E s → E2 s) : x_tryEquations_L2 G v1 v2 σ Q2 E2 := by
  unfold x_tryEquations_L2 at h ⊢
  intro Y hY
  exact h (fun v2 s => Fr wX_tryEquations σ0 s → Y v2 s) (fun v2 s h f => hY v2 s (fx_tryEquations_L2_b (v1 := v1) (v2 := v2) (Q := Q) (Q2 := Q2) (E := E) (E2 := E2) (X2 := fun v2 s => Fr wX_tryEquations σ0 s → Y v2 s) (X22 := Y) hG f h kQ kE (fun v2 s f h => h f))) fr
theorem lx_tryEquations_L2 {v1 : Int} {v2 : Int} {σ0 : S} {Q : Int → S → Prop} {E : S → Prop} {G : Orc} (hG : FrO wX_tryEquations G) (I : Int → S → Prop) (me : Int → S → Nat) (h0 : I v2 σ0) (step : ∀ (v2 : Int) (s : S), Fr wX_tryEquations σ0 s → I v2 s → (fun (Y0 : Int → S → Prop) => (if v2 < 2 then x_tryEquations_L9 G v1 v2 0 s Q E Y0 else Q 0 s)) (fun v2' s' => I v2' s' ∧ me v2' s' < me v2 s)) : x_tryEquations_L2 G v1 v2 σ0 Q E := by
  unfold x_tryEquations_L2
  intro Y hY
  have key : ∀ (n : Nat) (v2 : Int) (s : S), me v2 s < n → Fr wX_tryEquations σ0 s → I v2 s → Y v2 s := by
    intro n
    induction n with
    | zero => intro v2 s h; exact absurd h (Nat.not_lt_zero _)
    | succ n ih =>
      intro v2 s hm fr hi
      exact hY v2 s (fx_tryEquations_L2_b (v1 := v1) (v2 := v2) (Q := Q) (Q2 := Q) (E := E) (E2 := E) (X2 := (fun v2' s' => I v2' s' ∧ me v2' s' < me v2 s)) (X22 := Y) hG fr (step v2 s fr hi) (fun _ _ _ h => h) (fun _ _ h => h) (fun v2 s f h => ih v2 s (by omega) f h.1))
  exact key _ v2 σ0 (Nat.lt_succ_self _) Fr.rf h0
theorem fx_tryEquations_F {v1 : Int} {σ0 : S} {Q Q2 : Int → S → Prop} {E E2 : S → Prop} {G : Orc} (hG : FrO wX_tryEquations G) (h : x_tryEquations_F G v1 σ0 Q E) (kQ : ∀ r s, Fr wX_tryEquations σ0 s → Q r s → Q2 r s) (kE : ∀ s, Fr wX_tryEquations σ0 s → E s → E2 s) : x_tryEquations_F G v1 σ0 Q2 E2 := by
  have fr : Fr wX_tryEquations σ0 σ0 := Fr.rf
  unfold x_tryEquations_F at h ⊢
  exact fx_tryEquations_L2 hG fr h kQ kE
theorem fx_tryOne_j139 {v1 : Int} {v3 : Int} {v4 : Int} {v5 : Int} {v6 : Int} {v7 : Int} {σ0 σ : S} {Q Q2 : Int → S → Prop} {E E2 : S → Prop} {X50 X502 : Int → Int → S → Prop} {G : Orc} (hG : FrO wX_tryOne G) (fr : Fr wX_tryOne σ0 σ) (h : x_tryOne_j139 G v1 v3 v4 v5 v6 v7 σ Q E X50) (kQ : ∀ r s, Fr wX_tryOne σ0 s → Q r s → Q2 r s) (kE : ∀ s, Fr wX_tryOne σ0 s → E s → E2 s) (kX50 : ∀ a0 a1 s, Fr wX_tryOne σ0 s → X50 a0 a1 s → X502 a0 a1 s) : x_tryOne_j139 G v1 v3 v4 v5 v6 v7 σ Q2 E2 X502 := by
  unfold x_tryOne_j139 at h ⊢
  exact kX50 _ _ _ fr h
theorem fx_tryOne_j145 {v3 : Int} {v6 : Int} {σ0 σ : S} {Q Q2 : Int → S → Prop} {E E2 : S → Prop} {G : Orc} (hG : FrO wX_tryOne G) (fr : Fr wX_tryOne σ0 σ) (h : x_tryOne_j145 G v3 v6 σ Q E) (kQ : ∀ r s, Fr wX_tryOne σ0 s → Q r s → Q2 r s) (kE : ∀ s, Fr wX_tryOne σ0 s → E s → E2 s) : x_tryOne_j145 G v3 v6 σ Q2 E2 := by
  unfold x_tryOne_j145 at h ⊢
  exact fun σ_38 e0 => (have f0 : Fr wX_tryOne σ0 σ_38 := Fr.putI fr e0 rfl; kQ _ _ f0 (h σ_38 e0))
theorem fx_tryOne_L50_b {v1 : Int} {v3 : Int} {v4 : Int} {v5 : Int} {v6 : Int} {v7 : Int} {σ0 σ : S} {Q Q2 : Int → S → Prop} {E E2 : S → Prop} {X50 X502 : Int → Int → S → Prop} {G : Orc} (hG : FrO wX_tryOne G) (fr : Fr wX_tryOne σ0 σ) (h : (if (v7 < v4) ∧ (v6 = 0) then x_takeRow (w32 (v3 + v7)) σ (fun _ σ_16 => G 4 [v1, 0] σ_16 (fun r_18 σ_17 => (if r_18 = 0 then x_tryOne_j139 G v1 v3 v4 v5 v6 v7 σ_17 Q E X50 else inb v1 70 ∧ x_countFilled (gA σ_17 79 v1) σ_17 (fun _ σ_24 => inb (w32 (w32 (62 * (w32 (v3 + v7))) + 60)) 409200 ∧ inb v1 70 ∧ x_filled (gA σ_24 79 v1) σ_24 (fun r_31 σ_30 => inb (w32 (w32 (w32 (62 * (w32 (v3 + v7))) + 60) + 1)) 409200 ∧ x_beside v5 (gA σ_24 86 (w32 (w32 (62 * (w32 (v3 + v7))) + 60))) r_31 (gA σ_30 86 (w32 (w32 (w32 (62 * (w32 (v3 + v7))) + 60) + 1))) σ_30 (fun r_36 σ_35 => x_tryOne_j139 G v1 v3 v4 v5 r_36 v7 σ_35 Q E X50) E) E) E)) E) else x_tryOne_j145 G v3 v6 σ Q E)) (kQ : ∀ r s, Fr wX_tryOne σ0 s → Q r s → Q2 r s) (kE : ∀ s, Fr wX_tryOne σ0 s → E s → E2 s) (kX50 : ∀ v6 v7 s, Fr wX_tryOne σ0 s → X50 v6 v7 s → X502 v6 v7 s) : (if (v7 < v4) ∧ (v6 = 0) then x_takeRow (w32 (v3 + v7)) σ (fun _ σ_16 => G 4 [v1, 0] σ_16 (fun r_18 σ_17 => (if r_18 = 0 then x_tryOne_j139 G v1 v3 v4 v5 v6 v7 σ_17 Q2 E2 X502 else inb v1 70 ∧ x_countFilled (gA σ_17 79 v1) σ_17 (fun _ σ_24 => inb (w32 (w32 (62 * (w32 (v3 + v7))) + 60)) 409200 ∧ inb v1 70 ∧ x_filled (gA σ_24 79 v1) σ_24 (fun r_31 σ_30 => inb (w32 (w32 (w32 (62 * (w32 (v3 + v7))) + 60) + 1)) 409200 ∧ x_beside v5 (gA σ_24 86 (w32 (w32 (62 * (w32 (v3 + v7))) + 60))) r_31 (gA σ_30 86 (w32 (w32 (w32 (62 * (w32 (v3 + v7))) + 60) + 1))) σ_30 (fun r_36 σ_35 => x_tryOne_j139 G v1 v3 v4 v5 r_36 v7 σ_35 Q2 E2 X502) E2) E2) E2)) E2) else x_tryOne_j145 G v3 v6 σ Q2 E2) :=
  ite_m (fun _ h0 => fm_x_takeRow h0 (fun _ σ_16 f h1 => (have f1 : Fr wX_tryOne σ0 σ_16 := (fr.trans (f.weak (by decide +kernel))); hG _ _ _ _ _ _ _ h1 (fun r_18 σ_17 f h2 => (have f2 : Fr wX_tryOne σ0 σ_17 := (f1.trans f); ite_m (fun _ h3 => fx_tryOne_j139 hG f2 h3 kQ kE kX50) (fun _ h3 => ⟨h3.1, fm_x_countFilled h3.2 (fun _ σ_24 f h5 => (have f5 : Fr wX_tryOne σ0 σ_24 := (f2.trans (f.weak (by decide +kernel))); ⟨h5.1, ⟨h5.2.1, fm_x_filled h5.2.2 (fun r_31 σ_30 f h8 => (have f8 : Fr wX_tryOne σ0 σ_30 := (f5.trans (f.weak (by decide +kernel))); ⟨h8.1, fm_x_beside h8.2 (fun r_36 σ_35 f h10 => (have f10 : Fr wX_tryOne σ0 σ_35 := (f8.trans (f.weak (by decide +kernel))); fx_tryOne_j139 hG f10 h10 kQ kE kX50)) (fun s f h => kE _ (f8.trans (f.weak (by decide +kernel))) h)⟩)) (fun s f h => kE _ (f5.trans (f.weak (by decide +kernel))) h)⟩⟩)) (fun s f h => kE _ (f2.trans (f.weak (by decide +kernel))) h)⟩) h2)) (fun s f h => kE _ (f1.trans f) h)))) (fun _ h0 => fx_tryOne_j145 hG fr h0 kQ kE) h
theorem fx_tryOne_L50 {v1 : Int} {v3 : Int} {v4 : Int} {v5 : Int} {v6 : Int} {v7 : Int} {σ0 σ : S} {Q Q2 : Int → S → Prop} {E E2 : S → Prop} {G : Orc} (hG : FrO wX_tryOne G) (fr : Fr wX_tryOne σ0 σ) (h : x_tryOne_L50 G v1 v3 v4 v5 v6 v7 σ Q E) (kQ : ∀ r s, Fr wX_tryOne σ0 s → Q r s → Q2 r s) (kE : ∀ s, Fr wX_tryOne σ0 s → E s → E2 s) : x_tryOne_L50 G v1 v3 v4 v5 v6 v7 σ Q2 E2 := by
  unfold x_tryOne_L50 at h ⊢
  intro Y hY
  exact h (fun v6 v7 s => Fr wX_tryOne σ0 s → Y v6 v7 s) (fun v6 v7 s h f => hY v6 v7 s (fx_tryOne_L50_b (v1 := v1) (v3 := v3) (v4 := v4) (v5 := v5) (v6 := v6) (v7 := v7) (Q := Q) (Q2 := Q2) (E := E) (E2 := E2) (X50 := fun v6 v7 s => Fr wX_tryOne σ0 s → Y v6 v7 s) (X502 := Y) hG f h kQ kE (fun v6 v7 s f h => h f))) fr
theorem lx_tryOne_L50 {v1 : Int} {v3 : Int} {v4 : Int} {v5 : Int} {v6 : Int} {v7 : Int} {σ0 : S} {Q : Int → S → Prop} {E : S → Prop} {G : Orc} (hG : FrO wX_tryOne G) (I : Int → Int → S → Prop) (me : Int → Int → S → Nat) (h0 : I v6 v7 σ0) (step : ∀ (v6 : Int) (v7 : Int) (s : S), Fr wX_tryOne σ0 s → I v6 v7 s → (fun (Y0 : Int → Int → S → Prop) => (if (v7 < v4) ∧ (v6 = 0) then x_takeRow (w32 (v3 + v7)) s (fun _ σ_16 => G 4 [v1, 0] σ_16 (fun r_18 σ_17 => (if r_18 = 0 then x_tryOne_j139 G v1 v3 v4 v5 v6 v7 σ_17 Q E Y0 else inb v1 70 ∧ x_countFilled (gA σ_17 79 v1) σ_17 (fun _ σ_24 => inb (w32 (w32 (62 * (w32 (v3 + v7))) + 60)) 409200 ∧ inb v1 70 ∧ x_filled (gA σ_24 79 v1) σ_24 (fun r_31 σ_30 => inb (w32 (w32 (w32 (62 * (w32 (v3 + v7))) + 60) + 1)) 409200 ∧ x_beside v5 (gA σ_24 86 (w32 (w32 (62 * (w32 (v3 + v7))) + 60))) r_31 (gA σ_30 86 (w32 (w32 (w32 (62 * (w32 (v3 + v7))) + 60) + 1))) σ_30 (fun r_36 σ_35 => x_tryOne_j139 G v1 v3 v4 v5 r_36 v7 σ_35 Q E Y0) E) E) E)) E) else x_tryOne_j145 G v3 v6 s Q E)) (fun v6' v7' s' => I v6' v7' s' ∧ me v6' v7' s' < me v6 v7 s)) : x_tryOne_L50 G v1 v3 v4 v5 v6 v7 σ0 Q E := by
  unfold x_tryOne_L50
  intro Y hY
  have key : ∀ (n : Nat) (v6 : Int) (v7 : Int) (s : S), me v6 v7 s < n → Fr wX_tryOne σ0 s → I v6 v7 s → Y v6 v7 s := by
    intro n
    induction n with
    | zero => intro v6 v7 s h; exact absurd h (Nat.not_lt_zero _)
    | succ n ih =>
      intro v6 v7 s hm fr hi
      exact hY v6 v7 s (fx_tryOne_L50_b (v1 := v1) (v3 := v3) (v4 := v4) (v5 := v5) (v6 := v6) (v7 := v7) (Q := Q) (Q2 := Q) (E := E) (E2 := E) (X50 := (fun v6' v7' s' => I v6' v7' s' ∧ me v6' v7' s' < me v6 v7 s)) (X502 := Y) hG fr (step v6 v7 s fr hi) (fun _ _ _ h => h) (fun _ _ h => h) (fun v6 v7 s f h => ih v6 v7 s (by omega) f h.1))
  exact key _ v6 v7 σ0 (Nat.lt_succ_self _) Fr.rf h0
theorem fx_tryOne_F {v1 : Int} {v2 : Int} {σ0 : S} {Q Q2 : Int → S → Prop} {E E2 : S → Prop} {G : Orc} (hG : FrO wX_tryOne G) (h : x_tryOne_F G v1 v2 σ0 Q E) (kQ : ∀ r s, Fr wX_tryOne σ0 s → Q r s → Q2 r s) (kE : ∀ s, Fr wX_tryOne σ0 s → E s → E2 s) : x_tryOne_F G v1 v2 σ0 Q2 E2 := by
  have fr : Fr wX_tryOne σ0 σ0 := Fr.rf
  unfold x_tryOne_F at h ⊢
  exact fm_x_unbind h (fun _ σ_1 f h0 => (have f0 : Fr wX_tryOne σ0 σ_1 := (fr.trans (f.weak (by decide +kernel))); ⟨h0.1, fm_x_matchers h0.2 (fun r_6 σ_5 f h2 => (have f2 : Fr wX_tryOne σ0 σ_5 := (f0.trans (f.weak (by decide +kernel))); ⟨h2.1, ⟨h2.2.1, fun σ_12 e5 => (have f5 : Fr wX_tryOne σ0 σ_12 := Fr.putI f2 e5 rfl; fx_tryOne_L50 hG f5 (h2.2.2 σ_12 e5) kQ kE)⟩⟩)) (fun s f h => kE _ (f0.trans (f.weak (by decide +kernel))) h)⟩))
theorem fx_holds_j119 {v4 : Int} {v6 : Int} {σ0 σ : S} {Q Q2 : Int → S → Prop} {E E2 : S → Prop} {G : Orc} (hG : FrO wX_holds G) (fr : Fr wX_holds σ0 σ) (h : x_holds_j119 G v4 v6 σ Q E) (kQ : ∀ r s, Fr wX_holds σ0 s → Q r s → Q2 r s) (kE : ∀ s, Fr wX_holds σ0 s → E s → E2 s) : x_holds_j119 G v4 v6 σ Q2 E2 := by
  unfold x_holds_j119 at h ⊢
  exact fun σ_21 e0 => (have f0 : Fr wX_holds σ0 σ_21 := Fr.putI fr e0 rfl; kQ _ _ f0 (h σ_21 e0))
theorem fx_holds_L73_b {v1 : Int} {v2 : Int} {v4 : Int} {v5 : Int} {v6 : Int} {v7 : Int} {σ0 σ : S} {Q Q2 : Int → S → Prop} {E E2 : S → Prop} {X73 X732 : Int → Int → S → Prop} {G : Orc} (hG : FrO wX_holds G) (fr : Fr wX_holds σ0 σ) (h : (if (v7 < v5) ∧ (v6 = 0) then x_takeRow (w32 (v4 + v7)) σ (fun _ σ_15 => ∀ σ_16, σ_16 = pI σ_15 123 (w32 (v4 + v5)) → G 4 [v1, (w32 (v2 + 1))] σ_16 (fun r_19 σ_18 => X73 r_19 (w32 (v7 + 1)) σ_18) E) else x_holds_j119 G v4 v6 σ Q E)) (kQ : ∀ r s, Fr wX_holds σ0 s → Q r s → Q2 r s) (kE : ∀ s, Fr wX_holds σ0 s → E s → E2 s) (kX73 : ∀ v6 v7 s, Fr wX_holds σ0 s → X73 v6 v7 s → X732 v6 v7 s) : (if (v7 < v5) ∧ (v6 = 0) then x_takeRow (w32 (v4 + v7)) σ (fun _ σ_15 => ∀ σ_16, σ_16 = pI σ_15 123 (w32 (v4 + v5)) → G 4 [v1, (w32 (v2 + 1))] σ_16 (fun r_19 σ_18 => X732 r_19 (w32 (v7 + 1)) σ_18) E2) else x_holds_j119 G v4 v6 σ Q2 E2) :=
  ite_m (fun _ h0 => fm_x_takeRow h0 (fun _ σ_15 f h1 => (have f1 : Fr wX_holds σ0 σ_15 := (fr.trans (f.weak (by decide +kernel))); fun σ_16 e2 => (have f2 : Fr wX_holds σ0 σ_16 := Fr.putI f1 e2 rfl; hG _ _ _ _ _ _ _ (h1 σ_16 e2) (fun r_19 σ_18 f h3 => (have f3 : Fr wX_holds σ0 σ_18 := (f2.trans f); kX73 _ _ _ f3 h3)) (fun s f h => kE _ (f2.trans f) h))))) (fun _ h0 => fx_holds_j119 hG fr h0 kQ kE) h
theorem fx_holds_L73 {v1 : Int} {v2 : Int} {v4 : Int} {v5 : Int} {v6 : Int} {v7 : Int} {σ0 σ : S} {Q Q2 : Int → S → Prop} {E E2 : S → Prop} {G : Orc} (hG : FrO wX_holds G) (fr : Fr wX_holds σ0 σ) (h : x_holds_L73 G v1 v2 v4 v5 v6 v7 σ Q E) (kQ : ∀ r s, Fr wX_holds σ0 s → Q r s → Q2 r s) (kE : ∀ s, Fr wX_holds σ0 s → E s → E2 s) : x_holds_L73 G v1 v2 v4 v5 v6 v7 σ Q2 E2 := by
  unfold x_holds_L73 at h ⊢
  intro Y hY
  exact h (fun v6 v7 s => Fr wX_holds σ0 s → Y v6 v7 s) (fun v6 v7 s h f => hY v6 v7 s (fx_holds_L73_b (v1 := v1) (v2 := v2) (v4 := v4) (v5 := v5) (v6 := v6) (v7 := v7) (Q := Q) (Q2 := Q2) (E := E) (E2 := E2) (X73 := fun v6 v7 s => Fr wX_holds σ0 s → Y v6 v7 s) (X732 := Y) hG f h kQ kE (fun v6 v7 s f h => h f))) fr
theorem lx_holds_L73 {v1 : Int} {v2 : Int} {v4 : Int} {v5 : Int} {v6 : Int} {v7 : Int} {σ0 : S} {Q : Int → S → Prop} {E : S → Prop} {G : Orc} (hG : FrO wX_holds G) (I : Int → Int → S → Prop) (me : Int → Int → S → Nat) (h0 : I v6 v7 σ0) (step : ∀ (v6 : Int) (v7 : Int) (s : S), Fr wX_holds σ0 s → I v6 v7 s → (fun (Y0 : Int → Int → S → Prop) => (if (v7 < v5) ∧ (v6 = 0) then x_takeRow (w32 (v4 + v7)) s (fun _ σ_15 => ∀ σ_16, σ_16 = pI σ_15 123 (w32 (v4 + v5)) → G 4 [v1, (w32 (v2 + 1))] σ_16 (fun r_19 σ_18 => Y0 r_19 (w32 (v7 + 1)) σ_18) E) else x_holds_j119 G v4 v6 s Q E)) (fun v6' v7' s' => I v6' v7' s' ∧ me v6' v7' s' < me v6 v7 s)) : x_holds_L73 G v1 v2 v4 v5 v6 v7 σ0 Q E := by
  unfold x_holds_L73
  intro Y hY
  have key : ∀ (n : Nat) (v6 : Int) (v7 : Int) (s : S), me v6 v7 s < n → Fr wX_holds σ0 s → I v6 v7 s → Y v6 v7 s := by
    intro n
    induction n with
    | zero => intro v6 v7 s h; exact absurd h (Nat.not_lt_zero _)
    | succ n ih =>
      intro v6 v7 s hm fr hi
      exact hY v6 v7 s (fx_holds_L73_b (v1 := v1) (v2 := v2) (v4 := v4) (v5 := v5) (v6 := v6) (v7 := v7) (Q := Q) (Q2 := Q) (E := E) (E2 := E) (X73 := (fun v6' v7' s' => I v6' v7' s' ∧ me v6' v7' s' < me v6 v7 s)) (X732 := Y) hG fr (step v6 v7 s fr hi) (fun _ _ _ h => h) (fun _ _ h => h) (fun v6 v7 s f h => ih v6 v7 s (by omega) f h.1))
  exact key _ v6 v7 σ0 (Nat.lt_succ_self _) Fr.rf h0
theorem fx_holds_j52 {σ0 σ : S} {Q Q2 : Int → S → Prop} {E E2 : S → Prop} {G : Orc} (hG : FrO wX_holds G) (fr : Fr wX_holds σ0 σ) (h : x_holds_j52 G  σ Q E) (kQ : ∀ r s, Fr wX_holds σ0 s → Q r s → Q2 r s) (kE : ∀ s, Fr wX_holds σ0 s → E s → E2 s) : x_holds_j52 G  σ Q2 E2 := by
  unfold x_holds_j52 at h ⊢
  exact kQ _ _ fr h
theorem fx_holds_F {v1 : Int} {v2 : Int} {σ0 : S} {Q Q2 : Int → S → Prop} {E E2 : S → Prop} {G : Orc} (hG : FrO wX_holds G) (h : x_holds_F G v1 v2 σ0 Q E) (kQ : ∀ r s, Fr wX_holds σ0 s → Q r s → Q2 r s) (kE : ∀ s, Fr wX_holds σ0 s → E s → E2 s) : x_holds_F G v1 v2 σ0 Q2 E2 := by
  have fr : Fr wX_holds σ0 σ0 := Fr.rf
  unfold x_holds_F at h ⊢
  exact ⟨h.1, ite_m (fun _ h1 => kQ _ _ fr h1) (fun _ h1 => ⟨h1.1, ite_m (fun _ h3 => hG _ _ _ _ _ _ _ h3 (fun r_11 σ_10 f h4 => (have f4 : Fr wX_holds σ0 σ_10 := (fr.trans f); fx_holds_L73 hG f4 h4 kQ kE)) (fun s f h => kE _ (fr.trans f) h)) (fun _ h3 => hG _ _ _ _ _ _ _ h3 (fun r_27 σ_26 f h4 => (have f4 : Fr wX_holds σ0 σ_26 := (fr.trans f); ite_m (fun _ h5 => fx_holds_j52 hG f4 h5 kQ kE) (fun _ h5 => hG _ _ _ _ _ _ _ h5 (fun r_32 σ_31 f h6 => (have f6 : Fr wX_holds σ0 σ_31 := (f4.trans f); ite_m (fun _ h7 => fx_holds_j52 hG f6 h7 kQ kE) (fun _ h7 => kQ _ _ f6 h7) h6)) (fun s f h => kE _ (f4.trans f) h)) h4)) (fun s f h => kE _ (fr.trans f) h)) h1.2⟩) h.2⟩
theorem fx_reduced_F {v1 : Int} {σ0 : S} {Q Q2 : Int → S → Prop} {E E2 : S → Prop} {G : Orc} (hG : FrO wX_reduced G) (h : x_reduced_F G v1 σ0 Q E) (kQ : ∀ r s, Fr wX_reduced σ0 s → Q r s → Q2 r s) (kE : ∀ s, Fr wX_reduced σ0 s → E s → E2 s) : x_reduced_F G v1 σ0 Q2 E2 := by
  have fr : Fr wX_reduced σ0 σ0 := Fr.rf
  unfold x_reduced_F at h ⊢
  exact fm_x_countFilled h (fun _ σ_1 f h0 => (have f0 : Fr wX_reduced σ0 σ_1 := (fr.trans (f.weak (by decide +kernel))); fm_x_filled h0 (fun r_4 σ_3 f h1 => (have f1 : Fr wX_reduced σ0 σ_3 := (f0.trans (f.weak (by decide +kernel))); fm_x_keepBound h1 (fun _ σ_6 f h2 => (have f2 : Fr wX_reduced σ0 σ_6 := (f1.trans (f.weak (by decide +kernel))); fun σ_9 e3 => (have f3 : Fr wX_reduced σ0 σ_9 := Fr.putI f2 e3 rfl; hG _ _ _ _ _ _ _ (h2 σ_9 e3) (fun r_12 σ_11 f h4 => (have f4 : Fr wX_reduced σ0 σ_11 := (f3.trans f); fun σ_14 e5 => (have f5 : Fr wX_reduced σ0 σ_14 := Fr.putI f4 e5 rfl; fm_x_takeBound (h4 σ_14 e5) (fun _ σ_16 f h6 => (have f6 : Fr wX_reduced σ0 σ_16 := (f5.trans (f.weak (by decide +kernel))); kQ _ _ f6 h6))))) (fun s f h => kE _ (f3.trans f) h)))))) (fun s f h => kE _ (f0.trans (f.weak (by decide +kernel))) h))) (fun s f h => kE _ (fr.trans (f.weak (by decide +kernel))) h)
theorem fx_isTrue_j55 {σ0 σ : S} {Q Q2 : Int → S → Prop} {E E2 : S → Prop} {G : Orc} (hG : FrO wX_isTrue G) (fr : Fr wX_isTrue σ0 σ) (h : x_isTrue_j55 G  σ Q E) (kQ : ∀ r s, Fr wX_isTrue σ0 s → Q r s → Q2 r s) (kE : ∀ s, Fr wX_isTrue σ0 s → E s → E2 s) : x_isTrue_j55 G  σ Q2 E2 := by
  unfold x_isTrue_j55 at h ⊢
  exact kQ _ _ fr h
theorem fx_isTrue_F {v1 : Int} {σ0 : S} {Q Q2 : Int → S → Prop} {E E2 : S → Prop} {G : Orc} (hG : FrO wX_isTrue G) (h : x_isTrue_F G v1 σ0 Q E) (kQ : ∀ r s, Fr wX_isTrue σ0 s → Q r s → Q2 r s) (kE : ∀ s, Fr wX_isTrue σ0 s → E s → E2 s) : x_isTrue_F G v1 σ0 Q2 E2 := by
  have fr : Fr wX_isTrue σ0 σ0 := Fr.rf
  unfold x_isTrue_F at h ⊢
  exact ⟨h.1, hG _ _ _ _ _ _ _ h.2 (fun r_4 σ_3 f h1 => (have f1 : Fr wX_isTrue σ0 σ_3 := (fr.trans f); ⟨h1.1, ite_m (fun _ h3 => ⟨h3.1, ite_m (fun _ h5 => fx_isTrue_j55 hG f1 h5 kQ kE) (fun _ h5 => ⟨h5.1, ⟨h5.2.1, fm_x_isBelow h5.2.2 (fun r_27 σ_26 f h8 => (have f8 : Fr wX_isTrue σ0 σ_26 := (f1.trans (f.weak (by decide +kernel))); ite_m (fun _ h9 => fx_isTrue_j55 hG f8 h9 kQ kE) (fun _ h9 => kQ _ _ f8 h9) h8))⟩⟩) h3.2⟩) (fun _ h3 => ⟨h3.1, hG _ _ _ _ _ _ _ h3.2 (fun r_13 σ_12 f h5 => (have f5 : Fr wX_isTrue σ0 σ_12 := (f1.trans f); kQ _ _ f5 h5)) (fun s f h => kE _ (f1.trans f) h)⟩) h1.2⟩)) (fun s f h => kE _ (fr.trans f) h)⟩
theorem fx_matchCondition_F {v1 : Int} {σ0 : S} {Q Q2 : Int → S → Prop} {E E2 : S → Prop} {G : Orc} (hG : FrO wX_matchCondition G) (h : x_matchCondition_F G v1 σ0 Q E) (kQ : ∀ r s, Fr wX_matchCondition σ0 s → Q r s → Q2 r s) (kE : ∀ s, Fr wX_matchCondition σ0 s → E s → E2 s) : x_matchCondition_F G v1 σ0 Q2 E2 := by
  have fr : Fr wX_matchCondition σ0 σ0 := Fr.rf
  unfold x_matchCondition_F at h ⊢
  exact ⟨h.1, fm_x_countFilled h.2 (fun _ σ_3 f h1 => (have f1 : Fr wX_matchCondition σ0 σ_3 := (fr.trans (f.weak (by decide +kernel))); ⟨h1.1, hG _ _ _ _ _ _ _ h1.2 (fun r_8 σ_7 f h3 => (have f3 : Fr wX_matchCondition σ0 σ_7 := (f1.trans f); ⟨h3.1, fm_x_matchers h3.2 (fun r_13 σ_12 f h5 => (have f5 : Fr wX_matchCondition σ0 σ_12 := (f3.trans (f.weak (by decide +kernel))); kQ _ _ f5 h5)) (fun s f h => kE _ (f3.trans (f.weak (by decide +kernel))) h)⟩)) (fun s f h => kE _ (f1.trans f) h)⟩)) (fun s f h => kE _ (fr.trans (f.weak (by decide +kernel))) h)⟩
theorem fo_x_S_toRest : ∀ n, FrO wX_toRest (x_S_toRest n)
  | 0 => fun _ _ _ _ _ _ _ h _ _ => h.elim
  | n + 1 => fun i a σ Q Q2 E E2 h kQ kE => by
    unfold x_S_toRest at h ⊢
    split at h
    · exact fx_toRest_F (fo_x_S_toRest n) h kQ kE
    · exact fx_reduceRow_F (fo_x_S_toRest n) h kQ kE
    · exact fx_tryEquations_F (fo_x_S_toRest n) h kQ kE
    · exact fx_tryOne_F (fo_x_S_toRest n) h kQ kE
    · exact fx_holds_F (fo_x_S_toRest n) h kQ kE
    · exact fx_reduced_F (fo_x_S_toRest n) h kQ kE
    · exact fx_isTrue_F (fo_x_S_toRest n) h kQ kE
    · exact fx_matchCondition_F (fo_x_S_toRest n) h kQ kE
    · exact h.elim
theorem fm_x_toRest {v1 : Int} {σ0 : S} {Q Q2 : Int → S → Prop} {E E2 : S → Prop} (h : x_toRest v1 σ0 Q E) (kQ : ∀ r s, Fr wX_toRest σ0 s → Q r s → Q2 r s) (kE : ∀ s, Fr wX_toRest σ0 s → E s → E2 s) : x_toRest v1 σ0 Q2 E2 := fo_x_S_toRest 720 _ _ _ _ _ _ _ h kQ kE
theorem fm_x_reduceRow {v1 : Int} {σ0 : S} {Q Q2 : Int → S → Prop} {E E2 : S → Prop} (h : x_reduceRow v1 σ0 Q E) (kQ : ∀ r s, Fr wX_reduceRow σ0 s → Q r s → Q2 r s) (kE : ∀ s, Fr wX_reduceRow σ0 s → E s → E2 s) : x_reduceRow v1 σ0 Q2 E2 := fo_x_S_toRest 720 _ _ _ _ _ _ _ h kQ kE
theorem fm_x_tryEquations {v1 : Int} {σ0 : S} {Q Q2 : Int → S → Prop} {E E2 : S → Prop} (h : x_tryEquations v1 σ0 Q E) (kQ : ∀ r s, Fr wX_tryEquations σ0 s → Q r s → Q2 r s) (kE : ∀ s, Fr wX_tryEquations σ0 s → E s → E2 s) : x_tryEquations v1 σ0 Q2 E2 := fo_x_S_toRest 720 _ _ _ _ _ _ _ h kQ kE
theorem fm_x_tryOne {v1 : Int} {v2 : Int} {σ0 : S} {Q Q2 : Int → S → Prop} {E E2 : S → Prop} (h : x_tryOne v1 v2 σ0 Q E) (kQ : ∀ r s, Fr wX_tryOne σ0 s → Q r s → Q2 r s) (kE : ∀ s, Fr wX_tryOne σ0 s → E s → E2 s) : x_tryOne v1 v2 σ0 Q2 E2 := fo_x_S_toRest 720 _ _ _ _ _ _ _ h kQ kE
theorem fm_x_holds {v1 : Int} {v2 : Int} {σ0 : S} {Q Q2 : Int → S → Prop} {E E2 : S → Prop} (h : x_holds v1 v2 σ0 Q E) (kQ : ∀ r s, Fr wX_holds σ0 s → Q r s → Q2 r s) (kE : ∀ s, Fr wX_holds σ0 s → E s → E2 s) : x_holds v1 v2 σ0 Q2 E2 := fo_x_S_toRest 720 _ _ _ _ _ _ _ h kQ kE
theorem fm_x_reduced {v1 : Int} {σ0 : S} {Q Q2 : Int → S → Prop} {E E2 : S → Prop} (h : x_reduced v1 σ0 Q E) (kQ : ∀ r s, Fr wX_reduced σ0 s → Q r s → Q2 r s) (kE : ∀ s, Fr wX_reduced σ0 s → E s → E2 s) : x_reduced v1 σ0 Q2 E2 := fo_x_S_toRest 720 _ _ _ _ _ _ _ h kQ kE
theorem fm_x_isTrue {v1 : Int} {σ0 : S} {Q Q2 : Int → S → Prop} {E E2 : S → Prop} (h : x_isTrue v1 σ0 Q E) (kQ : ∀ r s, Fr wX_isTrue σ0 s → Q r s → Q2 r s) (kE : ∀ s, Fr wX_isTrue σ0 s → E s → E2 s) : x_isTrue v1 σ0 Q2 E2 := fo_x_S_toRest 720 _ _ _ _ _ _ _ h kQ kE
theorem fm_x_matchCondition {v1 : Int} {σ0 : S} {Q Q2 : Int → S → Prop} {E E2 : S → Prop} (h : x_matchCondition v1 σ0 Q E) (kQ : ∀ r s, Fr wX_matchCondition σ0 s → Q r s → Q2 r s) (kE : ∀ s, Fr wX_matchCondition σ0 s → E s → E2 s) : x_matchCondition v1 σ0 Q2 E2 := fo_x_S_toRest 720 _ _ _ _ _ _ _ h kQ kE
theorem fx_found_j158 {v1 : Int} {v3 : Int} {σ0 σ : S} {Q Q2 : Int → S → Prop} {E E2 : S → Prop} (fr : Fr wX_found σ0 σ) (h : x_found_j158 v1 v3 σ Q E) (kQ : ∀ r s, Fr wX_found σ0 s → Q r s → Q2 r s) (kE : ∀ s, Fr wX_found σ0 s → E s → E2 s) : x_found_j158 v1 v3 σ Q2 E2 := by
  unfold x_found_j158 at h ⊢
  exact ite_m (fun _ h0 => fm_x_stop h0 (fun _ σ_29 f h1 => (have f1 : Fr wX_found σ0 σ_29 := (fr.trans (f.weak (by decide +kernel))); kE _ f1 h1))) (fun _ h0 => ⟨h0.1, fun σ_20 e2 => (have f2 : Fr wX_found σ0 σ_20 := Fr.putA fr e2 rfl; fun σ_24 e3 => (have f3 : Fr wX_found σ0 σ_24 := Fr.putI f2 e3 rfl; ⟨((h0.2 σ_20 e2) σ_24 e3).1, fun σ_26 e5 => (have f5 : Fr wX_found σ0 σ_26 := Fr.putA f3 e5 rfl; kQ _ _ f5 (((h0.2 σ_20 e2) σ_24 e3).2 σ_26 e5))⟩))⟩) h
theorem fx_found_L131_b {v1 : Int} {v3 : Int} {v4 : Int} {σ0 σ : S} {Q Q2 : Int → S → Prop} {E E2 : S → Prop} {X131 X1312 : Int → S → Prop} (fr : Fr wX_found σ0 σ) (h : (if v4 < gI σ 146 then inb v4 61 ∧ (if gA σ 93 v4 = v3 then Q 0 σ else X131 (w32 (v4 + 1)) σ) else x_found_j158 v1 v3 σ Q E)) (kQ : ∀ r s, Fr wX_found σ0 s → Q r s → Q2 r s) (kE : ∀ s, Fr wX_found σ0 s → E s → E2 s) (kX131 : ∀ v4 s, Fr wX_found σ0 s → X131 v4 s → X1312 v4 s) : (if v4 < gI σ 146 then inb v4 61 ∧ (if gA σ 93 v4 = v3 then Q2 0 σ else X1312 (w32 (v4 + 1)) σ) else x_found_j158 v1 v3 σ Q2 E2) :=
  ite_m (fun _ h0 => ⟨h0.1, ite_m (fun _ h2 => kQ _ _ fr h2) (fun _ h2 => kX131 _ _ fr h2) h0.2⟩) (fun _ h0 => fx_found_j158 fr h0 kQ kE) h
theorem fx_found_L131 {v1 : Int} {v3 : Int} {v4 : Int} {σ0 σ : S} {Q Q2 : Int → S → Prop} {E E2 : S → Prop} (fr : Fr wX_found σ0 σ) (h : x_found_L131 v1 v3 v4 σ Q E) (kQ : ∀ r s, Fr wX_found σ0 s → Q r s → Q2 r s) (kE : ∀ s, Fr wX_found σ0 s → E s → E2 s) : x_found_L131 v1 v3 v4 σ Q2 E2 := by
  unfold x_found_L131 at h ⊢
  intro Y hY
  exact h (fun v4 s => Fr wX_found σ0 s → Y v4 s) (fun v4 s h f => hY v4 s (fx_found_L131_b (v1 := v1) (v3 := v3) (v4 := v4) (Q := Q) (Q2 := Q2) (E := E) (E2 := E2) (X131 := fun v4 s => Fr wX_found σ0 s → Y v4 s) (X1312 := Y) f h kQ kE (fun v4 s f h => h f))) fr
theorem lx_found_L131 {v1 : Int} {v3 : Int} {v4 : Int} {σ0 : S} {Q : Int → S → Prop} {E : S → Prop} (I : Int → S → Prop) (me : Int → S → Nat) (h0 : I v4 σ0) (step : ∀ (v4 : Int) (s : S), Fr wX_found σ0 s → I v4 s → (fun (Y0 : Int → S → Prop) => (if v4 < gI s 146 then inb v4 61 ∧ (if gA s 93 v4 = v3 then Q 0 s else Y0 (w32 (v4 + 1)) s) else x_found_j158 v1 v3 s Q E)) (fun v4' s' => I v4' s' ∧ me v4' s' < me v4 s)) : x_found_L131 v1 v3 v4 σ0 Q E := by
  unfold x_found_L131
  intro Y hY
  have key : ∀ (n : Nat) (v4 : Int) (s : S), me v4 s < n → Fr wX_found σ0 s → I v4 s → Y v4 s := by
    intro n
    induction n with
    | zero => intro v4 s h; exact absurd h (Nat.not_lt_zero _)
    | succ n ih =>
      intro v4 s hm fr hi
      exact hY v4 s (fx_found_L131_b (v1 := v1) (v3 := v3) (v4 := v4) (Q := Q) (Q2 := Q) (E := E) (E2 := E) (X131 := (fun v4' s' => I v4' s' ∧ me v4' s' < me v4 s)) (X1312 := Y) fr (step v4 s fr hi) (fun _ _ _ h => h) (fun _ _ h => h) (fun v4 s f h => ih v4 s (by omega) f h.1))
  exact key _ v4 σ0 (Nat.lt_succ_self _) Fr.rf h0
theorem fx_found_j105 {v1 : Int} {v3 : Int} {σ0 σ : S} {Q Q2 : Int → S → Prop} {E E2 : S → Prop} (fr : Fr wX_found σ0 σ) (h : x_found_j105 v1 v3 σ Q E) (kQ : ∀ r s, Fr wX_found σ0 s → Q r s → Q2 r s) (kE : ∀ s, Fr wX_found σ0 s → E s → E2 s) : x_found_j105 v1 v3 σ Q2 E2 := by
  unfold x_found_j105 at h ⊢
  exact fm_x_countFilled h (fun _ σ_4 f h0 => (have f0 : Fr wX_found σ0 σ_4 := (fr.trans (f.weak (by decide +kernel))); fm_x_keepBound h0 (fun _ σ_6 f h1 => (have f1 : Fr wX_found σ0 σ_6 := (f0.trans (f.weak (by decide +kernel))); fm_x_toRest h1 (fun r_8 σ_7 f h2 => (have f2 : Fr wX_found σ0 σ_7 := (f1.trans (f.weak (by decide +kernel))); fm_x_takeBound h2 (fun _ σ_10 f h3 => (have f3 : Fr wX_found σ0 σ_10 := (f2.trans (f.weak (by decide +kernel))); fm_x_countStep h3 (fun _ σ_11 f h4 => (have f4 : Fr wX_found σ0 σ_11 := (f3.trans (f.weak (by decide +kernel))); fx_found_L131 f4 h4 kQ kE)) (fun s f h => kE _ (f3.trans (f.weak (by decide +kernel))) h))))) (fun s f h => kE _ (f1.trans (f.weak (by decide +kernel))) h))))) (fun s f h => kE _ (fr.trans (f.weak (by decide +kernel))) h)
theorem fx_found_j80 {v1 : Int} {v4 : Int} {v5 : Int} {σ0 σ : S} {Q Q2 : Int → S → Prop} {E E2 : S → Prop} {X10 X102 : Int → Int → S → Prop} (fr : Fr wX_found σ0 σ) (h : x_found_j80 v1 v4 v5 σ Q E X10) (kQ : ∀ r s, Fr wX_found σ0 s → Q r s → Q2 r s) (kE : ∀ s, Fr wX_found σ0 s → E s → E2 s) (kX10 : ∀ a0 a1 s, Fr wX_found σ0 s → X10 a0 a1 s → X102 a0 a1 s) : x_found_j80 v1 v4 v5 σ Q2 E2 X102 := by
  unfold x_found_j80 at h ⊢
  exact ⟨h.1, ⟨h.2.1, fm_x_make h.2.2 (fun r_46 σ_45 f h2 => (have f2 : Fr wX_found σ0 σ_45 := (fr.trans (f.weak (by decide +kernel))); kX10 _ _ _ f2 h2)) (fun s f h => kE _ (fr.trans (f.weak (by decide +kernel))) h)⟩⟩
theorem fx_found_j71 {v1 : Int} {v3 : Int} {v4 : Int} {v5 : Int} {v6 : Int} {s0 : Int} {σ0 σ : S} {Q Q2 : Int → S → Prop} {E E2 : S → Prop} {X10 X102 : Int → Int → S → Prop} {X24 X242 : Int → S → Prop} (fr : Fr wX_found σ0 σ) (h : x_found_j71 v1 v3 v4 v5 v6 s0 σ Q E X10 X24) (kQ : ∀ r s, Fr wX_found σ0 s → Q r s → Q2 r s) (kE : ∀ s, Fr wX_found σ0 s → E s → E2 s) (kX10 : ∀ a0 a1 s, Fr wX_found σ0 s → X10 a0 a1 s → X102 a0 a1 s) (kX24 : ∀ a0 s, Fr wX_found σ0 s → X24 a0 s → X242 a0 s) : x_found_j71 v1 v3 v4 v5 v6 s0 σ Q2 E2 X102 X242 := by
  unfold x_found_j71 at h ⊢
  exact fm_x_push h (fun _ σ_56 f h0 => (have f0 : Fr wX_found σ0 σ_56 := (fr.trans (f.weak (by decide +kernel))); kX24 _ _ f0 h0))
theorem fx_found_L24_b {v1 : Int} {v3 : Int} {v4 : Int} {v5 : Int} {v6 : Int} {σ0 σ : S} {Q Q2 : Int → S → Prop} {E E2 : S → Prop} {X10 X102 : Int → Int → S → Prop} {X24 X242 : Int → S → Prop} (fr : Fr wX_found σ0 σ) (h : inb v4 80 ∧ inb (gA σ 95 v4) 200000 ∧ (if v6 < gA σ 68 (gA σ 95 v4) then inb v4 80 ∧ (if v6 = gA σ 96 v4 then x_found_j71 v1 v3 v4 v5 v6 v3 σ Q E X10 X24 else inb v4 80 ∧ x_at (gA σ 95 v4) v6 σ (fun r_55 σ_54 => x_found_j71 v1 v3 v4 v5 v6 r_55 σ_54 Q E X10 X24)) else x_found_j80 v1 v4 v5 σ Q E X10)) (kQ : ∀ r s, Fr wX_found σ0 s → Q r s → Q2 r s) (kE : ∀ s, Fr wX_found σ0 s → E s → E2 s) (kX10 : ∀ a0 a1 s, Fr wX_found σ0 s → X10 a0 a1 s → X102 a0 a1 s) (kX24 : ∀ v6 s, Fr wX_found σ0 s → X24 v6 s → X242 v6 s) : inb v4 80 ∧ inb (gA σ 95 v4) 200000 ∧ (if v6 < gA σ 68 (gA σ 95 v4) then inb v4 80 ∧ (if v6 = gA σ 96 v4 then x_found_j71 v1 v3 v4 v5 v6 v3 σ Q2 E2 X102 X242 else inb v4 80 ∧ x_at (gA σ 95 v4) v6 σ (fun r_55 σ_54 => x_found_j71 v1 v3 v4 v5 v6 r_55 σ_54 Q2 E2 X102 X242)) else x_found_j80 v1 v4 v5 σ Q2 E2 X102) :=
  ⟨h.1, ⟨h.2.1, ite_m (fun _ h2 => ⟨h2.1, ite_m (fun _ h4 => fx_found_j71 fr h4 kQ kE kX10 kX24) (fun _ h4 => ⟨h4.1, fm_x_at h4.2 (fun r_55 σ_54 f h6 => (have f6 : Fr wX_found σ0 σ_54 := (fr.trans (f.weak (by decide +kernel))); fx_found_j71 f6 h6 kQ kE kX10 kX24))⟩) h2.2⟩) (fun _ h2 => fx_found_j80 fr h2 kQ kE kX10) h.2.2⟩⟩
theorem fx_found_L24 {v1 : Int} {v3 : Int} {v4 : Int} {v5 : Int} {v6 : Int} {σ0 σ : S} {Q Q2 : Int → S → Prop} {E E2 : S → Prop} {X10 X102 : Int → Int → S → Prop} (fr : Fr wX_found σ0 σ) (h : x_found_L24 v1 v3 v4 v5 v6 σ Q E X10) (kQ : ∀ r s, Fr wX_found σ0 s → Q r s → Q2 r s) (kE : ∀ s, Fr wX_found σ0 s → E s → E2 s) (kX10 : ∀ a0 a1 s, Fr wX_found σ0 s → X10 a0 a1 s → X102 a0 a1 s) : x_found_L24 v1 v3 v4 v5 v6 σ Q2 E2 X102 := by
  unfold x_found_L24 at h ⊢
  intro Y hY
  exact h (fun v6 s => Fr wX_found σ0 s → Y v6 s) (fun v6 s h f => hY v6 s (fx_found_L24_b (v1 := v1) (v3 := v3) (v4 := v4) (v5 := v5) (v6 := v6) (Q := Q) (Q2 := Q2) (E := E) (E2 := E2) (X10 := X10) (X102 := X102) (X24 := fun v6 s => Fr wX_found σ0 s → Y v6 s) (X242 := Y) f h kQ kE kX10 (fun v6 s f h => h f))) fr
theorem lx_found_L24 {v1 : Int} {v3 : Int} {v4 : Int} {v5 : Int} {v6 : Int} {σ0 : S} {Q : Int → S → Prop} {E : S → Prop} {X10 : Int → Int → S → Prop} (I : Int → S → Prop) (me : Int → S → Nat) (h0 : I v6 σ0) (step : ∀ (v6 : Int) (s : S), Fr wX_found σ0 s → I v6 s → (fun (Y0 : Int → S → Prop) => inb v4 80 ∧ inb (gA s 95 v4) 200000 ∧ (if v6 < gA s 68 (gA s 95 v4) then inb v4 80 ∧ (if v6 = gA s 96 v4 then x_found_j71 v1 v3 v4 v5 v6 v3 s Q E X10 Y0 else inb v4 80 ∧ x_at (gA s 95 v4) v6 s (fun r_55 σ_54 => x_found_j71 v1 v3 v4 v5 v6 r_55 σ_54 Q E X10 Y0)) else x_found_j80 v1 v4 v5 s Q E X10)) (fun v6' s' => I v6' s' ∧ me v6' s' < me v6 s)) : x_found_L24 v1 v3 v4 v5 v6 σ0 Q E X10 := by
  unfold x_found_L24
  intro Y hY
  have key : ∀ (n : Nat) (v6 : Int) (s : S), me v6 s < n → Fr wX_found σ0 s → I v6 s → Y v6 s := by
    intro n
    induction n with
    | zero => intro v6 s h; exact absurd h (Nat.not_lt_zero _)
    | succ n ih =>
      intro v6 s hm fr hi
      exact hY v6 s (fx_found_L24_b (v1 := v1) (v3 := v3) (v4 := v4) (v5 := v5) (v6 := v6) (Q := Q) (Q2 := Q) (E := E) (E2 := E) (X10 := X10) (X102 := X10) (X24 := (fun v6' s' => I v6' s' ∧ me v6' s' < me v6 s)) (X242 := Y) fr (step v6 s fr hi) (fun _ _ _ h => h) (fun _ _ h => h) (fun _ _ _ _ h => h) (fun v6 s f h => ih v6 s (by omega) f h.1))
  exact key _ v6 σ0 (Nat.lt_succ_self _) Fr.rf h0
theorem fx_found_L10_b {v1 : Int} {v3 : Int} {v4 : Int} {σ0 σ : S} {Q Q2 : Int → S → Prop} {E E2 : S → Prop} {X10 X102 : Int → Int → S → Prop} (fr : Fr wX_found σ0 σ) (h : (if v4 < 0 then x_found_j105 v1 v3 σ Q E else x_found_L24 v1 v3 v4 (gI σ 106) 0 σ Q E X10)) (kQ : ∀ r s, Fr wX_found σ0 s → Q r s → Q2 r s) (kE : ∀ s, Fr wX_found σ0 s → E s → E2 s) (kX10 : ∀ v3 v4 s, Fr wX_found σ0 s → X10 v3 v4 s → X102 v3 v4 s) : (if v4 < 0 then x_found_j105 v1 v3 σ Q2 E2 else x_found_L24 v1 v3 v4 (gI σ 106) 0 σ Q2 E2 X102) :=
  ite_m (fun _ h0 => fx_found_j105 fr h0 kQ kE) (fun _ h0 => fx_found_L24 fr h0 kQ kE kX10) h
theorem fx_found_L10 {v1 : Int} {v3 : Int} {v4 : Int} {σ0 σ : S} {Q Q2 : Int → S → Prop} {E E2 : S → Prop} (fr : Fr wX_found σ0 σ) (h : x_found_L10 v1 v3 v4 σ Q E) (kQ : ∀ r s, Fr wX_found σ0 s → Q r s → Q2 r s) (kE : ∀ s, Fr wX_found σ0 s → E s → E2 s) : x_found_L10 v1 v3 v4 σ Q2 E2 := by
  unfold x_found_L10 at h ⊢
  intro Y hY
  exact h (fun v3 v4 s => Fr wX_found σ0 s → Y v3 v4 s) (fun v3 v4 s h f => hY v3 v4 s (fx_found_L10_b (v1 := v1) (v3 := v3) (v4 := v4) (Q := Q) (Q2 := Q2) (E := E) (E2 := E2) (X10 := fun v3 v4 s => Fr wX_found σ0 s → Y v3 v4 s) (X102 := Y) f h kQ kE (fun v3 v4 s f h => h f))) fr
theorem lx_found_L10 {v1 : Int} {v3 : Int} {v4 : Int} {σ0 : S} {Q : Int → S → Prop} {E : S → Prop} (I : Int → Int → S → Prop) (me : Int → Int → S → Nat) (h0 : I v3 v4 σ0) (step : ∀ (v3 : Int) (v4 : Int) (s : S), Fr wX_found σ0 s → I v3 v4 s → (fun (Y0 : Int → Int → S → Prop) => (if v4 < 0 then x_found_j105 v1 v3 s Q E else x_found_L24 v1 v3 v4 (gI s 106) 0 s Q E Y0)) (fun v3' v4' s' => I v3' v4' s' ∧ me v3' v4' s' < me v3 v4 s)) : x_found_L10 v1 v3 v4 σ0 Q E := by
  unfold x_found_L10
  intro Y hY
  have key : ∀ (n : Nat) (v3 : Int) (v4 : Int) (s : S), me v3 v4 s < n → Fr wX_found σ0 s → I v3 v4 s → Y v3 v4 s := by
    intro n
    induction n with
    | zero => intro v3 v4 s h; exact absurd h (Nat.not_lt_zero _)
    | succ n ih =>
      intro v3 v4 s hm fr hi
      exact hY v3 v4 s (fx_found_L10_b (v1 := v1) (v3 := v3) (v4 := v4) (Q := Q) (Q2 := Q) (E := E) (E2 := E) (X10 := (fun v3' v4' s' => I v3' v4' s' ∧ me v3' v4' s' < me v3 v4 s)) (X102 := Y) fr (step v3 v4 s fr hi) (fun _ _ _ h => h) (fun _ _ h => h) (fun v3 v4 s f h => ih v3 v4 s (by omega) f h.1))
  exact key _ v3 v4 σ0 (Nat.lt_succ_self _) Fr.rf h0
theorem fm_x_found {v1 : Int} {v2 : Int} {σ0 : S} {Q Q2 : Int → S → Prop} {E E2 : S → Prop} (h : x_found v1 v2 σ0 Q E) (kQ : ∀ r s, Fr wX_found σ0 s → Q r s → Q2 r s) (kE : ∀ s, Fr wX_found σ0 s → E s → E2 s) : x_found v1 v2 σ0 Q2 E2 := by
  have fr : Fr wX_found σ0 σ0 := Fr.rf
  unfold x_found at h ⊢
  exact fx_found_L10 fr h kQ kE
theorem fx_allWays_j183 {v5 : Int} {σ0 σ : S} {Q Q2 : Int → S → Prop} {E E2 : S → Prop} {G : Orc} (hG : FrO wX_allWays G) (fr : Fr wX_allWays σ0 σ) (h : x_allWays_j183 G v5 σ Q E) (kQ : ∀ r s, Fr wX_allWays σ0 s → Q r s → Q2 r s) (kE : ∀ s, Fr wX_allWays σ0 s → E s → E2 s) : x_allWays_j183 G v5 σ Q2 E2 := by
  unfold x_allWays_j183 at h ⊢
  exact fun σ_16 e0 => (have f0 : Fr wX_allWays σ0 σ_16 := Fr.putI fr e0 rfl; fm_x_takeBound (h σ_16 e0) (fun _ σ_18 f h1 => (have f1 : Fr wX_allWays σ0 σ_18 := (f0.trans (f.weak (by decide +kernel))); kQ _ _ f1 h1)))
theorem fx_allWays_L143_b {v1 : Int} {v2 : Int} {v3 : Int} {v5 : Int} {v6 : Int} {v7 : Int} {σ0 σ : S} {Q Q2 : Int → S → Prop} {E E2 : S → Prop} {X143 X1432 : Int → S → Prop} {G : Orc} (hG : FrO wX_allWays G) (fr : Fr wX_allWays σ0 σ) (h : (if v7 < v6 then x_takeRow (w32 (v5 + v7)) σ (fun _ σ_19 => ∀ σ_20, σ_20 = pI σ_19 123 (w32 (v5 + v6)) → G 0 [v1, (w32 (v2 + 1)), v3] σ_20 (fun _ σ_22 => X143 (w32 (v7 + 1)) σ_22) E) else x_allWays_j183 G v5 σ Q E)) (kQ : ∀ r s, Fr wX_allWays σ0 s → Q r s → Q2 r s) (kE : ∀ s, Fr wX_allWays σ0 s → E s → E2 s) (kX143 : ∀ v7 s, Fr wX_allWays σ0 s → X143 v7 s → X1432 v7 s) : (if v7 < v6 then x_takeRow (w32 (v5 + v7)) σ (fun _ σ_19 => ∀ σ_20, σ_20 = pI σ_19 123 (w32 (v5 + v6)) → G 0 [v1, (w32 (v2 + 1)), v3] σ_20 (fun _ σ_22 => X1432 (w32 (v7 + 1)) σ_22) E2) else x_allWays_j183 G v5 σ Q2 E2) :=
  ite_m (fun _ h0 => fm_x_takeRow h0 (fun _ σ_19 f h1 => (have f1 : Fr wX_allWays σ0 σ_19 := (fr.trans (f.weak (by decide +kernel))); fun σ_20 e2 => (have f2 : Fr wX_allWays σ0 σ_20 := Fr.putI f1 e2 rfl; hG _ _ _ _ _ _ _ (h1 σ_20 e2) (fun _ σ_22 f h3 => (have f3 : Fr wX_allWays σ0 σ_22 := (f2.trans f); kX143 _ _ f3 h3)) (fun s f h => kE _ (f2.trans f) h))))) (fun _ h0 => fx_allWays_j183 hG fr h0 kQ kE) h
theorem fx_allWays_L143 {v1 : Int} {v2 : Int} {v3 : Int} {v5 : Int} {v6 : Int} {v7 : Int} {σ0 σ : S} {Q Q2 : Int → S → Prop} {E E2 : S → Prop} {G : Orc} (hG : FrO wX_allWays G) (fr : Fr wX_allWays σ0 σ) (h : x_allWays_L143 G v1 v2 v3 v5 v6 v7 σ Q E) (kQ : ∀ r s, Fr wX_allWays σ0 s → Q r s → Q2 r s) (kE : ∀ s, Fr wX_allWays σ0 s → E s → E2 s) : x_allWays_L143 G v1 v2 v3 v5 v6 v7 σ Q2 E2 := by
  unfold x_allWays_L143 at h ⊢
  intro Y hY
  exact h (fun v7 s => Fr wX_allWays σ0 s → Y v7 s) (fun v7 s h f => hY v7 s (fx_allWays_L143_b (v1 := v1) (v2 := v2) (v3 := v3) (v5 := v5) (v6 := v6) (v7 := v7) (Q := Q) (Q2 := Q2) (E := E) (E2 := E2) (X143 := fun v7 s => Fr wX_allWays σ0 s → Y v7 s) (X1432 := Y) hG f h kQ kE (fun v7 s f h => h f))) fr
theorem lx_allWays_L143 {v1 : Int} {v2 : Int} {v3 : Int} {v5 : Int} {v6 : Int} {v7 : Int} {σ0 : S} {Q : Int → S → Prop} {E : S → Prop} {G : Orc} (hG : FrO wX_allWays G) (I : Int → S → Prop) (me : Int → S → Nat) (h0 : I v7 σ0) (step : ∀ (v7 : Int) (s : S), Fr wX_allWays σ0 s → I v7 s → (fun (Y0 : Int → S → Prop) => (if v7 < v6 then x_takeRow (w32 (v5 + v7)) s (fun _ σ_19 => ∀ σ_20, σ_20 = pI σ_19 123 (w32 (v5 + v6)) → G 0 [v1, (w32 (v2 + 1)), v3] σ_20 (fun _ σ_22 => Y0 (w32 (v7 + 1)) σ_22) E) else x_allWays_j183 G v5 s Q E)) (fun v7' s' => I v7' s' ∧ me v7' s' < me v7 s)) : x_allWays_L143 G v1 v2 v3 v5 v6 v7 σ0 Q E := by
  unfold x_allWays_L143
  intro Y hY
  have key : ∀ (n : Nat) (v7 : Int) (s : S), me v7 s < n → Fr wX_allWays σ0 s → I v7 s → Y v7 s := by
    intro n
    induction n with
    | zero => intro v7 s h; exact absurd h (Nat.not_lt_zero _)
    | succ n ih =>
      intro v7 s hm fr hi
      exact hY v7 s (fx_allWays_L143_b (v1 := v1) (v2 := v2) (v3 := v3) (v5 := v5) (v6 := v6) (v7 := v7) (Q := Q) (Q2 := Q) (E := E) (E2 := E) (X143 := (fun v7' s' => I v7' s' ∧ me v7' s' < me v7 s)) (X1432 := Y) hG fr (step v7 s fr hi) (fun _ _ _ h => h) (fun _ _ h => h) (fun v7 s f h => ih v7 s (by omega) f h.1))
  exact key _ v7 σ0 (Nat.lt_succ_self _) Fr.rf h0
theorem fx_allWays_F {v1 : Int} {v2 : Int} {v3 : Int} {σ0 : S} {Q Q2 : Int → S → Prop} {E E2 : S → Prop} {G : Orc} (hG : FrO wX_allWays G) (h : x_allWays_F G v1 v2 v3 σ0 Q E) (kQ : ∀ r s, Fr wX_allWays σ0 s → Q r s → Q2 r s) (kE : ∀ s, Fr wX_allWays σ0 s → E s → E2 s) : x_allWays_F G v1 v2 v3 σ0 Q2 E2 := by
  have fr : Fr wX_allWays σ0 σ0 := Fr.rf
  unfold x_allWays_F at h ⊢
  exact ⟨h.1, ite_m (fun _ h1 => ⟨h1.1, fm_x_countFilled h1.2 (fun _ σ_33 f h3 => (have f3 : Fr wX_allWays σ0 σ_33 := (fr.trans (f.weak (by decide +kernel))); ⟨h3.1, ⟨h3.2.1, ⟨h3.2.2.1, ⟨h3.2.2.2.1, fm_x_filled h3.2.2.2.2 (fun r_44 σ_43 f h8 => (have f8 : Fr wX_allWays σ0 σ_43 := (f3.trans (f.weak (by decide +kernel))); ⟨h8.1, fm_x_beside h8.2 (fun r_49 σ_48 f h10 => (have f10 : Fr wX_allWays σ0 σ_48 := (f8.trans (f.weak (by decide +kernel))); fm_x_found h10 (fun _ σ_51 f h11 => (have f11 : Fr wX_allWays σ0 σ_51 := (f10.trans (f.weak (by decide +kernel))); kQ _ _ f11 h11)) (fun s f h => kE _ (f10.trans (f.weak (by decide +kernel))) h))) (fun s f h => kE _ (f8.trans (f.weak (by decide +kernel))) h)⟩)) (fun s f h => kE _ (f3.trans (f.weak (by decide +kernel))) h)⟩⟩⟩⟩)) (fun s f h => kE _ (fr.trans (f.weak (by decide +kernel))) h)⟩) (fun _ h1 => ⟨h1.1, ite_m (fun _ h3 => fm_x_keepBound h3 (fun _ σ_10 f h4 => (have f4 : Fr wX_allWays σ0 σ_10 := (fr.trans (f.weak (by decide +kernel))); fm_x_matchCondition h4 (fun r_12 σ_11 f h5 => (have f5 : Fr wX_allWays σ0 σ_11 := (f4.trans (f.weak (by decide +kernel))); fx_allWays_L143 hG f5 h5 kQ kE)) (fun s f h => kE _ (f4.trans (f.weak (by decide +kernel))) h)))) (fun _ h3 => fm_x_isTrue h3 (fun r_25 σ_24 f h4 => (have f4 : Fr wX_allWays σ0 σ_24 := (fr.trans (f.weak (by decide +kernel))); ite_m (fun _ h5 => kQ _ _ f4 h5) (fun _ h5 => hG _ _ _ _ _ _ _ h5 (fun _ σ_29 f h6 => (have f6 : Fr wX_allWays σ0 σ_29 := (f4.trans f); kQ _ _ f6 h6)) (fun s f h => kE _ (f4.trans f) h)) h4)) (fun s f h => kE _ (fr.trans (f.weak (by decide +kernel))) h)) h1.2⟩) h.2⟩
theorem fo_x_S_allWays : ∀ n, FrO wX_allWays (x_S_allWays n)
  | 0 => fun _ _ _ _ _ _ _ h _ _ => h.elim
  | n + 1 => fun i a σ Q Q2 E E2 h kQ kE => by
    unfold x_S_allWays at h ⊢
    split at h
    · exact fx_allWays_F (fo_x_S_allWays n) h kQ kE
    · exact h.elim
theorem fm_x_allWays {v1 : Int} {v2 : Int} {v3 : Int} {σ0 : S} {Q Q2 : Int → S → Prop} {E E2 : S → Prop} (h : x_allWays v1 v2 v3 σ0 Q E) (kQ : ∀ r s, Fr wX_allWays σ0 s → Q r s → Q2 r s) (kE : ∀ s, Fr wX_allWays σ0 s → E s → E2 s) : x_allWays v1 v2 v3 σ0 Q2 E2 := fo_x_S_allWays 10 _ _ _ _ _ _ _ h kQ kE
theorem fx_applyRule_j65 {v3 : Int} {σ0 σ : S} {Q Q2 : Int → S → Prop} {E E2 : S → Prop} (fr : Fr wX_applyRule σ0 σ) (h : x_applyRule_j65 v3 σ Q E) (kQ : ∀ r s, Fr wX_applyRule σ0 s → Q r s → Q2 r s) (kE : ∀ s, Fr wX_applyRule σ0 s → E s → E2 s) : x_applyRule_j65 v3 σ Q2 E2 := by
  unfold x_applyRule_j65 at h ⊢
  exact fun σ_10 e0 => (have f0 : Fr wX_applyRule σ0 σ_10 := Fr.putI fr e0 rfl; kQ _ _ f0 (h σ_10 e0))
theorem fx_applyRule_L26_b {v1 : Int} {v3 : Int} {v4 : Int} {v5 : Int} {σ0 σ : S} {Q Q2 : Int → S → Prop} {E E2 : S → Prop} {X26 X262 : Int → S → Prop} (fr : Fr wX_applyRule σ0 σ) (h : (if v5 < v4 then ∀ σ_12, σ_12 = pI σ 123 (w32 (v3 + v4)) → x_takeRow (w32 (v3 + v5)) σ_12 (fun _ σ_14 => x_allWays v1 0 (w32 (v3 + v5)) σ_14 (fun _ σ_15 => X26 (w32 (v5 + 1)) σ_15) E) else x_applyRule_j65 v3 σ Q E)) (kQ : ∀ r s, Fr wX_applyRule σ0 s → Q r s → Q2 r s) (kE : ∀ s, Fr wX_applyRule σ0 s → E s → E2 s) (kX26 : ∀ v5 s, Fr wX_applyRule σ0 s → X26 v5 s → X262 v5 s) : (if v5 < v4 then ∀ σ_12, σ_12 = pI σ 123 (w32 (v3 + v4)) → x_takeRow (w32 (v3 + v5)) σ_12 (fun _ σ_14 => x_allWays v1 0 (w32 (v3 + v5)) σ_14 (fun _ σ_15 => X262 (w32 (v5 + 1)) σ_15) E2) else x_applyRule_j65 v3 σ Q2 E2) :=
  ite_m (fun _ h0 => fun σ_12 e1 => (have f1 : Fr wX_applyRule σ0 σ_12 := Fr.putI fr e1 rfl; fm_x_takeRow (h0 σ_12 e1) (fun _ σ_14 f h2 => (have f2 : Fr wX_applyRule σ0 σ_14 := (f1.trans (f.weak (by decide +kernel))); fm_x_allWays h2 (fun _ σ_15 f h3 => (have f3 : Fr wX_applyRule σ0 σ_15 := (f2.trans (f.weak (by decide +kernel))); kX26 _ _ f3 h3)) (fun s f h => kE _ (f2.trans (f.weak (by decide +kernel))) h))))) (fun _ h0 => fx_applyRule_j65 fr h0 kQ kE) h
theorem fx_applyRule_L26 {v1 : Int} {v3 : Int} {v4 : Int} {v5 : Int} {σ0 σ : S} {Q Q2 : Int → S → Prop} {E E2 : S → Prop} (fr : Fr wX_applyRule σ0 σ) (h : x_applyRule_L26 v1 v3 v4 v5 σ Q E) (kQ : ∀ r s, Fr wX_applyRule σ0 s → Q r s → Q2 r s) (kE : ∀ s, Fr wX_applyRule σ0 s → E s → E2 s) : x_applyRule_L26 v1 v3 v4 v5 σ Q2 E2 := by
  unfold x_applyRule_L26 at h ⊢
  intro Y hY
  exact h (fun v5 s => Fr wX_applyRule σ0 s → Y v5 s) (fun v5 s h f => hY v5 s (fx_applyRule_L26_b (v1 := v1) (v3 := v3) (v4 := v4) (v5 := v5) (Q := Q) (Q2 := Q2) (E := E) (E2 := E2) (X26 := fun v5 s => Fr wX_applyRule σ0 s → Y v5 s) (X262 := Y) f h kQ kE (fun v5 s f h => h f))) fr
theorem lx_applyRule_L26 {v1 : Int} {v3 : Int} {v4 : Int} {v5 : Int} {σ0 : S} {Q : Int → S → Prop} {E : S → Prop} (I : Int → S → Prop) (me : Int → S → Nat) (h0 : I v5 σ0) (step : ∀ (v5 : Int) (s : S), Fr wX_applyRule σ0 s → I v5 s → (fun (Y0 : Int → S → Prop) => (if v5 < v4 then ∀ σ_12, σ_12 = pI s 123 (w32 (v3 + v4)) → x_takeRow (w32 (v3 + v5)) σ_12 (fun _ σ_14 => x_allWays v1 0 (w32 (v3 + v5)) σ_14 (fun _ σ_15 => Y0 (w32 (v5 + 1)) σ_15) E) else x_applyRule_j65 v3 s Q E)) (fun v5' s' => I v5' s' ∧ me v5' s' < me v5 s)) : x_applyRule_L26 v1 v3 v4 v5 σ0 Q E := by
  unfold x_applyRule_L26
  intro Y hY
  have key : ∀ (n : Nat) (v5 : Int) (s : S), me v5 s < n → Fr wX_applyRule σ0 s → I v5 s → Y v5 s := by
    intro n
    induction n with
    | zero => intro v5 s h; exact absurd h (Nat.not_lt_zero _)
    | succ n ih =>
      intro v5 s hm fr hi
      exact hY v5 s (fx_applyRule_L26_b (v1 := v1) (v3 := v3) (v4 := v4) (v5 := v5) (Q := Q) (Q2 := Q) (E := E) (E2 := E) (X26 := (fun v5' s' => I v5' s' ∧ me v5' s' < me v5 s)) (X262 := Y) fr (step v5 s fr hi) (fun _ _ _ h => h) (fun _ _ h => h) (fun v5 s f h => ih v5 s (by omega) f h.1))
  exact key _ v5 σ0 (Nat.lt_succ_self _) Fr.rf h0
theorem fm_x_applyRule {v1 : Int} {v2 : Int} {σ0 : S} {Q Q2 : Int → S → Prop} {E E2 : S → Prop} (h : x_applyRule v1 v2 σ0 Q E) (kQ : ∀ r s, Fr wX_applyRule σ0 s → Q r s → Q2 r s) (kE : ∀ s, Fr wX_applyRule σ0 s → E s → E2 s) : x_applyRule v1 v2 σ0 Q2 E2 := by
  have fr : Fr wX_applyRule σ0 σ0 := Fr.rf
  unfold x_applyRule at h ⊢
  exact fm_x_unbind h (fun _ σ_1 f h0 => (have f0 : Fr wX_applyRule σ0 σ_1 := (fr.trans (f.weak (by decide +kernel))); ⟨h0.1, fm_x_matchers h0.2 (fun r_6 σ_5 f h2 => (have f2 : Fr wX_applyRule σ0 σ_5 := (f0.trans (f.weak (by decide +kernel))); fx_applyRule_L26 f2 h2 kQ kE)) (fun s f h => kE _ (f0.trans (f.weak (by decide +kernel))) h)⟩))
theorem fx_rulesAt_L51_b {v1 : Int} {v2 : Int} {σ0 σ : S} {Q Q2 : Int → S → Prop} {E E2 : S → Prop} {X51 X512 : Int → S → Prop} {G : Orc} (hG : FrO wX_rulesAt G) (fr : Fr wX_rulesAt σ0 σ) (h : inb v1 200000 ∧ (if v2 < gA σ 68 v1 then inb (gI σ 149) 80 ∧ ∀ σ_9, σ_9 = pA σ 95 (gI σ 149) v1 → ∀ σ_13, σ_13 = pI σ_9 149 (w32 (gI σ_9 149 + 1)) → inb (gI σ_9 149) 80 ∧ ∀ σ_15, σ_15 = pA σ_13 96 (gI σ_9 149) v2 → x_at v1 v2 σ_15 (fun r_19 σ_18 => G 0 [r_19] σ_18 (fun _ σ_20 => ∀ σ_23, σ_23 = pI σ_20 149 (w32 (gI σ_20 149 - 1)) → X51 (w32 (v2 + 1)) σ_23) E) else Q 0 σ)) (kQ : ∀ r s, Fr wX_rulesAt σ0 s → Q r s → Q2 r s) (kE : ∀ s, Fr wX_rulesAt σ0 s → E s → E2 s) (kX51 : ∀ v2 s, Fr wX_rulesAt σ0 s → X51 v2 s → X512 v2 s) : inb v1 200000 ∧ (if v2 < gA σ 68 v1 then inb (gI σ 149) 80 ∧ ∀ σ_9, σ_9 = pA σ 95 (gI σ 149) v1 → ∀ σ_13, σ_13 = pI σ_9 149 (w32 (gI σ_9 149 + 1)) → inb (gI σ_9 149) 80 ∧ ∀ σ_15, σ_15 = pA σ_13 96 (gI σ_9 149) v2 → x_at v1 v2 σ_15 (fun r_19 σ_18 => G 0 [r_19] σ_18 (fun _ σ_20 => ∀ σ_23, σ_23 = pI σ_20 149 (w32 (gI σ_20 149 - 1)) → X512 (w32 (v2 + 1)) σ_23) E2) else Q2 0 σ) :=
  ⟨h.1, ite_m (fun _ h1 => ⟨h1.1, fun σ_9 e3 => (have f3 : Fr wX_rulesAt σ0 σ_9 := Fr.putA fr e3 rfl; fun σ_13 e4 => (have f4 : Fr wX_rulesAt σ0 σ_13 := Fr.putI f3 e4 rfl; ⟨((h1.2 σ_9 e3) σ_13 e4).1, fun σ_15 e6 => (have f6 : Fr wX_rulesAt σ0 σ_15 := Fr.putA f4 e6 rfl; fm_x_at (((h1.2 σ_9 e3) σ_13 e4).2 σ_15 e6) (fun r_19 σ_18 f h7 => (have f7 : Fr wX_rulesAt σ0 σ_18 := (f6.trans (f.weak (by decide +kernel))); hG _ _ _ _ _ _ _ h7 (fun _ σ_20 f h8 => (have f8 : Fr wX_rulesAt σ0 σ_20 := (f7.trans f); fun σ_23 e9 => (have f9 : Fr wX_rulesAt σ0 σ_23 := Fr.putI f8 e9 rfl; kX51 _ _ f9 (h8 σ_23 e9)))) (fun s f h => kE _ (f7.trans f) h))))⟩))⟩) (fun _ h1 => kQ _ _ fr h1) h.2⟩
theorem fx_rulesAt_L51 {v1 : Int} {v2 : Int} {σ0 σ : S} {Q Q2 : Int → S → Prop} {E E2 : S → Prop} {G : Orc} (hG : FrO wX_rulesAt G) (fr : Fr wX_rulesAt σ0 σ) (h : x_rulesAt_L51 G v1 v2 σ Q E) (kQ : ∀ r s, Fr wX_rulesAt σ0 s → Q r s → Q2 r s) (kE : ∀ s, Fr wX_rulesAt σ0 s → E s → E2 s) : x_rulesAt_L51 G v1 v2 σ Q2 E2 := by
  unfold x_rulesAt_L51 at h ⊢
  intro Y hY
  exact h (fun v2 s => Fr wX_rulesAt σ0 s → Y v2 s) (fun v2 s h f => hY v2 s (fx_rulesAt_L51_b (v1 := v1) (v2 := v2) (Q := Q) (Q2 := Q2) (E := E) (E2 := E2) (X51 := fun v2 s => Fr wX_rulesAt σ0 s → Y v2 s) (X512 := Y) hG f h kQ kE (fun v2 s f h => h f))) fr
theorem lx_rulesAt_L51 {v1 : Int} {v2 : Int} {σ0 : S} {Q : Int → S → Prop} {E : S → Prop} {G : Orc} (hG : FrO wX_rulesAt G) (I : Int → S → Prop) (me : Int → S → Nat) (h0 : I v2 σ0) (step : ∀ (v2 : Int) (s : S), Fr wX_rulesAt σ0 s → I v2 s → (fun (Y0 : Int → S → Prop) => inb v1 200000 ∧ (if v2 < gA s 68 v1 then inb (gI s 149) 80 ∧ ∀ σ_9, σ_9 = pA s 95 (gI s 149) v1 → ∀ σ_13, σ_13 = pI σ_9 149 (w32 (gI σ_9 149 + 1)) → inb (gI σ_9 149) 80 ∧ ∀ σ_15, σ_15 = pA σ_13 96 (gI σ_9 149) v2 → x_at v1 v2 σ_15 (fun r_19 σ_18 => G 0 [r_19] σ_18 (fun _ σ_20 => ∀ σ_23, σ_23 = pI σ_20 149 (w32 (gI σ_20 149 - 1)) → Y0 (w32 (v2 + 1)) σ_23) E) else Q 0 s)) (fun v2' s' => I v2' s' ∧ me v2' s' < me v2 s)) : x_rulesAt_L51 G v1 v2 σ0 Q E := by
  unfold x_rulesAt_L51
  intro Y hY
  have key : ∀ (n : Nat) (v2 : Int) (s : S), me v2 s < n → Fr wX_rulesAt σ0 s → I v2 s → Y v2 s := by
    intro n
    induction n with
    | zero => intro v2 s h; exact absurd h (Nat.not_lt_zero _)
    | succ n ih =>
      intro v2 s hm fr hi
      exact hY v2 s (fx_rulesAt_L51_b (v1 := v1) (v2 := v2) (Q := Q) (Q2 := Q) (E := E) (E2 := E) (X51 := (fun v2' s' => I v2' s' ∧ me v2' s' < me v2 s)) (X512 := Y) hG fr (step v2 s fr hi) (fun _ _ _ h => h) (fun _ _ h => h) (fun v2 s f h => ih v2 s (by omega) f h.1))
  exact key _ v2 σ0 (Nat.lt_succ_self _) Fr.rf h0
theorem fx_rulesAt_j49 {v1 : Int} {σ0 σ : S} {Q Q2 : Int → S → Prop} {E E2 : S → Prop} {G : Orc} (hG : FrO wX_rulesAt G) (fr : Fr wX_rulesAt σ0 σ) (h : x_rulesAt_j49 G v1 σ Q E) (kQ : ∀ r s, Fr wX_rulesAt σ0 s → Q r s → Q2 r s) (kE : ∀ s, Fr wX_rulesAt σ0 s → E s → E2 s) : x_rulesAt_j49 G v1 σ Q2 E2 := by
  unfold x_rulesAt_j49 at h ⊢
  exact fx_rulesAt_L51 hG fr h kQ kE
theorem fx_rulesAt_j43 {v1 : Int} {v2 : Int} {σ0 σ : S} {Q Q2 : Int → S → Prop} {E E2 : S → Prop} {X2 X22 : Int → S → Prop} {G : Orc} (hG : FrO wX_rulesAt G) (fr : Fr wX_rulesAt σ0 σ) (h : x_rulesAt_j43 G v1 v2 σ Q E X2) (kQ : ∀ r s, Fr wX_rulesAt σ0 s → Q r s → Q2 r s) (kE : ∀ s, Fr wX_rulesAt σ0 s → E s → E2 s) (kX2 : ∀ a0 s, Fr wX_rulesAt σ0 s → X2 a0 s → X22 a0 s) : x_rulesAt_j43 G v1 v2 σ Q2 E2 X22 := by
  unfold x_rulesAt_j43 at h ⊢
  exact kX2 _ _ fr h
theorem fx_rulesAt_L2_b {v1 : Int} {v2 : Int} {σ0 σ : S} {Q Q2 : Int → S → Prop} {E E2 : S → Prop} {X2 X22 : Int → S → Prop} {G : Orc} (hG : FrO wX_rulesAt G) (fr : Fr wX_rulesAt σ0 σ) (h : (if v2 < gI σ 43 then ((¬ gI σ 150 = (-2)) → (inb (w32 (40 + v2)) 70)) ∧ (if (gI σ 150 = (-2)) ∨ (gA σ 27 (w32 (40 + v2)) = gI σ 150) then x_applyRule (w32 (40 + v2)) v1 σ (fun _ σ_31 => x_rulesAt_j43 G v1 v2 σ_31 Q E X2) E else x_rulesAt_j43 G v1 v2 σ Q E X2) else x_rulesAt_j49 G v1 σ Q E)) (kQ : ∀ r s, Fr wX_rulesAt σ0 s → Q r s → Q2 r s) (kE : ∀ s, Fr wX_rulesAt σ0 s → E s → E2 s) (kX2 : ∀ v2 s, Fr wX_rulesAt σ0 s → X2 v2 s → X22 v2 s) : (if v2 < gI σ 43 then ((¬ gI σ 150 = (-2)) → (inb (w32 (40 + v2)) 70)) ∧ (if (gI σ 150 = (-2)) ∨ (gA σ 27 (w32 (40 + v2)) = gI σ 150) then x_applyRule (w32 (40 + v2)) v1 σ (fun _ σ_31 => x_rulesAt_j43 G v1 v2 σ_31 Q2 E2 X22) E2 else x_rulesAt_j43 G v1 v2 σ Q2 E2 X22) else x_rulesAt_j49 G v1 σ Q2 E2) :=
  ite_m (fun _ h0 => ⟨h0.1, ite_m (fun _ h2 => fm_x_applyRule h2 (fun _ σ_31 f h3 => (have f3 : Fr wX_rulesAt σ0 σ_31 := (fr.trans (f.weak (by decide +kernel))); fx_rulesAt_j43 hG f3 h3 kQ kE kX2)) (fun s f h => kE _ (fr.trans (f.weak (by decide +kernel))) h)) (fun _ h2 => fx_rulesAt_j43 hG fr h2 kQ kE kX2) h0.2⟩) (fun _ h0 => fx_rulesAt_j49 hG fr h0 kQ kE) h
theorem fx_rulesAt_L2 {v1 : Int} {v2 : Int} {σ0 σ : S} {Q Q2 : Int → S → Prop} {E E2 : S → Prop} {G : Orc} (hG : FrO wX_rulesAt G) (fr : Fr wX_rulesAt σ0 σ) (h : x_rulesAt_L2 G v1 v2 σ Q E) (kQ : ∀ r s, Fr wX_rulesAt σ0 s → Q r s → Q2 r s) (kE : ∀ s, Fr wX_rulesAt σ0 s → E s → E2 s) : x_rulesAt_L2 G v1 v2 σ Q2 E2 := by
  unfold x_rulesAt_L2 at h ⊢
  intro Y hY
  exact h (fun v2 s => Fr wX_rulesAt σ0 s → Y v2 s) (fun v2 s h f => hY v2 s (fx_rulesAt_L2_b (v1 := v1) (v2 := v2) (Q := Q) (Q2 := Q2) (E := E) (E2 := E2) (X2 := fun v2 s => Fr wX_rulesAt σ0 s → Y v2 s) (X22 := Y) hG f h kQ kE (fun v2 s f h => h f))) fr
theorem lx_rulesAt_L2 {v1 : Int} {v2 : Int} {σ0 : S} {Q : Int → S → Prop} {E : S → Prop} {G : Orc} (hG : FrO wX_rulesAt G) (I : Int → S → Prop) (me : Int → S → Nat) (h0 : I v2 σ0) (step : ∀ (v2 : Int) (s : S), Fr wX_rulesAt σ0 s → I v2 s → (fun (Y0 : Int → S → Prop) => (if v2 < gI s 43 then ((¬ gI s 150 = (-2)) → (inb (w32 (40 + v2)) 70)) ∧ (if (gI s 150 = (-2)) ∨ (gA s 27 (w32 (40 + v2)) = gI s 150) then x_applyRule (w32 (40 + v2)) v1 s (fun _ σ_31 => x_rulesAt_j43 G v1 v2 σ_31 Q E Y0) E else x_rulesAt_j43 G v1 v2 s Q E Y0) else x_rulesAt_j49 G v1 s Q E)) (fun v2' s' => I v2' s' ∧ me v2' s' < me v2 s)) : x_rulesAt_L2 G v1 v2 σ0 Q E := by
  unfold x_rulesAt_L2
  intro Y hY
  have key : ∀ (n : Nat) (v2 : Int) (s : S), me v2 s < n → Fr wX_rulesAt σ0 s → I v2 s → Y v2 s := by
    intro n
    induction n with
    | zero => intro v2 s h; exact absurd h (Nat.not_lt_zero _)
    | succ n ih =>
      intro v2 s hm fr hi
      exact hY v2 s (fx_rulesAt_L2_b (v1 := v1) (v2 := v2) (Q := Q) (Q2 := Q) (E := E) (E2 := E) (X2 := (fun v2' s' => I v2' s' ∧ me v2' s' < me v2 s)) (X22 := Y) hG fr (step v2 s fr hi) (fun _ _ _ h => h) (fun _ _ h => h) (fun v2 s f h => ih v2 s (by omega) f h.1))
  exact key _ v2 σ0 (Nat.lt_succ_self _) Fr.rf h0
theorem fx_rulesAt_F {v1 : Int} {σ0 : S} {Q Q2 : Int → S → Prop} {E E2 : S → Prop} {G : Orc} (hG : FrO wX_rulesAt G) (h : x_rulesAt_F G v1 σ0 Q E) (kQ : ∀ r s, Fr wX_rulesAt σ0 s → Q r s → Q2 r s) (kE : ∀ s, Fr wX_rulesAt σ0 s → E s → E2 s) : x_rulesAt_F G v1 σ0 Q2 E2 := by
  have fr : Fr wX_rulesAt σ0 σ0 := Fr.rf
  unfold x_rulesAt_F at h ⊢
  exact fx_rulesAt_L2 hG fr h kQ kE
theorem fo_x_S_rulesAt : ∀ n, FrO wX_rulesAt (x_S_rulesAt n)
  | 0 => fun _ _ _ _ _ _ _ h _ _ => h.elim
  | n + 1 => fun i a σ Q Q2 E E2 h kQ kE => by
    unfold x_S_rulesAt at h ⊢
    split at h
    · exact fx_rulesAt_F (fo_x_S_rulesAt n) h kQ kE
    · exact h.elim
theorem fm_x_rulesAt {v1 : Int} {σ0 : S} {Q Q2 : Int → S → Prop} {E E2 : S → Prop} (h : x_rulesAt v1 σ0 Q E) (kQ : ∀ r s, Fr wX_rulesAt σ0 s → Q r s → Q2 r s) (kE : ∀ s, Fr wX_rulesAt σ0 s → E s → E2 s) : x_rulesAt v1 σ0 Q2 E2 := fo_x_S_rulesAt 44 _ _ _ _ _ _ _ h kQ kE
theorem fm_x_rulesOf {v1 : Int} {v2 : Int} {σ0 : S} {Q Q2 : Int → S → Prop} {E E2 : S → Prop} (h : x_rulesOf v1 v2 σ0 Q E) (kQ : ∀ r s, Fr wX_rulesOf σ0 s → Q r s → Q2 r s) (kE : ∀ s, Fr wX_rulesOf σ0 s → E s → E2 s) : x_rulesOf v1 v2 σ0 Q2 E2 := by
  have fr : Fr wX_rulesOf σ0 σ0 := Fr.rf
  unfold x_rulesOf at h ⊢
  exact fun σ_1 e0 => (have f0 : Fr wX_rulesOf σ0 σ_1 := Fr.putI fr e0 rfl; fun σ_3 e1 => (have f1 : Fr wX_rulesOf σ0 σ_3 := Fr.putI f0 e1 rfl; fun σ_5 e2 => (have f2 : Fr wX_rulesOf σ0 σ_5 := Fr.putI f1 e2 rfl; fm_x_rulesAt (((h σ_1 e0) σ_3 e1) σ_5 e2) (fun _ σ_7 f h3 => (have f3 : Fr wX_rulesOf σ0 σ_7 := (f2.trans (f.weak (by decide +kernel))); kQ _ _ f3 h3)) (fun s f h => kE _ (f2.trans (f.weak (by decide +kernel))) h))))
theorem fm_x_begin {σ0 : S} {Q Q2 : Int → S → Prop} (h : x_begin  σ0 Q) (kQ : ∀ r s, Fr wX_begin σ0 s → Q r s → Q2 r s) : x_begin  σ0 Q2 := by
  have fr : Fr wX_begin σ0 σ0 := Fr.rf
  unfold x_begin at h ⊢
  exact fm_x_dropNodes h (fun _ σ_1 f h0 => (have f0 : Fr wX_begin σ0 σ_1 := (fr.trans (f.weak (by decide +kernel))); fun σ_2 e1 => (have f1 : Fr wX_begin σ0 σ_2 := Fr.putI f0 e1 rfl; fun σ_4 e2 => (have f2 : Fr wX_begin σ0 σ_4 := Fr.putI f1 e2 rfl; fun σ_6 e3 => (have f3 : Fr wX_begin σ0 σ_6 := Fr.putI f2 e3 rfl; fun σ_8 e4 => (have f4 : Fr wX_begin σ0 σ_8 := Fr.putI f3 e4 rfl; fun σ_10 e5 => (have f5 : Fr wX_begin σ0 σ_10 := Fr.putI f4 e5 rfl; fun σ_12 e6 => (have f6 : Fr wX_begin σ0 σ_12 := Fr.putI f5 e6 rfl; fun σ_14 e7 => (have f7 : Fr wX_begin σ0 σ_14 := Fr.putI f6 e7 rfl; fun σ_16 e8 => (have f8 : Fr wX_begin σ0 σ_16 := Fr.putI f7 e8 rfl; fun σ_18 e9 => (have f9 : Fr wX_begin σ0 σ_18 := Fr.putL f8 e9 rfl; fun σ_20 e10 => (have f10 : Fr wX_begin σ0 σ_20 := Fr.putL f9 e10 rfl; fun σ_22 e11 => (have f11 : Fr wX_begin σ0 σ_22 := Fr.putI f10 e11 rfl; fun σ_24 e12 => (have f12 : Fr wX_begin σ0 σ_24 := Fr.putI f11 e12 rfl; fm_x_unbind ((((((((((((h0 σ_2 e1) σ_4 e2) σ_6 e3) σ_8 e4) σ_10 e5) σ_12 e6) σ_14 e7) σ_16 e8) σ_18 e9) σ_20 e10) σ_22 e11) σ_24 e12) (fun _ σ_26 f h13 => (have f13 : Fr wX_begin σ0 σ_26 := (f12.trans (f.weak (by decide +kernel))); kQ _ _ f13 h13))))))))))))))))
theorem fm_x_stopped {σ0 : S} {Q Q2 : Int → S → Prop} (h : x_stopped  σ0 Q) (kQ : ∀ r s, Fr wX_stopped σ0 s → Q r s → Q2 r s) : x_stopped  σ0 Q2 := by
  have fr : Fr wX_stopped σ0 σ0 := Fr.rf
  unfold x_stopped at h ⊢
  exact fun σ_2 e0 => (have f0 : Fr wX_stopped σ0 σ_2 := Fr.putI fr e0 rfl; kQ _ _ f0 (h σ_2 e0))
theorem fx_madeOf_j6 {σ0 σ : S} {Q Q2 : Int → S → Prop} (fr : Fr wX_madeOf σ0 σ) (h : x_madeOf_j6  σ Q) (kQ : ∀ r s, Fr wX_madeOf σ0 s → Q r s → Q2 r s) : x_madeOf_j6  σ Q2 := by
  unfold x_madeOf_j6 at h ⊢
  exact fun σ_4 e0 => (have f0 : Fr wX_madeOf σ0 σ_4 := Fr.putI fr e0 rfl; kQ _ _ f0 (h σ_4 e0))
theorem fm_x_madeOf {v1 : Int} {σ0 : S} {Q Q2 : Int → S → Prop} (h : x_madeOf v1 σ0 Q) (kQ : ∀ r s, Fr wX_madeOf σ0 s → Q r s → Q2 r s) : x_madeOf v1 σ0 Q2 := by
  have fr : Fr wX_madeOf σ0 σ0 := Fr.rf
  unfold x_madeOf at h ⊢
  exact fm_x_termOf h (fun r_2 σ_1 f h0 => (have f0 : Fr wX_madeOf σ0 σ_1 := (fr.trans (f.weak (by decide +kernel))); kQ _ _ f0 h0)) (fun σ_3 f h0 => (have f0 : Fr wX_madeOf σ0 σ_3 := (fr.trans (f.weak (by decide +kernel))); fx_madeOf_j6 f0 h0 kQ))
theorem fx_term_j103 {s0 : Int} {σ0 σ : S} {Q Q2 : Int → S → Prop} (fr : Fr wX_term σ0 σ) (h : x_term_j103 s0 σ Q) (kQ : ∀ r s, Fr wX_term σ0 s → Q r s → Q2 r s) : x_term_j103 s0 σ Q2 := by
  unfold x_term_j103 at h ⊢
  exact kQ _ _ fr h
theorem fx_term_j102 {σ0 σ : S} {Q Q2 : Int → S → Prop} (fr : Fr wX_term σ0 σ) (h : x_term_j102  σ Q) (kQ : ∀ r s, Fr wX_term σ0 s → Q r s → Q2 r s) : x_term_j102  σ Q2 := by
  unfold x_term_j102 at h ⊢
  exact fx_term_j103 fr h kQ
theorem fx_term_j82 {v1 : Int} {σ0 σ : S} {Q Q2 : Int → S → Prop} (fr : Fr wX_term σ0 σ) (h : x_term_j82 v1 σ Q) (kQ : ∀ r s, Fr wX_term σ0 s → Q r s → Q2 r s) : x_term_j82 v1 σ Q2 := by
  unfold x_term_j82 at h ⊢
  exact ite_m (fun _ h0 => fx_term_j102 fr h0 kQ) (fun _ h0 => fm_x_wrong h0 (fun r_29 σ_28 f h1 => (have f1 : Fr wX_term σ0 σ_28 := (fr.trans (f.weak (by decide +kernel))); ite_m (fun _ h2 => fx_term_j102 f1 h2 kQ) (fun _ h2 => fx_term_j103 f1 h2 kQ) h1))) h
theorem fx_term_j146 {s0 : Int} {σ0 σ : S} {Q Q2 : Int → S → Prop} (fr : Fr wX_term σ0 σ) (h : x_term_j146 s0 σ Q) (kQ : ∀ r s, Fr wX_term σ0 s → Q r s → Q2 r s) : x_term_j146 s0 σ Q2 := by
  unfold x_term_j146 at h ⊢
  exact ite_m (fun _ h0 => fm_x_wrong h0 (fun r_52 σ_51 f h1 => (have f1 : Fr wX_term σ0 σ_51 := (fr.trans (f.weak (by decide +kernel))); kQ _ _ f1 h1))) (fun _ h0 => ite_m (fun _ h1 => kQ _ _ fr h1) (fun _ h1 => fm_x_newHandle h1 (fun r_50 σ_49 f h2 => (have f2 : Fr wX_term σ0 σ_49 := (fr.trans (f.weak (by decide +kernel))); kQ _ _ f2 h2))) h0) h
theorem fx_term_j62 {v1 : Int} {σ0 σ : S} {Q Q2 : Int → S → Prop} (fr : Fr wX_term σ0 σ) (h : x_term_j62 v1 σ Q) (kQ : ∀ r s, Fr wX_term σ0 s → Q r s → Q2 r s) : x_term_j62 v1 σ Q2 := by
  unfold x_term_j62 at h ⊢
  exact ⟨h.1, ite_m (fun _ h1 => ite_m (fun _ h2 => fx_term_j82 fr h2 kQ) (fun _ h2 => fm_x_readingOf h2 (fun r_37 σ_36 f h3 => (have f3 : Fr wX_term σ0 σ_36 := (fr.trans (f.weak (by decide +kernel))); ite_m (fun _ h4 => kQ _ _ f3 h4) (fun _ h4 => ite_m (fun _ h5 => fx_term_j146 f3 h5 kQ) (fun _ h5 => fm_x_madeOf h5 (fun r_43 σ_42 f h6 => (have f6 : Fr wX_term σ0 σ_42 := (f3.trans (f.weak (by decide +kernel))); fx_term_j146 f6 h6 kQ))) h4) h3))) h1) (fun _ h1 => fx_term_j82 fr h1 kQ) h.2⟩
theorem fx_term_L37_b {v1 : Int} {σ0 σ : S} {Q Q2 : Int → S → Prop} {X37 X372 : Int → S → Prop} (fr : Fr wX_term σ0 σ) (h : ((¬ v1 = 0) → (inb (gI σ 17) 902)) ∧ (if ¬ (v1 = 0) ∧ (gA σ 2 (gI σ 17) < 2) then x_step σ (fun r_18 σ_17 => X37 r_18 σ_17) else x_term_j62 v1 σ Q)) (kQ : ∀ r s, Fr wX_term σ0 s → Q r s → Q2 r s) (kX37 : ∀ v1 s, Fr wX_term σ0 s → X37 v1 s → X372 v1 s) : ((¬ v1 = 0) → (inb (gI σ 17) 902)) ∧ (if ¬ (v1 = 0) ∧ (gA σ 2 (gI σ 17) < 2) then x_step σ (fun r_18 σ_17 => X372 r_18 σ_17) else x_term_j62 v1 σ Q2) :=
  ⟨h.1, ite_m (fun _ h1 => fm_x_step h1 (fun r_18 σ_17 f h2 => (have f2 : Fr wX_term σ0 σ_17 := (fr.trans (f.weak (by decide +kernel))); kX37 _ _ f2 h2))) (fun _ h1 => fx_term_j62 fr h1 kQ) h.2⟩
theorem fx_term_L37 {v1 : Int} {σ0 σ : S} {Q Q2 : Int → S → Prop} (fr : Fr wX_term σ0 σ) (h : x_term_L37 v1 σ Q) (kQ : ∀ r s, Fr wX_term σ0 s → Q r s → Q2 r s) : x_term_L37 v1 σ Q2 := by
  unfold x_term_L37 at h ⊢
  intro Y hY
  exact h (fun v1 s => Fr wX_term σ0 s → Y v1 s) (fun v1 s h f => hY v1 s (fx_term_L37_b (v1 := v1) (Q := Q) (Q2 := Q2) (X37 := fun v1 s => Fr wX_term σ0 s → Y v1 s) (X372 := Y) f h kQ (fun v1 s f h => h f))) fr
theorem lx_term_L37 {v1 : Int} {σ0 : S} {Q : Int → S → Prop} (I : Int → S → Prop) (me : Int → S → Nat) (h0 : I v1 σ0) (step : ∀ (v1 : Int) (s : S), Fr wX_term σ0 s → I v1 s → (fun (Y0 : Int → S → Prop) => ((¬ v1 = 0) → (inb (gI s 17) 902)) ∧ (if ¬ (v1 = 0) ∧ (gA s 2 (gI s 17) < 2) then x_step s (fun r_18 σ_17 => Y0 r_18 σ_17) else x_term_j62 v1 s Q)) (fun v1' s' => I v1' s' ∧ me v1' s' < me v1 s)) : x_term_L37 v1 σ0 Q := by
  unfold x_term_L37
  intro Y hY
  have key : ∀ (n : Nat) (v1 : Int) (s : S), me v1 s < n → Fr wX_term σ0 s → I v1 s → Y v1 s := by
    intro n
    induction n with
    | zero => intro v1 s h; exact absurd h (Nat.not_lt_zero _)
    | succ n ih =>
      intro v1 s hm fr hi
      exact hY v1 s (fx_term_L37_b (v1 := v1) (Q := Q) (Q2 := Q) (X37 := (fun v1' s' => I v1' s' ∧ me v1' s' < me v1 s)) (X372 := Y) fr (step v1 s fr hi) (fun _ _ _ h => h) (fun v1 s f h => ih v1 s (by omega) f h.1))
  exact key _ v1 σ0 (Nat.lt_succ_self _) Fr.rf h0
theorem fm_x_term {σ0 : S} {Q Q2 : Int → S → Prop} (h : x_term  σ0 Q) (kQ : ∀ r s, Fr wX_term σ0 s → Q r s → Q2 r s) : x_term  σ0 Q2 := by
  have fr : Fr wX_term σ0 σ0 := Fr.rf
  unfold x_term at h ⊢
  exact fm_x_takeTape h (fun _ σ_1 f h0 => (have f0 : Fr wX_term σ0 σ_1 := (fr.trans (f.weak (by decide +kernel))); fm_x_begin h0 (fun _ σ_2 f h1 => (have f1 : Fr wX_term σ0 σ_2 := (f0.trans (f.weak (by decide +kernel))); fun σ_3 e2 => (have f2 : Fr wX_term σ0 σ_3 := Fr.putI f1 e2 rfl; fun σ_6 e3 => (have f3 : Fr wX_term σ0 σ_6 := Fr.putI f2 e3 rfl; fun σ_9 e4 => (have f4 : Fr wX_term σ0 σ_9 := Fr.putI f3 e4 rfl; fm_x_cutWords (((h1 σ_3 e2) σ_6 e3) σ_9 e4) (fun _ σ_11 f h5 => (have f5 : Fr wX_term σ0 σ_11 := (f4.trans (f.weak (by decide +kernel))); fx_term_L37 f5 h5 kQ)))))))))
theorem fm_x_fault {v1 : Int} {σ0 : S} {Q Q2 : Int → S → Prop} (h : x_fault v1 σ0 Q) (kQ : ∀ r s, Fr wX_fault σ0 s → Q r s → Q2 r s) : x_fault v1 σ0 Q2 := by
  have fr : Fr wX_fault σ0 σ0 := Fr.rf
  unfold x_fault at h ⊢
  exact kQ _ _ fr h
theorem fm_x_count {v1 : Int} {σ0 : S} {Q Q2 : Int → S → Prop} (h : x_count v1 σ0 Q) (kQ : ∀ r s, Fr wX_count σ0 s → Q r s → Q2 r s) : x_count v1 σ0 Q2 := by
  have fr : Fr wX_count σ0 σ0 := Fr.rf
  unfold x_count at h ⊢
  exact ite_m (fun _ h0 => kQ _ _ fr h0) (fun _ h0 => ite_m (fun _ h1 => kQ _ _ fr h1) (fun _ h1 => ite_m (fun _ h2 => kQ _ _ fr h2) (fun _ h2 => ite_m (fun _ h3 => kQ _ _ fr h3) (fun _ h3 => ite_m (fun _ h4 => kQ _ _ fr h4) (fun _ h4 => ite_m (fun _ h5 => kQ _ _ fr h5) (fun _ h5 => ite_m (fun _ h6 => kQ _ _ fr h6) (fun _ h6 => ite_m (fun _ h7 => kQ _ _ fr h7) (fun _ h7 => ite_m (fun _ h8 => kQ _ _ fr h8) (fun _ h8 => ite_m (fun _ h9 => kQ _ _ fr h9) (fun _ h9 => kQ _ _ fr h9) h8) h7) h6) h5) h4) h3) h2) h1) h0) h
theorem fm_x_about {v1 : Int} {v2 : Int} {σ0 : S} {Q Q2 : Int → S → Prop} {E E2 : S → Prop} (h : x_about v1 v2 σ0 Q E) (kQ : ∀ r s, Fr wX_about σ0 s → Q r s → Q2 r s) (kE : ∀ s, Fr wX_about σ0 s → E s → E2 s) : x_about v1 v2 σ0 Q2 E2 := by
  have fr : Fr wX_about σ0 σ0 := Fr.rf
  unfold x_about at h ⊢
  exact fm_x_isHandle h (fun r_2 σ_1 f h0 => (have f0 : Fr wX_about σ0 σ_1 := (fr.trans (f.weak (by decide +kernel))); ite_m (fun _ h1 => kQ _ _ f0 h1) (fun _ h1 => fm_x_within h1 (fun r_6 σ_5 f h2 => (have f2 : Fr wX_about σ0 σ_5 := (f0.trans (f.weak (by decide +kernel))); ite_m (fun _ h3 => kQ _ _ f2 h3) (fun _ h3 => fm_x_begin h3 (fun _ σ_9 f h4 => (have f4 : Fr wX_about σ0 σ_9 := (f2.trans (f.weak (by decide +kernel))); fm_x_termAt h4 (fun r_11 σ_10 f h5 => (have f5 : Fr wX_about σ0 σ_10 := (f4.trans (f.weak (by decide +kernel))); ite_m (fun _ h6 => ⟨h6.1, kQ _ _ f5 h6.2⟩) (fun _ h6 => ite_m (fun _ h7 => ⟨h7.1, kQ _ _ f5 h7.2⟩) (fun _ h7 => ite_m (fun _ h8 => ⟨h8.1, ⟨h8.2.1, kQ _ _ f5 h8.2.2⟩⟩) (fun _ h8 => ite_m (fun _ h9 => ⟨h9.1, ⟨h9.2.1, kQ _ _ f5 h9.2.2⟩⟩) (fun _ h9 => ite_m (fun _ h10 => ⟨h10.1, kQ _ _ f5 h10.2⟩) (fun _ h10 => fm_x_kindAt h10 (fun r_36 σ_35 f h11 => (have f11 : Fr wX_about σ0 σ_35 := (f5.trans (f.weak (by decide +kernel))); kQ _ _ f11 h11))) h9) h8) h7) h6) h5)) (fun s f h => kE _ (f4.trans (f.weak (by decide +kernel))) h)))) h2))) h0))
theorem fm_x_part {v1 : Int} {v2 : Int} {σ0 : S} {Q Q2 : Int → S → Prop} {E E2 : S → Prop} (h : x_part v1 v2 σ0 Q E) (kQ : ∀ r s, Fr wX_part σ0 s → Q r s → Q2 r s) (kE : ∀ s, Fr wX_part σ0 s → E s → E2 s) : x_part v1 v2 σ0 Q2 E2 := by
  have fr : Fr wX_part σ0 σ0 := Fr.rf
  unfold x_part at h ⊢
  exact fm_x_isHandle h (fun r_2 σ_1 f h0 => (have f0 : Fr wX_part σ0 σ_1 := (fr.trans (f.weak (by decide +kernel))); ite_m (fun _ h1 => kQ _ _ f0 h1) (fun _ h1 => fm_x_begin h1 (fun _ σ_5 f h2 => (have f2 : Fr wX_part σ0 σ_5 := (f0.trans (f.weak (by decide +kernel))); fm_x_termAt h2 (fun r_7 σ_6 f h3 => (have f3 : Fr wX_part σ0 σ_6 := (f2.trans (f.weak (by decide +kernel))); ⟨h3.1, fm_x_within h3.2 (fun r_12 σ_11 f h5 => (have f5 : Fr wX_part σ0 σ_11 := (f3.trans (f.weak (by decide +kernel))); ite_m (fun _ h6 => kQ _ _ f5 h6) (fun _ h6 => ite_m (fun _ h7 => kQ _ _ f5 h7) (fun _ h7 => fm_x_at h7 (fun r_19 σ_18 f h8 => (have f8 : Fr wX_part σ0 σ_18 := (f5.trans (f.weak (by decide +kernel))); fm_x_newHandle h8 (fun r_21 σ_20 f h9 => (have f9 : Fr wX_part σ0 σ_20 := (f8.trans (f.weak (by decide +kernel))); kQ _ _ f9 h9))))) h6) h5))⟩)) (fun s f h => kE _ (f2.trans (f.weak (by decide +kernel))) h)))) h0))
theorem fm_x_order {v1 : Int} {v2 : Int} {σ0 : S} {Q Q2 : Int → S → Prop} {E E2 : S → Prop} (h : x_order v1 v2 σ0 Q E) (kQ : ∀ r s, Fr wX_order σ0 s → Q r s → Q2 r s) (kE : ∀ s, Fr wX_order σ0 s → E s → E2 s) : x_order v1 v2 σ0 Q2 E2 := by
  have fr : Fr wX_order σ0 σ0 := Fr.rf
  unfold x_order at h ⊢
  exact fm_x_isHandle h (fun r_2 σ_1 f h0 => (have f0 : Fr wX_order σ0 σ_1 := (fr.trans (f.weak (by decide +kernel))); ite_m (fun _ h1 => kQ _ _ f0 h1) (fun _ h1 => fm_x_isHandle h1 (fun r_6 σ_5 f h2 => (have f2 : Fr wX_order σ0 σ_5 := (f0.trans (f.weak (by decide +kernel))); ite_m (fun _ h3 => kQ _ _ f2 h3) (fun _ h3 => fm_x_begin h3 (fun _ σ_9 f h4 => (have f4 : Fr wX_order σ0 σ_9 := (f2.trans (f.weak (by decide +kernel))); fm_x_termAt h4 (fun r_11 σ_10 f h5 => (have f5 : Fr wX_order σ0 σ_10 := (f4.trans (f.weak (by decide +kernel))); fm_x_termAt h5 (fun r_14 σ_13 f h6 => (have f6 : Fr wX_order σ0 σ_13 := (f5.trans (f.weak (by decide +kernel))); fm_x_compare h6 (fun r_17 σ_16 f h7 => (have f7 : Fr wX_order σ0 σ_16 := (f6.trans (f.weak (by decide +kernel))); kQ _ _ f7 h7)))) (fun s f h => kE _ (f5.trans (f.weak (by decide +kernel))) h))) (fun s f h => kE _ (f4.trans (f.weak (by decide +kernel))) h)))) h2))) h0))
theorem fm_x_forget {σ0 : S} {Q Q2 : Int → S → Prop} (h : x_forget  σ0 Q) (kQ : ∀ r s, Fr wX_forget σ0 s → Q r s → Q2 r s) : x_forget  σ0 Q2 := by
  have fr : Fr wX_forget σ0 σ0 := Fr.rf
  unfold x_forget at h ⊢
  exact fun σ_2 e0 => (have f0 : Fr wX_forget σ0 σ_2 := Fr.putI fr e0 rfl; kQ _ _ f0 (h σ_2 e0))
theorem fx_printByte_j16 {σ0 σ : S} {Q Q2 : Int → S → Prop} (fr : Fr wX_printByte σ0 σ) (h : x_printByte_j16  σ Q) (kQ : ∀ r s, Fr wX_printByte σ0 s → Q r s → Q2 r s) : x_printByte_j16  σ Q2 := by
  unfold x_printByte_j16 at h ⊢
  exact fun σ_6 e0 => (have f0 : Fr wX_printByte σ0 σ_6 := Fr.putI fr e0 rfl; kQ _ _ f0 (h σ_6 e0))
theorem fm_x_printByte {v1 : Int} {σ0 : S} {Q Q2 : Int → S → Prop} (h : x_printByte v1 σ0 Q) (kQ : ∀ r s, Fr wX_printByte σ0 s → Q r s → Q2 r s) : x_printByte v1 σ0 Q2 := by
  have fr : Fr wX_printByte σ0 σ0 := Fr.rf
  unfold x_printByte at h ⊢
  exact ite_m (fun _ h0 => fun σ_8 e1 => (have f1 : Fr wX_printByte σ0 σ_8 := Fr.putI fr e1 rfl; fx_printByte_j16 f1 (h0 σ_8 e1) kQ)) (fun _ h0 => fx_printByte_j16 fr h0 kQ) h
theorem fx_printWord_L20_b {v1 : Int} {v2 : Int} {σ0 σ : S} {Q Q2 : Int → S → Prop} {X20 X202 : Int → S → Prop} (fr : Fr wX_printWord σ0 σ) (h : inb v1 1700 ∧ (if v2 < gA σ 8 v1 then inb v2 40000 ∧ x_printByte (gA σ 6 v2) σ (fun _ σ_12 => X20 (w32 (v2 + 1)) σ_12) else Q 0 σ)) (kQ : ∀ r s, Fr wX_printWord σ0 s → Q r s → Q2 r s) (kX20 : ∀ v2 s, Fr wX_printWord σ0 s → X20 v2 s → X202 v2 s) : inb v1 1700 ∧ (if v2 < gA σ 8 v1 then inb v2 40000 ∧ x_printByte (gA σ 6 v2) σ (fun _ σ_12 => X202 (w32 (v2 + 1)) σ_12) else Q2 0 σ) :=
  ⟨h.1, ite_m (fun _ h1 => ⟨h1.1, fm_x_printByte h1.2 (fun _ σ_12 f h3 => (have f3 : Fr wX_printWord σ0 σ_12 := (fr.trans (f.weak (by decide +kernel))); kX20 _ _ f3 h3))⟩) (fun _ h1 => kQ _ _ fr h1) h.2⟩
theorem fx_printWord_L20 {v1 : Int} {v2 : Int} {σ0 σ : S} {Q Q2 : Int → S → Prop} (fr : Fr wX_printWord σ0 σ) (h : x_printWord_L20 v1 v2 σ Q) (kQ : ∀ r s, Fr wX_printWord σ0 s → Q r s → Q2 r s) : x_printWord_L20 v1 v2 σ Q2 := by
  unfold x_printWord_L20 at h ⊢
  intro Y hY
  exact h (fun v2 s => Fr wX_printWord σ0 s → Y v2 s) (fun v2 s h f => hY v2 s (fx_printWord_L20_b (v1 := v1) (v2 := v2) (Q := Q) (Q2 := Q2) (X20 := fun v2 s => Fr wX_printWord σ0 s → Y v2 s) (X202 := Y) f h kQ (fun v2 s f h => h f))) fr
theorem lx_printWord_L20 {v1 : Int} {v2 : Int} {σ0 : S} {Q : Int → S → Prop} (I : Int → S → Prop) (me : Int → S → Nat) (h0 : I v2 σ0) (step : ∀ (v2 : Int) (s : S), Fr wX_printWord σ0 s → I v2 s → (fun (Y0 : Int → S → Prop) => inb v1 1700 ∧ (if v2 < gA s 8 v1 then inb v2 40000 ∧ x_printByte (gA s 6 v2) s (fun _ σ_12 => Y0 (w32 (v2 + 1)) σ_12) else Q 0 s)) (fun v2' s' => I v2' s' ∧ me v2' s' < me v2 s)) : x_printWord_L20 v1 v2 σ0 Q := by
  unfold x_printWord_L20
  intro Y hY
  have key : ∀ (n : Nat) (v2 : Int) (s : S), me v2 s < n → Fr wX_printWord σ0 s → I v2 s → Y v2 s := by
    intro n
    induction n with
    | zero => intro v2 s h; exact absurd h (Nat.not_lt_zero _)
    | succ n ih =>
      intro v2 s hm fr hi
      exact hY v2 s (fx_printWord_L20_b (v1 := v1) (v2 := v2) (Q := Q) (Q2 := Q) (X20 := (fun v2' s' => I v2' s' ∧ me v2' s' < me v2 s)) (X202 := Y) fr (step v2 s fr hi) (fun _ _ _ h => h) (fun v2 s f h => ih v2 s (by omega) f h.1))
  exact key _ v2 σ0 (Nat.lt_succ_self _) Fr.rf h0
theorem fx_printWord_j13 {v1 : Int} {σ0 σ : S} {Q Q2 : Int → S → Prop} (fr : Fr wX_printWord σ0 σ) (h : x_printWord_j13 v1 σ Q) (kQ : ∀ r s, Fr wX_printWord σ0 s → Q r s → Q2 r s) : x_printWord_j13 v1 σ Q2 := by
  unfold x_printWord_j13 at h ⊢
  exact ⟨h.1, fx_printWord_L20 fr h.2 kQ⟩
theorem fm_x_printWord {v1 : Int} {σ0 : S} {Q Q2 : Int → S → Prop} (h : x_printWord v1 σ0 Q) (kQ : ∀ r s, Fr wX_printWord σ0 s → Q r s → Q2 r s) : x_printWord v1 σ0 Q2 := by
  have fr : Fr wX_printWord σ0 σ0 := Fr.rf
  unfold x_printWord at h ⊢
  exact ite_m (fun _ h0 => fx_printWord_j13 fr h0 kQ) (fun _ h0 => fm_x_printByte h0 (fun _ σ_13 f h1 => (have f1 : Fr wX_printWord σ0 σ_13 := (fr.trans (f.weak (by decide +kernel))); fx_printWord_j13 f1 h1 kQ))) h
theorem fx_printSign_j13 {v1 : Int} {σ0 σ : S} {Q Q2 : Int → S → Prop} (fr : Fr wX_printSign σ0 σ) (h : x_printSign_j13 v1 σ Q) (kQ : ∀ r s, Fr wX_printSign σ0 s → Q r s → Q2 r s) : x_printSign_j13 v1 σ Q2 := by
  unfold x_printSign_j13 at h ⊢
  exact fm_x_printByte h (fun _ σ_4 f h0 => (have f0 : Fr wX_printSign σ0 σ_4 := (fr.trans (f.weak (by decide +kernel))); kQ _ _ f0 h0))
theorem fm_x_printSign {v1 : Int} {σ0 : S} {Q Q2 : Int → S → Prop} (h : x_printSign v1 σ0 Q) (kQ : ∀ r s, Fr wX_printSign σ0 s → Q r s → Q2 r s) : x_printSign v1 σ0 Q2 := by
  have fr : Fr wX_printSign σ0 σ0 := Fr.rf
  unfold x_printSign at h ⊢
  exact ite_m (fun _ h0 => fx_printSign_j13 fr h0 kQ) (fun _ h0 => fm_x_printByte h0 (fun _ σ_5 f h1 => (have f1 : Fr wX_printSign σ0 σ_5 := (fr.trans (f.weak (by decide +kernel))); fx_printSign_j13 f1 h1 kQ))) h
theorem fx_printTerm_j233 {v5 : Int} {σ0 σ : S} {Q Q2 : Int → S → Prop} {G : Orc} (hG : FrO wX_printTerm G) (fr : Fr wX_printTerm σ0 σ) (h : x_printTerm_j233 G v5 σ Q) (kQ : ∀ r s, Fr wX_printTerm σ0 s → Q r s → Q2 r s) : x_printTerm_j233 G v5 σ Q2 := by
  unfold x_printTerm_j233 at h ⊢
  exact ite_m (fun _ h0 => kQ _ _ fr h0) (fun _ h0 => fm_x_printSign h0 (fun _ σ_18 f h1 => (have f1 : Fr wX_printTerm σ0 σ_18 := (fr.trans (f.weak (by decide +kernel))); kQ _ _ f1 h1))) h
theorem fx_printTerm_j227 {v1 : Int} {v2 : Int} {v4 : Int} {v5 : Int} {v6 : Int} {v7 : Int} {v8 : Int} {σ0 σ : S} {Q Q2 : Int → S → Prop} {X89 X892 : Int → Int → S → Prop} {G : Orc} (hG : FrO wX_printTerm G) (fr : Fr wX_printTerm σ0 σ) (h : x_printTerm_j227 G v1 v2 v4 v5 v6 v7 v8 σ Q X89) (kQ : ∀ r s, Fr wX_printTerm σ0 s → Q r s → Q2 r s) (kX89 : ∀ a0 a1 s, Fr wX_printTerm σ0 s → X89 a0 a1 s → X892 a0 a1 s) : x_printTerm_j227 G v1 v2 v4 v5 v6 v7 v8 σ Q2 X892 := by
  unfold x_printTerm_j227 at h ⊢
  exact kX89 _ _ _ fr h
theorem fx_printTerm_j224 {v1 : Int} {v2 : Int} {v4 : Int} {v5 : Int} {v6 : Int} {v7 : Int} {v8 : Int} {σ0 σ : S} {Q Q2 : Int → S → Prop} {X89 X892 : Int → Int → S → Prop} {G : Orc} (hG : FrO wX_printTerm G) (fr : Fr wX_printTerm σ0 σ) (h : x_printTerm_j224 G v1 v2 v4 v5 v6 v7 v8 σ Q X89) (kQ : ∀ r s, Fr wX_printTerm σ0 s → Q r s → Q2 r s) (kX89 : ∀ a0 a1 s, Fr wX_printTerm σ0 s → X89 a0 a1 s → X892 a0 a1 s) : x_printTerm_j224 G v1 v2 v4 v5 v6 v7 v8 σ Q2 X892 := by
  unfold x_printTerm_j224 at h ⊢
  exact fx_printTerm_j227 hG fr h kQ kX89
theorem fx_printTerm_j178 {v1 : Int} {v2 : Int} {v4 : Int} {v5 : Int} {v6 : Int} {v7 : Int} {v8 : Int} {v10 : Int} {σ0 σ : S} {Q Q2 : Int → S → Prop} {X89 X892 : Int → Int → S → Prop} {G : Orc} (hG : FrO wX_printTerm G) (fr : Fr wX_printTerm σ0 σ) (h : x_printTerm_j178 G v1 v2 v4 v5 v6 v7 v8 v10 σ Q X89) (kQ : ∀ r s, Fr wX_printTerm σ0 s → Q r s → Q2 r s) (kX89 : ∀ a0 a1 s, Fr wX_printTerm σ0 s → X89 a0 a1 s → X892 a0 a1 s) : x_printTerm_j178 G v1 v2 v4 v5 v6 v7 v8 v10 σ Q2 X892 := by
  unfold x_printTerm_j178 at h ⊢
  exact ⟨h.1, fm_x_at h.2 (fun r_37 σ_36 f h1 => (have f1 : Fr wX_printTerm σ0 σ_36 := (fr.trans (f.weak (by decide +kernel))); ⟨h1.1, hG _ _ _ _ _ _ _ h1.2 (fun _ σ_40 f h3 => (have f3 : Fr wX_printTerm σ0 σ_40 := (f1.trans f); fx_printTerm_j224 hG f3 h3 kQ kX89)) (fun _ _ h => h)⟩))⟩
theorem fx_printTerm_L89_b {v1 : Int} {v2 : Int} {v4 : Int} {v5 : Int} {v6 : Int} {v7 : Int} {v8 : Int} {σ0 σ : S} {Q Q2 : Int → S → Prop} {X89 X892 : Int → Int → S → Prop} {G : Orc} (hG : FrO wX_printTerm G) (fr : Fr wX_printTerm σ0 σ) (h : inb v6 50 ∧ (if v8 < gA σ 45 v6 then inb (w32 (w32 (12 * v6) + v8)) 600 ∧ (if gA σ 46 (w32 (w32 (12 * v6) + v8)) = (-1) then inb (w32 (w32 (3 * v4) + v7)) 150 ∧ inb v4 50 ∧ (if gA σ 52 v4 = 0 then x_printTerm_j178 G v1 v2 v4 v5 v6 v7 v8 (gA σ 51 (w32 (w32 (3 * v4) + v7))) σ Q X89 else (if (v7 = 0) ∧ (¬ (v2 ≤ 2)) then G 0 [v1, (w32 (v2 - 1)), (gA σ 51 (w32 (w32 (3 * v4) + v7)))] σ (fun _ σ_43 => x_printTerm_j224 G v1 v2 v4 v5 v6 v7 v8 σ_43 Q X89) (fun _ => False) else x_printTerm_j178 G v1 v2 v4 v5 v6 v7 v8 (gA σ 51 (w32 (w32 (3 * v4) + v7))) σ Q X89)) else x_printWord (gA σ 46 (w32 (w32 (12 * v6) + v8))) σ (fun _ σ_47 => x_printTerm_j227 G v1 v2 v4 v5 v6 v7 v8 σ_47 Q X89)) else x_printTerm_j233 G v5 σ Q)) (kQ : ∀ r s, Fr wX_printTerm σ0 s → Q r s → Q2 r s) (kX89 : ∀ v7 v8 s, Fr wX_printTerm σ0 s → X89 v7 v8 s → X892 v7 v8 s) : inb v6 50 ∧ (if v8 < gA σ 45 v6 then inb (w32 (w32 (12 * v6) + v8)) 600 ∧ (if gA σ 46 (w32 (w32 (12 * v6) + v8)) = (-1) then inb (w32 (w32 (3 * v4) + v7)) 150 ∧ inb v4 50 ∧ (if gA σ 52 v4 = 0 then x_printTerm_j178 G v1 v2 v4 v5 v6 v7 v8 (gA σ 51 (w32 (w32 (3 * v4) + v7))) σ Q2 X892 else (if (v7 = 0) ∧ (¬ (v2 ≤ 2)) then G 0 [v1, (w32 (v2 - 1)), (gA σ 51 (w32 (w32 (3 * v4) + v7)))] σ (fun _ σ_43 => x_printTerm_j224 G v1 v2 v4 v5 v6 v7 v8 σ_43 Q2 X892) (fun _ => False) else x_printTerm_j178 G v1 v2 v4 v5 v6 v7 v8 (gA σ 51 (w32 (w32 (3 * v4) + v7))) σ Q2 X892)) else x_printWord (gA σ 46 (w32 (w32 (12 * v6) + v8))) σ (fun _ σ_47 => x_printTerm_j227 G v1 v2 v4 v5 v6 v7 v8 σ_47 Q2 X892)) else x_printTerm_j233 G v5 σ Q2) :=
  ⟨h.1, ite_m (fun _ h1 => ⟨h1.1, ite_m (fun _ h3 => ⟨h3.1, ⟨h3.2.1, ite_m (fun _ h6 => fx_printTerm_j178 hG fr h6 kQ kX89) (fun _ h6 => ite_m (fun _ h7 => hG _ _ _ _ _ _ _ h7 (fun _ σ_43 f h8 => (have f8 : Fr wX_printTerm σ0 σ_43 := (fr.trans f); fx_printTerm_j224 hG f8 h8 kQ kX89)) (fun _ _ h => h)) (fun _ h7 => fx_printTerm_j178 hG fr h7 kQ kX89) h6) h3.2.2⟩⟩) (fun _ h3 => fm_x_printWord h3 (fun _ σ_47 f h4 => (have f4 : Fr wX_printTerm σ0 σ_47 := (fr.trans (f.weak (by decide +kernel))); fx_printTerm_j227 hG f4 h4 kQ kX89))) h1.2⟩) (fun _ h1 => fx_printTerm_j233 hG fr h1 kQ) h.2⟩
theorem fx_printTerm_L89 {v1 : Int} {v2 : Int} {v4 : Int} {v5 : Int} {v6 : Int} {v7 : Int} {v8 : Int} {σ0 σ : S} {Q Q2 : Int → S → Prop} {G : Orc} (hG : FrO wX_printTerm G) (fr : Fr wX_printTerm σ0 σ) (h : x_printTerm_L89 G v1 v2 v4 v5 v6 v7 v8 σ Q) (kQ : ∀ r s, Fr wX_printTerm σ0 s → Q r s → Q2 r s) : x_printTerm_L89 G v1 v2 v4 v5 v6 v7 v8 σ Q2 := by
  unfold x_printTerm_L89 at h ⊢
  intro Y hY
  exact h (fun v7 v8 s => Fr wX_printTerm σ0 s → Y v7 v8 s) (fun v7 v8 s h f => hY v7 v8 s (fx_printTerm_L89_b (v1 := v1) (v2 := v2) (v4 := v4) (v5 := v5) (v6 := v6) (v7 := v7) (v8 := v8) (Q := Q) (Q2 := Q2) (X89 := fun v7 v8 s => Fr wX_printTerm σ0 s → Y v7 v8 s) (X892 := Y) hG f h kQ (fun v7 v8 s f h => h f))) fr
theorem lx_printTerm_L89 {v1 : Int} {v2 : Int} {v4 : Int} {v5 : Int} {v6 : Int} {v7 : Int} {v8 : Int} {σ0 : S} {Q : Int → S → Prop} {G : Orc} (hG : FrO wX_printTerm G) (I : Int → Int → S → Prop) (me : Int → Int → S → Nat) (h0 : I v7 v8 σ0) (step : ∀ (v7 : Int) (v8 : Int) (s : S), Fr wX_printTerm σ0 s → I v7 v8 s → (fun (Y0 : Int → Int → S → Prop) => inb v6 50 ∧ (if v8 < gA s 45 v6 then inb (w32 (w32 (12 * v6) + v8)) 600 ∧ (if gA s 46 (w32 (w32 (12 * v6) + v8)) = (-1) then inb (w32 (w32 (3 * v4) + v7)) 150 ∧ inb v4 50 ∧ (if gA s 52 v4 = 0 then x_printTerm_j178 G v1 v2 v4 v5 v6 v7 v8 (gA s 51 (w32 (w32 (3 * v4) + v7))) s Q Y0 else (if (v7 = 0) ∧ (¬ (v2 ≤ 2)) then G 0 [v1, (w32 (v2 - 1)), (gA s 51 (w32 (w32 (3 * v4) + v7)))] s (fun _ σ_43 => x_printTerm_j224 G v1 v2 v4 v5 v6 v7 v8 σ_43 Q Y0) (fun _ => False) else x_printTerm_j178 G v1 v2 v4 v5 v6 v7 v8 (gA s 51 (w32 (w32 (3 * v4) + v7))) s Q Y0)) else x_printWord (gA s 46 (w32 (w32 (12 * v6) + v8))) s (fun _ σ_47 => x_printTerm_j227 G v1 v2 v4 v5 v6 v7 v8 σ_47 Q Y0)) else x_printTerm_j233 G v5 s Q)) (fun v7' v8' s' => I v7' v8' s' ∧ me v7' v8' s' < me v7 v8 s)) : x_printTerm_L89 G v1 v2 v4 v5 v6 v7 v8 σ0 Q := by
  unfold x_printTerm_L89
  intro Y hY
  have key : ∀ (n : Nat) (v7 : Int) (v8 : Int) (s : S), me v7 v8 s < n → Fr wX_printTerm σ0 s → I v7 v8 s → Y v7 v8 s := by
    intro n
    induction n with
    | zero => intro v7 v8 s h; exact absurd h (Nat.not_lt_zero _)
    | succ n ih =>
      intro v7 v8 s hm fr hi
      exact hY v7 v8 s (fx_printTerm_L89_b (v1 := v1) (v2 := v2) (v4 := v4) (v5 := v5) (v6 := v6) (v7 := v7) (v8 := v8) (Q := Q) (Q2 := Q) (X89 := (fun v7' v8' s' => I v7' v8' s' ∧ me v7' v8' s' < me v7 v8 s)) (X892 := Y) hG fr (step v7 v8 s fr hi) (fun _ _ _ h => h) (fun v7 v8 s f h => ih v7 v8 s (by omega) f h.1))
  exact key _ v7 v8 σ0 (Nat.lt_succ_self _) Fr.rf h0
theorem fx_printTerm_j74 {v1 : Int} {v2 : Int} {v4 : Int} {v5 : Int} {σ0 σ : S} {Q Q2 : Int → S → Prop} {G : Orc} (hG : FrO wX_printTerm G) (fr : Fr wX_printTerm σ0 σ) (h : x_printTerm_j74 G v1 v2 v4 v5 σ Q) (kQ : ∀ r s, Fr wX_printTerm σ0 s → Q r s → Q2 r s) : x_printTerm_j74 G v1 v2 v4 v5 σ Q2 := by
  unfold x_printTerm_j74 at h ⊢
  exact ⟨h.1, fx_printTerm_L89 hG fr h.2 kQ⟩
theorem fx_printTerm_F {v1 : Int} {v2 : Int} {v3 : Int} {σ0 : S} {Q Q2 : Int → S → Prop} {G : Orc} (hG : FrO wX_printTerm G) (h : x_printTerm_F G v1 v2 v3 σ0 Q) (kQ : ∀ r s, Fr wX_printTerm σ0 s → Q r s → Q2 r s) : x_printTerm_F G v1 v2 v3 σ0 Q2 := by
  have fr : Fr wX_printTerm σ0 σ0 := Fr.rf
  unfold x_printTerm_F at h ⊢
  exact ⟨h.1, ite_m (fun _ h1 => ⟨h1.1, fm_x_printWord h1.2 (fun _ σ_53 f h3 => (have f3 : Fr wX_printTerm σ0 σ_53 := (fr.trans (f.weak (by decide +kernel))); ite_m (fun _ h4 => kQ _ _ f3 h4) (fun _ h4 => fm_x_printByte h4 (fun _ σ_56 f h5 => (have f5 : Fr wX_printTerm σ0 σ_56 := (f3.trans (f.weak (by decide +kernel))); kQ _ _ f5 h5))) h3))⟩) (fun _ h1 => ⟨h1.1, ite_m (fun _ h3 => fx_printTerm_j74 hG fr h3 kQ) (fun _ h3 => fm_x_printSign h3 (fun _ σ_48 f h4 => (have f4 : Fr wX_printTerm σ0 σ_48 := (fr.trans (f.weak (by decide +kernel))); fx_printTerm_j74 hG f4 h4 kQ))) h1.2⟩) h.2⟩
theorem fo_x_S_printTerm : ∀ n, FrO wX_printTerm (x_S_printTerm n)
  | 0 => fun _ _ _ _ _ _ _ h _ _ => h.elim
  | n + 1 => fun i a σ Q Q2 E E2 h kQ kE => by
    unfold x_S_printTerm at h ⊢
    split at h
    · exact fx_printTerm_F (fo_x_S_printTerm n) h kQ
    · exact h.elim
theorem fm_x_printTerm {v1 : Int} {v2 : Int} {v3 : Int} {σ0 : S} {Q Q2 : Int → S → Prop} (h : x_printTerm v1 v2 v3 σ0 Q) (kQ : ∀ r s, Fr wX_printTerm σ0 s → Q r s → Q2 r s) : x_printTerm v1 v2 v3 σ0 Q2 := fo_x_S_printTerm 90 _ _ _ _ _ _ _ h kQ (fun _ _ h => h)
theorem fm_x_print {v1 : Int} {v2 : Int} {σ0 : S} {Q Q2 : Int → S → Prop} {E E2 : S → Prop} (h : x_print v1 v2 σ0 Q E) (kQ : ∀ r s, Fr wX_print σ0 s → Q r s → Q2 r s) (kE : ∀ s, Fr wX_print σ0 s → E s → E2 s) : x_print v1 v2 σ0 Q2 E2 := by
  have fr : Fr wX_print σ0 σ0 := Fr.rf
  unfold x_print at h ⊢
  exact fm_x_isHandle h (fun r_2 σ_1 f h0 => (have f0 : Fr wX_print σ0 σ_1 := (fr.trans (f.weak (by decide +kernel))); ite_m (fun _ h1 => kQ _ _ f0 h1) (fun _ h1 => fm_x_begin h1 (fun _ σ_5 f h2 => (have f2 : Fr wX_print σ0 σ_5 := (f0.trans (f.weak (by decide +kernel))); fm_x_termAt h2 (fun r_7 σ_6 f h3 => (have f3 : Fr wX_print σ0 σ_6 := (f2.trans (f.weak (by decide +kernel))); fun σ_9 e4 => (have f4 : Fr wX_print σ0 σ_9 := Fr.putI f3 e4 rfl; fun σ_11 e5 => (have f5 : Fr wX_print σ0 σ_11 := Fr.putI f4 e5 rfl; fun σ_13 e6 => (have f6 : Fr wX_print σ0 σ_13 := Fr.putI f5 e6 rfl; ⟨(((h3 σ_9 e4) σ_11 e5) σ_13 e6).1, fm_x_printTerm (((h3 σ_9 e4) σ_11 e5) σ_13 e6).2 (fun _ σ_17 f h8 => (have f8 : Fr wX_print σ0 σ_17 := (f6.trans (f.weak (by decide +kernel))); kQ _ _ f8 h8))⟩))))) (fun s f h => kE _ (f2.trans (f.weak (by decide +kernel))) h)))) h0))
theorem fm_x_isSort {v1 : Int} {σ0 : S} {Q Q2 : Int → S → Prop} (h : x_isSort v1 σ0 Q) (kQ : ∀ r s, Fr wX_isSort σ0 s → Q r s → Q2 r s) : x_isSort v1 σ0 Q2 := by
  have fr : Fr wX_isSort σ0 σ0 := Fr.rf
  unfold x_isSort at h ⊢
  exact fm_x_within h (fun r_3 σ_2 f h0 => (have f0 : Fr wX_isSort σ0 σ_2 := (fr.trans (f.weak (by decide +kernel))); kQ _ _ f0 h0))
theorem fx_below_j16 {σ0 σ : S} {Q Q2 : Int → S → Prop} (fr : Fr wX_below σ0 σ) (h : x_below_j16  σ Q) (kQ : ∀ r s, Fr wX_below σ0 s → Q r s → Q2 r s) : x_below_j16  σ Q2 := by
  unfold x_below_j16 at h ⊢
  exact kQ _ _ fr h
theorem fm_x_below {v1 : Int} {v2 : Int} {σ0 : S} {Q Q2 : Int → S → Prop} (h : x_below v1 v2 σ0 Q) (kQ : ∀ r s, Fr wX_below σ0 s → Q r s → Q2 r s) : x_below v1 v2 σ0 Q2 := by
  have fr : Fr wX_below σ0 σ0 := Fr.rf
  unfold x_below at h ⊢
  exact fm_x_isSort h (fun r_2 σ_1 f h0 => (have f0 : Fr wX_below σ0 σ_1 := (fr.trans (f.weak (by decide +kernel))); ite_m (fun _ h1 => fx_below_j16 f0 h1 kQ) (fun _ h1 => fm_x_isSort h1 (fun r_6 σ_5 f h2 => (have f2 : Fr wX_below σ0 σ_5 := (f0.trans (f.weak (by decide +kernel))); ite_m (fun _ h3 => fx_below_j16 f2 h3 kQ) (fun _ h3 => fm_x_isBelow h3 (fun r_10 σ_9 f h4 => (have f4 : Fr wX_below σ0 σ_9 := (f2.trans (f.weak (by decide +kernel))); kQ _ _ f4 h4))) h2))) h0))
theorem fm_x_kind {v1 : Int} {σ0 : S} {Q Q2 : Int → S → Prop} (h : x_kind v1 σ0 Q) (kQ : ∀ r s, Fr wX_kind σ0 s → Q r s → Q2 r s) : x_kind v1 σ0 Q2 := by
  have fr : Fr wX_kind σ0 σ0 := Fr.rf
  unfold x_kind at h ⊢
  exact fm_x_isSort h (fun r_2 σ_1 f h0 => (have f0 : Fr wX_kind σ0 σ_1 := (fr.trans (f.weak (by decide +kernel))); ⟨h0.1, kQ _ _ f0 h0.2⟩))
theorem fx_rowsOf_L4_b {v1 : Int} {v2 : Int} {v3 : Int} {σ0 σ : S} {Q Q2 : Int → S → Prop} {X4 X42 : Int → Int → S → Prop} (fr : Fr wX_rowsOf σ0 σ) (h : (if v3 < gI σ 29 then inb v3 50 ∧ X4 (w32 (v2 + (bi (gA σ 41 v3 = v1)))) (w32 (v3 + 1)) σ else Q v2 σ)) (kQ : ∀ r s, Fr wX_rowsOf σ0 s → Q r s → Q2 r s) (kX4 : ∀ v2 v3 s, Fr wX_rowsOf σ0 s → X4 v2 v3 s → X42 v2 v3 s) : (if v3 < gI σ 29 then inb v3 50 ∧ X42 (w32 (v2 + (bi (gA σ 41 v3 = v1)))) (w32 (v3 + 1)) σ else Q2 v2 σ) :=
  ite_m (fun _ h0 => ⟨h0.1, kX4 _ _ _ fr h0.2⟩) (fun _ h0 => kQ _ _ fr h0) h
theorem fx_rowsOf_L4 {v1 : Int} {v2 : Int} {v3 : Int} {σ0 σ : S} {Q Q2 : Int → S → Prop} (fr : Fr wX_rowsOf σ0 σ) (h : x_rowsOf_L4 v1 v2 v3 σ Q) (kQ : ∀ r s, Fr wX_rowsOf σ0 s → Q r s → Q2 r s) : x_rowsOf_L4 v1 v2 v3 σ Q2 := by
  unfold x_rowsOf_L4 at h ⊢
  intro Y hY
  exact h (fun v2 v3 s => Fr wX_rowsOf σ0 s → Y v2 v3 s) (fun v2 v3 s h f => hY v2 v3 s (fx_rowsOf_L4_b (v1 := v1) (v2 := v2) (v3 := v3) (Q := Q) (Q2 := Q2) (X4 := fun v2 v3 s => Fr wX_rowsOf σ0 s → Y v2 v3 s) (X42 := Y) f h kQ (fun v2 v3 s f h => h f))) fr
theorem lx_rowsOf_L4 {v1 : Int} {v2 : Int} {v3 : Int} {σ0 : S} {Q : Int → S → Prop} (I : Int → Int → S → Prop) (me : Int → Int → S → Nat) (h0 : I v2 v3 σ0) (step : ∀ (v2 : Int) (v3 : Int) (s : S), Fr wX_rowsOf σ0 s → I v2 v3 s → (fun (Y0 : Int → Int → S → Prop) => (if v3 < gI s 29 then inb v3 50 ∧ Y0 (w32 (v2 + (bi (gA s 41 v3 = v1)))) (w32 (v3 + 1)) s else Q v2 s)) (fun v2' v3' s' => I v2' v3' s' ∧ me v2' v3' s' < me v2 v3 s)) : x_rowsOf_L4 v1 v2 v3 σ0 Q := by
  unfold x_rowsOf_L4
  intro Y hY
  have key : ∀ (n : Nat) (v2 : Int) (v3 : Int) (s : S), me v2 v3 s < n → Fr wX_rowsOf σ0 s → I v2 v3 s → Y v2 v3 s := by
    intro n
    induction n with
    | zero => intro v2 v3 s h; exact absurd h (Nat.not_lt_zero _)
    | succ n ih =>
      intro v2 v3 s hm fr hi
      exact hY v2 v3 s (fx_rowsOf_L4_b (v1 := v1) (v2 := v2) (v3 := v3) (Q := Q) (Q2 := Q) (X4 := (fun v2' v3' s' => I v2' v3' s' ∧ me v2' v3' s' < me v2 v3 s)) (X42 := Y) fr (step v2 v3 s fr hi) (fun _ _ _ h => h) (fun v2 v3 s f h => ih v2 v3 s (by omega) f h.1))
  exact key _ v2 v3 σ0 (Nat.lt_succ_self _) Fr.rf h0
theorem fm_x_rowsOf {v1 : Int} {σ0 : S} {Q Q2 : Int → S → Prop} (h : x_rowsOf v1 σ0 Q) (kQ : ∀ r s, Fr wX_rowsOf σ0 s → Q r s → Q2 r s) : x_rowsOf v1 σ0 Q2 := by
  have fr : Fr wX_rowsOf σ0 σ0 := Fr.rf
  unfold x_rowsOf at h ⊢
  exact fx_rowsOf_L4 fr h kQ
theorem fm_x_operator {v1 : Int} {v2 : Int} {σ0 : S} {Q Q2 : Int → S → Prop} (h : x_operator v1 v2 σ0 Q) (kQ : ∀ r s, Fr wX_operator σ0 s → Q r s → Q2 r s) : x_operator v1 v2 σ0 Q2 := by
  have fr : Fr wX_operator σ0 σ0 := Fr.rf
  unfold x_operator at h ⊢
  exact fm_x_within h (fun r_3 σ_2 f h0 => (have f0 : Fr wX_operator σ0 σ_2 := (fr.trans (f.weak (by decide +kernel))); ite_m (fun _ h1 => kQ _ _ f0 h1) (fun _ h1 => fm_x_within h1 (fun r_7 σ_6 f h2 => (have f2 : Fr wX_operator σ0 σ_6 := (f0.trans (f.weak (by decide +kernel))); ite_m (fun _ h3 => kQ _ _ f2 h3) (fun _ h3 => ite_m (fun _ h4 => ⟨h4.1, kQ _ _ f2 h4.2⟩) (fun _ h4 => ite_m (fun _ h5 => ⟨h5.1, kQ _ _ f2 h5.2⟩) (fun _ h5 => ite_m (fun _ h6 => ⟨h6.1, kQ _ _ f2 h6.2⟩) (fun _ h6 => ite_m (fun _ h7 => ⟨h7.1, kQ _ _ f2 h7.2⟩) (fun _ h7 => ite_m (fun _ h8 => ⟨h8.1, kQ _ _ f2 h8.2⟩) (fun _ h8 => ite_m (fun _ h9 => fm_x_rowsOf h9 (fun r_27 σ_26 f h10 => (have f10 : Fr wX_operator σ0 σ_26 := (f2.trans (f.weak (by decide +kernel))); kQ _ _ f10 h10))) (fun _ h9 => ⟨h9.1, kQ _ _ f2 h9.2⟩) h8) h7) h6) h5) h4) h3) h2))) h0))
theorem fx_match_j106 {σ0 σ : S} {Q Q2 : Int → S → Prop} {E E2 : S → Prop} (fr : Fr wX_match σ0 σ) (h : x_match_j106  σ Q E) (kQ : ∀ r s, Fr wX_match σ0 s → Q r s → Q2 r s) (kE : ∀ s, Fr wX_match σ0 s → E s → E2 s) : x_match_j106  σ Q2 E2 := by
  unfold x_match_j106 at h ⊢
  exact fm_x_stopped h (fun r_26 σ_25 f h0 => (have f0 : Fr wX_match σ0 σ_25 := (fr.trans (f.weak (by decide +kernel))); kQ _ _ f0 h0))
theorem fm_x_match {v1 : Int} {v2 : Int} {v3 : Int} {σ0 : S} {Q Q2 : Int → S → Prop} {E E2 : S → Prop} (h : x_match v1 v2 v3 σ0 Q E) (kQ : ∀ r s, Fr wX_match σ0 s → Q r s → Q2 r s) (kE : ∀ s, Fr wX_match σ0 s → E s → E2 s) : x_match v1 v2 v3 σ0 Q2 E2 := by
  have fr : Fr wX_match σ0 σ0 := Fr.rf
  unfold x_match at h ⊢
  exact fm_x_isHandle h (fun r_2 σ_1 f h0 => (have f0 : Fr wX_match σ0 σ_1 := (fr.trans (f.weak (by decide +kernel))); ite_m (fun _ h1 => kQ _ _ f0 h1) (fun _ h1 => fm_x_isHandle h1 (fun r_6 σ_5 f h2 => (have f2 : Fr wX_match σ0 σ_5 := (f0.trans (f.weak (by decide +kernel))); ite_m (fun _ h3 => kQ _ _ f2 h3) (fun _ h3 => fm_x_begin h3 (fun _ σ_9 f h4 => (have f4 : Fr wX_match σ0 σ_9 := (f2.trans (f.weak (by decide +kernel))); fm_x_termAt h4 (fun r_11 σ_10 f h5 => (have f5 : Fr wX_match σ0 σ_10 := (f4.trans (f.weak (by decide +kernel))); fm_x_termAt h5 (fun r_14 σ_13 f h6 => (have f6 : Fr wX_match σ0 σ_13 := (f5.trans (f.weak (by decide +kernel))); fm_x_kindAt h6 (fun r_17 σ_16 f h7 => (have f7 : Fr wX_match σ0 σ_16 := (f6.trans (f.weak (by decide +kernel))); fm_x_kindAt h7 (fun r_19 σ_18 f h8 => (have f8 : Fr wX_match σ0 σ_18 := (f7.trans (f.weak (by decide +kernel))); ite_m (fun _ h9 => fm_x_matchers h9 (fun r_23 σ_22 f h10 => (have f10 : Fr wX_match σ0 σ_22 := (f8.trans (f.weak (by decide +kernel))); fm_x_saveTo h10 (fun _ σ_27 f h11 => (have f11 : Fr wX_match σ0 σ_27 := (f10.trans (f.weak (by decide +kernel))); fm_x_saveTo h11 (fun _ σ_28 f h12 => (have f12 : Fr wX_match σ0 σ_28 := (f11.trans (f.weak (by decide +kernel))); fun σ_29 e13 => (have f13 : Fr wX_match σ0 σ_29 := Fr.putI f12 e13 rfl; fun σ_31 e14 => (have f14 : Fr wX_match σ0 σ_31 := Fr.putI f13 e14 rfl; fun σ_33 e15 => (have f15 : Fr wX_match σ0 σ_33 := Fr.putI f14 e15 rfl; kQ _ _ f15 (((h12 σ_29 e13) σ_31 e14) σ_33 e15)))))))))) (fun σ_24 f h10 => (have f10 : Fr wX_match σ0 σ_24 := (f8.trans (f.weak (by decide +kernel))); fx_match_j106 f10 h10 kQ kE))) (fun _ h9 => kQ _ _ f8 h9) h8)))))) (fun s f h => kE _ (f5.trans (f.weak (by decide +kernel))) h))) (fun s f h => kE _ (f4.trans (f.weak (by decide +kernel))) h)))) h2))) h0))
theorem fm_x_bound {v1 : Int} {v2 : Int} {σ0 : S} {Q Q2 : Int → S → Prop} {E E2 : S → Prop} (h : x_bound v1 v2 σ0 Q E) (kQ : ∀ r s, Fr wX_bound σ0 s → Q r s → Q2 r s) (kE : ∀ s, Fr wX_bound σ0 s → E s → E2 s) : x_bound v1 v2 σ0 Q2 E2 := by
  have fr : Fr wX_bound σ0 σ0 := Fr.rf
  unfold x_bound at h ⊢
  exact ite_m (fun _ h0 => fm_x_within h0 (fun r_6 σ_5 f h1 => (have f1 : Fr wX_bound σ0 σ_5 := (fr.trans (f.weak (by decide +kernel))); ite_m (fun _ h2 => kQ _ _ f1 h2) (fun _ h2 => fm_x_within h2 (fun r_10 σ_9 f h3 => (have f3 : Fr wX_bound σ0 σ_9 := (f1.trans (f.weak (by decide +kernel))); ite_m (fun _ h4 => kQ _ _ f3 h4) (fun _ h4 => fm_x_begin h4 (fun _ σ_13 f h5 => (have f5 : Fr wX_bound σ0 σ_13 := (f3.trans (f.weak (by decide +kernel))); fm_x_loadFrom h5 (fun r_15 σ_14 f h6 => (have f6 : Fr wX_bound σ0 σ_14 := (f5.trans (f.weak (by decide +kernel))); fm_x_loadFrom h6 (fun r_18 σ_17 f h7 => (have f7 : Fr wX_bound σ0 σ_17 := (f6.trans (f.weak (by decide +kernel))); fm_x_matchers h7 (fun r_22 σ_21 f h8 => (have f8 : Fr wX_bound σ0 σ_21 := (f7.trans (f.weak (by decide +kernel))); ⟨h8.1, ite_m (fun _ h10 => kQ _ _ f8 h10) (fun _ h10 => ite_m (fun _ h11 => kQ _ _ f8 h11) (fun _ h11 => fm_x_newHandle h11 (fun r_36 σ_35 f h12 => (have f12 : Fr wX_bound σ0 σ_35 := (f8.trans (f.weak (by decide +kernel))); kQ _ _ f12 h12))) h10) h8.2⟩)) (fun s f h => kE _ (f7.trans (f.weak (by decide +kernel))) h))) (fun s f h => kE _ (f6.trans (f.weak (by decide +kernel))) h))) (fun s f h => kE _ (f5.trans (f.weak (by decide +kernel))) h)))) h3))) h1))) (fun _ h0 => kQ _ _ fr h0) h
theorem fm_x_tellSteps {σ0 : S} {Q Q2 : Int → S → Prop} (h : x_tellSteps  σ0 Q) (kQ : ∀ r s, Fr wX_tellSteps σ0 s → Q r s → Q2 r s) : x_tellSteps  σ0 Q2 := by
  have fr : Fr wX_tellSteps σ0 σ0 := Fr.rf
  unfold x_tellSteps at h ⊢
  exact fun σ_2 e0 => (have f0 : Fr wX_tellSteps σ0 σ_2 := Fr.putI fr e0 rfl; kQ _ _ f0 (h σ_2 e0))
theorem fx_reduce_j47 {σ0 σ : S} {Q Q2 : Int → S → Prop} (fr : Fr wX_reduce σ0 σ) (h : x_reduce_j47  σ Q) (kQ : ∀ r s, Fr wX_reduce σ0 s → Q r s → Q2 r s) : x_reduce_j47  σ Q2 := by
  unfold x_reduce_j47 at h ⊢
  exact fm_x_tellSteps h (fun _ σ_12 f h0 => (have f0 : Fr wX_reduce σ0 σ_12 := (fr.trans (f.weak (by decide +kernel))); fm_x_stopped h0 (fun r_14 σ_13 f h1 => (have f1 : Fr wX_reduce σ0 σ_13 := (f0.trans (f.weak (by decide +kernel))); kQ _ _ f1 h1))))
theorem fm_x_reduce {v1 : Int} {σ0 : S} {Q Q2 : Int → S → Prop} (h : x_reduce v1 σ0 Q) (kQ : ∀ r s, Fr wX_reduce σ0 s → Q r s → Q2 r s) : x_reduce v1 σ0 Q2 := by
  have fr : Fr wX_reduce σ0 σ0 := Fr.rf
  unfold x_reduce at h ⊢
  exact fm_x_isHandle h (fun r_2 σ_1 f h0 => (have f0 : Fr wX_reduce σ0 σ_1 := (fr.trans (f.weak (by decide +kernel))); ite_m (fun _ h1 => kQ _ _ f0 h1) (fun _ h1 => ite_m (fun _ h2 => kQ _ _ f0 h2) (fun _ h2 => fm_x_begin h2 (fun _ σ_8 f h3 => (have f3 : Fr wX_reduce σ0 σ_8 := (f0.trans (f.weak (by decide +kernel))); fm_x_termAt h3 (fun r_10 σ_9 f h4 => (have f4 : Fr wX_reduce σ0 σ_9 := (f3.trans (f.weak (by decide +kernel))); fm_x_toRest h4 (fun r_16 σ_15 f h5 => (have f5 : Fr wX_reduce σ0 σ_15 := (f4.trans (f.weak (by decide +kernel))); fm_x_tellSteps h5 (fun _ σ_18 f h6 => (have f6 : Fr wX_reduce σ0 σ_18 := (f5.trans (f.weak (by decide +kernel))); fm_x_newHandle h6 (fun r_20 σ_19 f h7 => (have f7 : Fr wX_reduce σ0 σ_19 := (f6.trans (f.weak (by decide +kernel))); kQ _ _ f7 h7)))))) (fun σ_17 f h5 => (have f5 : Fr wX_reduce σ0 σ_17 := (f4.trans (f.weak (by decide +kernel))); fx_reduce_j47 f5 h5 kQ)))) (fun σ_11 f h4 => (have f4 : Fr wX_reduce σ0 σ_11 := (f3.trans (f.weak (by decide +kernel))); fx_reduce_j47 f4 h4 kQ))))) h1) h0))
theorem fm_x_keepResults {v1 : Int} {v2 : Int} {σ0 : S} {Q Q2 : Int → S → Prop} (h : x_keepResults v1 v2 σ0 Q) (kQ : ∀ r s, Fr wX_keepResults σ0 s → Q r s → Q2 r s) : x_keepResults v1 v2 σ0 Q2 := by
  have fr : Fr wX_keepResults σ0 σ0 := Fr.rf
  unfold x_keepResults at h ⊢
  exact fun σ_1 e0 => (have f0 : Fr wX_keepResults σ0 σ_1 := Fr.putI fr e0 rfl; fun σ_3 e1 => (have f1 : Fr wX_keepResults σ0 σ_3 := Fr.putI f0 e1 rfl; kQ _ _ f1 ((h σ_1 e0) σ_3 e1)))
theorem fx_steps_j98 {σ0 σ : S} {Q Q2 : Int → S → Prop} (fr : Fr wX_steps σ0 σ) (h : x_steps_j98  σ Q) (kQ : ∀ r s, Fr wX_steps σ0 s → Q r s → Q2 r s) : x_steps_j98  σ Q2 := by
  unfold x_steps_j98 at h ⊢
  exact fm_x_tellSteps h (fun _ σ_9 f h0 => (have f0 : Fr wX_steps σ0 σ_9 := (fr.trans (f.weak (by decide +kernel))); fm_x_stopped h0 (fun r_11 σ_10 f h1 => (have f1 : Fr wX_steps σ0 σ_10 := (f0.trans (f.weak (by decide +kernel))); kQ _ _ f1 h1))))
theorem fx_steps_j75 {σ0 σ : S} {Q Q2 : Int → S → Prop} (fr : Fr wX_steps σ0 σ) (h : x_steps_j75  σ Q) (kQ : ∀ r s, Fr wX_steps σ0 s → Q r s → Q2 r s) : x_steps_j75  σ Q2 := by
  unfold x_steps_j75 at h ⊢
  exact fm_x_keepResults h (fun _ σ_21 f h0 => (have f0 : Fr wX_steps σ0 σ_21 := (fr.trans (f.weak (by decide +kernel))); fun σ_22 e1 => (have f1 : Fr wX_steps σ0 σ_22 := Fr.putI f0 e1 rfl; fm_x_tellSteps (h0 σ_22 e1) (fun _ σ_24 f h2 => (have f2 : Fr wX_steps σ0 σ_24 := (f1.trans (f.weak (by decide +kernel))); kQ _ _ f2 h2)))))
theorem fx_steps_L31_b {v2 : Int} {σ0 σ : S} {Q Q2 : Int → S → Prop} {X31 X312 : Int → S → Prop} (fr : Fr wX_steps σ0 σ) (h : (if v2 < gI σ 146 then inb v2 61 ∧ x_saveTo (gA σ 93 v2) 97 (w32 (80 * v2)) σ (fun _ σ_28 => inb v2 61 ∧ inb v2 120 ∧ ∀ σ_31, σ_31 = pA σ_28 99 v2 (gA σ_28 94 v2) → X31 (w32 (v2 + 1)) σ_31) else x_steps_j75 σ Q)) (kQ : ∀ r s, Fr wX_steps σ0 s → Q r s → Q2 r s) (kX31 : ∀ v2 s, Fr wX_steps σ0 s → X31 v2 s → X312 v2 s) : (if v2 < gI σ 146 then inb v2 61 ∧ x_saveTo (gA σ 93 v2) 97 (w32 (80 * v2)) σ (fun _ σ_28 => inb v2 61 ∧ inb v2 120 ∧ ∀ σ_31, σ_31 = pA σ_28 99 v2 (gA σ_28 94 v2) → X312 (w32 (v2 + 1)) σ_31) else x_steps_j75 σ Q2) :=
  ite_m (fun _ h0 => ⟨h0.1, fm_x_saveTo h0.2 (fun _ σ_28 f h2 => (have f2 : Fr wX_steps σ0 σ_28 := (fr.trans (f.weak (by decide +kernel))); ⟨h2.1, ⟨h2.2.1, fun σ_31 e5 => (have f5 : Fr wX_steps σ0 σ_31 := Fr.putA f2 e5 rfl; kX31 _ _ f5 (h2.2.2 σ_31 e5))⟩⟩))⟩) (fun _ h0 => fx_steps_j75 fr h0 kQ) h
theorem fx_steps_L31 {v2 : Int} {σ0 σ : S} {Q Q2 : Int → S → Prop} (fr : Fr wX_steps σ0 σ) (h : x_steps_L31 v2 σ Q) (kQ : ∀ r s, Fr wX_steps σ0 s → Q r s → Q2 r s) : x_steps_L31 v2 σ Q2 := by
  unfold x_steps_L31 at h ⊢
  intro Y hY
  exact h (fun v2 s => Fr wX_steps σ0 s → Y v2 s) (fun v2 s h f => hY v2 s (fx_steps_L31_b (v2 := v2) (Q := Q) (Q2 := Q2) (X31 := fun v2 s => Fr wX_steps σ0 s → Y v2 s) (X312 := Y) f h kQ (fun v2 s f h => h f))) fr
theorem lx_steps_L31 {v2 : Int} {σ0 : S} {Q : Int → S → Prop} (I : Int → S → Prop) (me : Int → S → Nat) (h0 : I v2 σ0) (step : ∀ (v2 : Int) (s : S), Fr wX_steps σ0 s → I v2 s → (fun (Y0 : Int → S → Prop) => (if v2 < gI s 146 then inb v2 61 ∧ x_saveTo (gA s 93 v2) 97 (w32 (80 * v2)) s (fun _ σ_28 => inb v2 61 ∧ inb v2 120 ∧ ∀ σ_31, σ_31 = pA σ_28 99 v2 (gA σ_28 94 v2) → Y0 (w32 (v2 + 1)) σ_31) else x_steps_j75 s Q)) (fun v2' s' => I v2' s' ∧ me v2' s' < me v2 s)) : x_steps_L31 v2 σ0 Q := by
  unfold x_steps_L31
  intro Y hY
  have key : ∀ (n : Nat) (v2 : Int) (s : S), me v2 s < n → Fr wX_steps σ0 s → I v2 s → Y v2 s := by
    intro n
    induction n with
    | zero => intro v2 s h; exact absurd h (Nat.not_lt_zero _)
    | succ n ih =>
      intro v2 s hm fr hi
      exact hY v2 s (fx_steps_L31_b (v2 := v2) (Q := Q) (Q2 := Q) (X31 := (fun v2' s' => I v2' s' ∧ me v2' s' < me v2 s)) (X312 := Y) fr (step v2 s fr hi) (fun _ _ _ h => h) (fun v2 s f h => ih v2 s (by omega) f h.1))
  exact key _ v2 σ0 (Nat.lt_succ_self _) Fr.rf h0
theorem fm_x_steps {v1 : Int} {σ0 : S} {Q Q2 : Int → S → Prop} (h : x_steps v1 σ0 Q) (kQ : ∀ r s, Fr wX_steps σ0 s → Q r s → Q2 r s) : x_steps v1 σ0 Q2 := by
  have fr : Fr wX_steps σ0 σ0 := Fr.rf
  unfold x_steps at h ⊢
  exact fm_x_isHandle h (fun r_2 σ_1 f h0 => (have f0 : Fr wX_steps σ0 σ_1 := (fr.trans (f.weak (by decide +kernel))); ite_m (fun _ h1 => kQ _ _ f0 h1) (fun _ h1 => fm_x_begin h1 (fun _ σ_5 f h2 => (have f2 : Fr wX_steps σ0 σ_5 := (f0.trans (f.weak (by decide +kernel))); fm_x_termAt h2 (fun r_7 σ_6 f h3 => (have f3 : Fr wX_steps σ0 σ_6 := (f2.trans (f.weak (by decide +kernel))); fm_x_toRest h3 (fun r_13 σ_12 f h4 => (have f4 : Fr wX_steps σ0 σ_12 := (f3.trans (f.weak (by decide +kernel))); fm_x_rulesOf h4 (fun _ σ_15 f h5 => (have f5 : Fr wX_steps σ0 σ_15 := (f4.trans (f.weak (by decide +kernel))); fx_steps_L31 f5 h5 kQ)) (fun σ_16 f h5 => (have f5 : Fr wX_steps σ0 σ_16 := (f4.trans (f.weak (by decide +kernel))); fx_steps_j98 f5 h5 kQ)))) (fun σ_14 f h4 => (have f4 : Fr wX_steps σ0 σ_14 := (f3.trans (f.weak (by decide +kernel))); fx_steps_j98 f4 h4 kQ)))) (fun σ_8 f h3 => (have f3 : Fr wX_steps σ0 σ_8 := (f2.trans (f.weak (by decide +kernel))); fx_steps_j98 f3 h3 kQ))))) h0))
theorem fm_x_result {v1 : Int} {σ0 : S} {Q Q2 : Int → S → Prop} {E E2 : S → Prop} (h : x_result v1 σ0 Q E) (kQ : ∀ r s, Fr wX_result σ0 s → Q r s → Q2 r s) (kE : ∀ s, Fr wX_result σ0 s → E s → E2 s) : x_result v1 σ0 Q2 E2 := by
  have fr : Fr wX_result σ0 σ0 := Fr.rf
  unfold x_result at h ⊢
  exact ite_m (fun _ h0 => fm_x_within h0 (fun r_7 σ_6 f h1 => (have f1 : Fr wX_result σ0 σ_6 := (fr.trans (f.weak (by decide +kernel))); ite_m (fun _ h2 => kQ _ _ f1 h2) (fun _ h2 => fm_x_begin h2 (fun _ σ_10 f h3 => (have f3 : Fr wX_result σ0 σ_10 := (f1.trans (f.weak (by decide +kernel))); ite_m (fun _ h4 => kQ _ _ f3 h4) (fun _ h4 => fm_x_loadFrom h4 (fun r_15 σ_14 f h5 => (have f5 : Fr wX_result σ0 σ_14 := (f3.trans (f.weak (by decide +kernel))); fm_x_newHandle h5 (fun r_18 σ_17 f h6 => (have f6 : Fr wX_result σ0 σ_17 := (f5.trans (f.weak (by decide +kernel))); kQ _ _ f6 h6)))) (fun s f h => kE _ (f3.trans (f.weak (by decide +kernel))) h)) h3))) h1))) (fun _ h0 => kQ _ _ fr h0) h
theorem fx_way_j55 {v1 : Int} {v2 : Int} {σ0 σ : S} {Q Q2 : Int → S → Prop} (fr : Fr wX_way σ0 σ) (h : x_way_j55 v1 v2 σ Q) (kQ : ∀ r s, Fr wX_way σ0 s → Q r s → Q2 r s) : x_way_j55 v1 v2 σ Q2 := by
  unfold x_way_j55 at h ⊢
  exact ite_m (fun _ h0 => ⟨h0.1, ⟨h0.2.1, ⟨h0.2.2.1, ⟨h0.2.2.2.1, ⟨h0.2.2.2.2.1, kQ _ _ fr h0.2.2.2.2.2⟩⟩⟩⟩⟩) (fun _ h0 => kQ _ _ fr h0) h
theorem fm_x_way {v1 : Int} {v2 : Int} {σ0 : S} {Q Q2 : Int → S → Prop} (h : x_way v1 v2 σ0 Q) (kQ : ∀ r s, Fr wX_way σ0 s → Q r s → Q2 r s) : x_way v1 v2 σ0 Q2 := by
  have fr : Fr wX_way σ0 σ0 := Fr.rf
  unfold x_way at h ⊢
  exact fm_x_within h (fun r_3 σ_2 f h0 => (have f0 : Fr wX_way σ0 σ_2 := (fr.trans (f.weak (by decide +kernel))); ite_m (fun _ h1 => kQ _ _ f0 h1) (fun _ h1 => fm_x_within h1 (fun r_7 σ_6 f h2 => (have f2 : Fr wX_way σ0 σ_6 := (f0.trans (f.weak (by decide +kernel))); ite_m (fun _ h3 => kQ _ _ f2 h3) (fun _ h3 => ite_m (fun _ h4 => ite_m (fun _ h5 => fx_way_j55 f2 h5 kQ) (fun _ h5 => ⟨h5.1, kQ _ _ f2 h5.2⟩) h4) (fun _ h4 => fx_way_j55 f2 h4 kQ) h3) h2))) h0))
theorem fx_findStates_j194 {v2 : Int} {v3 : Int} {σ0 σ : S} {Q Q2 : Int → S → Prop} {E E2 : S → Prop} (fr : Fr wX_findStates σ0 σ) (h : x_findStates_j194 v2 v3 σ Q E) (kQ : ∀ r s, Fr wX_findStates σ0 s → Q r s → Q2 r s) (kE : ∀ s, Fr wX_findStates σ0 s → E s → E2 s) : x_findStates_j194 v2 v3 σ Q2 E2 := by
  unfold x_findStates_j194 at h ⊢
  exact ⟨h.1, fun σ_12 e1 => (have f1 : Fr wX_findStates σ0 σ_12 := Fr.putA fr e1 rfl; kQ _ _ f1 (h.2 σ_12 e1))⟩
theorem fx_findStates_j188 {v2 : Int} {v3 : Int} {v4 : Int} {σ0 σ : S} {Q Q2 : Int → S → Prop} {E E2 : S → Prop} {X29 X292 : Int → Int → Int → S → Prop} (fr : Fr wX_findStates σ0 σ) (h : x_findStates_j188 v2 v3 v4 σ Q E X29) (kQ : ∀ r s, Fr wX_findStates σ0 s → Q r s → Q2 r s) (kE : ∀ s, Fr wX_findStates σ0 s → E s → E2 s) (kX29 : ∀ a0 a1 a2 s, Fr wX_findStates σ0 s → X29 a0 a1 a2 s → X292 a0 a1 a2 s) : x_findStates_j188 v2 v3 v4 σ Q2 E2 X292 := by
  unfold x_findStates_j188 at h ⊢
  exact kX29 _ _ _ _ fr h
theorem fx_findStates_j171 {v2 : Int} {v3 : Int} {v4 : Int} {v5 : Int} {v6 : Int} {σ0 σ : S} {Q Q2 : Int → S → Prop} {E E2 : S → Prop} {X29 X292 : Int → Int → Int → S → Prop} {X59 X592 : Int → Int → Int → S → Prop} (fr : Fr wX_findStates σ0 σ) (h : x_findStates_j171 v2 v3 v4 v5 v6 σ Q E X29 X59) (kQ : ∀ r s, Fr wX_findStates σ0 s → Q r s → Q2 r s) (kE : ∀ s, Fr wX_findStates σ0 s → E s → E2 s) (kX29 : ∀ a0 a1 a2 s, Fr wX_findStates σ0 s → X29 a0 a1 a2 s → X292 a0 a1 a2 s) (kX59 : ∀ a0 a1 a2 s, Fr wX_findStates σ0 s → X59 a0 a1 a2 s → X592 a0 a1 a2 s) : x_findStates_j171 v2 v3 v4 v5 v6 σ Q2 E2 X292 X592 := by
  unfold x_findStates_j171 at h ⊢
  exact ⟨h.1, fun σ_35 e1 => (have f1 : Fr wX_findStates σ0 σ_35 := Fr.putA fr e1 rfl; kX59 _ _ _ _ f1 (h.2 σ_35 e1))⟩
theorem fx_findStates_j107 {σ0 σ : S} {Q Q2 : Int → S → Prop} {E E2 : S → Prop} (fr : Fr wX_findStates σ0 σ) (h : x_findStates_j107  σ Q E) (kQ : ∀ r s, Fr wX_findStates σ0 s → Q r s → Q2 r s) (kE : ∀ s, Fr wX_findStates σ0 s → E s → E2 s) : x_findStates_j107  σ Q2 E2 := by
  unfold x_findStates_j107 at h ⊢
  exact fm_x_stop h (fun _ σ_56 f h0 => (have f0 : Fr wX_findStates σ0 σ_56 := (fr.trans (f.weak (by decide +kernel))); kE _ f0 h0))
theorem fx_findStates_j100 {v2 : Int} {v3 : Int} {v4 : Int} {v5 : Int} {v6 : Int} {σ0 σ : S} {Q Q2 : Int → S → Prop} {E E2 : S → Prop} {X29 X292 : Int → Int → Int → S → Prop} {X59 X592 : Int → Int → Int → S → Prop} (fr : Fr wX_findStates σ0 σ) (h : x_findStates_j100 v2 v3 v4 v5 v6 σ Q E X29 X59) (kQ : ∀ r s, Fr wX_findStates σ0 s → Q r s → Q2 r s) (kE : ∀ s, Fr wX_findStates σ0 s → E s → E2 s) (kX29 : ∀ a0 a1 a2 s, Fr wX_findStates σ0 s → X29 a0 a1 a2 s → X292 a0 a1 a2 s) (kX59 : ∀ a0 a1 a2 s, Fr wX_findStates σ0 s → X59 a0 a1 a2 s → X592 a0 a1 a2 s) : x_findStates_j100 v2 v3 v4 v5 v6 σ Q2 E2 X292 X592 := by
  unfold x_findStates_j100 at h ⊢
  exact ite_m (fun _ h0 => fx_findStates_j107 fr h0 kQ kE) (fun _ h0 => ite_m (fun _ h1 => ⟨h1.1, ⟨h1.2.1, fun σ_40 e4 => (have f4 : Fr wX_findStates σ0 σ_40 := Fr.putA fr e4 rfl; ⟨(h1.2.2 σ_40 e4).1, fun σ_43 e6 => (have f6 : Fr wX_findStates σ0 σ_43 := Fr.putA f4 e6 rfl; ⟨((h1.2.2 σ_40 e4).2 σ_43 e6).1, ⟨((h1.2.2 σ_40 e4).2 σ_43 e6).2.1, fun σ_48 e9 => (have f9 : Fr wX_findStates σ0 σ_48 := Fr.putA f6 e9 rfl; ⟨(((h1.2.2 σ_40 e4).2 σ_43 e6).2.2 σ_48 e9).1, ⟨(((h1.2.2 σ_40 e4).2 σ_43 e6).2.2 σ_48 e9).2.1, fun σ_53 e12 => (have f12 : Fr wX_findStates σ0 σ_53 := Fr.putA f9 e12 rfl; fx_findStates_j171 f12 ((((h1.2.2 σ_40 e4).2 σ_43 e6).2.2 σ_48 e9).2.2 σ_53 e12) kQ kE kX29 kX59)⟩⟩)⟩⟩)⟩)⟩⟩) (fun _ h1 => fx_findStates_j171 fr h1 kQ kE kX29 kX59) h0) h
theorem fx_findStates_L71_b {v2 : Int} {v3 : Int} {v4 : Int} {v5 : Int} {v6 : Int} {σ0 σ : S} {Q Q2 : Int → S → Prop} {E E2 : S → Prop} {X29 X292 : Int → Int → Int → S → Prop} {X59 X592 : Int → Int → Int → S → Prop} {X71 X712 : Int → S → Prop} (fr : Fr wX_findStates σ0 σ) (h : ((v6 < v2) → (inb v6 120)) ∧ ((v6 < v2) → (inb v5 61)) ∧ (if (v6 < v2) ∧ (¬ (gA σ 104 v6 = gA σ 93 v5)) then X71 (w32 (v6 + 1)) σ else x_findStates_j100 v2 v3 v4 v5 v6 σ Q E X29 X59)) (kQ : ∀ r s, Fr wX_findStates σ0 s → Q r s → Q2 r s) (kE : ∀ s, Fr wX_findStates σ0 s → E s → E2 s) (kX29 : ∀ a0 a1 a2 s, Fr wX_findStates σ0 s → X29 a0 a1 a2 s → X292 a0 a1 a2 s) (kX59 : ∀ a0 a1 a2 s, Fr wX_findStates σ0 s → X59 a0 a1 a2 s → X592 a0 a1 a2 s) (kX71 : ∀ v6 s, Fr wX_findStates σ0 s → X71 v6 s → X712 v6 s) : ((v6 < v2) → (inb v6 120)) ∧ ((v6 < v2) → (inb v5 61)) ∧ (if (v6 < v2) ∧ (¬ (gA σ 104 v6 = gA σ 93 v5)) then X712 (w32 (v6 + 1)) σ else x_findStates_j100 v2 v3 v4 v5 v6 σ Q2 E2 X292 X592) :=
  ⟨h.1, ⟨h.2.1, ite_m (fun _ h2 => kX71 _ _ fr h2) (fun _ h2 => fx_findStates_j100 fr h2 kQ kE kX29 kX59) h.2.2⟩⟩
theorem fx_findStates_L71 {v2 : Int} {v3 : Int} {v4 : Int} {v5 : Int} {v6 : Int} {σ0 σ : S} {Q Q2 : Int → S → Prop} {E E2 : S → Prop} {X29 X292 : Int → Int → Int → S → Prop} {X59 X592 : Int → Int → Int → S → Prop} (fr : Fr wX_findStates σ0 σ) (h : x_findStates_L71 v2 v3 v4 v5 v6 σ Q E X29 X59) (kQ : ∀ r s, Fr wX_findStates σ0 s → Q r s → Q2 r s) (kE : ∀ s, Fr wX_findStates σ0 s → E s → E2 s) (kX29 : ∀ a0 a1 a2 s, Fr wX_findStates σ0 s → X29 a0 a1 a2 s → X292 a0 a1 a2 s) (kX59 : ∀ a0 a1 a2 s, Fr wX_findStates σ0 s → X59 a0 a1 a2 s → X592 a0 a1 a2 s) : x_findStates_L71 v2 v3 v4 v5 v6 σ Q2 E2 X292 X592 := by
  unfold x_findStates_L71 at h ⊢
  intro Y hY
  exact h (fun v6 s => Fr wX_findStates σ0 s → Y v6 s) (fun v6 s h f => hY v6 s (fx_findStates_L71_b (v2 := v2) (v3 := v3) (v4 := v4) (v5 := v5) (v6 := v6) (Q := Q) (Q2 := Q2) (E := E) (E2 := E2) (X29 := X29) (X292 := X292) (X59 := X59) (X592 := X592) (X71 := fun v6 s => Fr wX_findStates σ0 s → Y v6 s) (X712 := Y) f h kQ kE kX29 kX59 (fun v6 s f h => h f))) fr
theorem lx_findStates_L71 {v2 : Int} {v3 : Int} {v4 : Int} {v5 : Int} {v6 : Int} {σ0 : S} {Q : Int → S → Prop} {E : S → Prop} {X29 : Int → Int → Int → S → Prop} {X59 : Int → Int → Int → S → Prop} (I : Int → S → Prop) (me : Int → S → Nat) (h0 : I v6 σ0) (step : ∀ (v6 : Int) (s : S), Fr wX_findStates σ0 s → I v6 s → (fun (Y0 : Int → S → Prop) => ((v6 < v2) → (inb v6 120)) ∧ ((v6 < v2) → (inb v5 61)) ∧ (if (v6 < v2) ∧ (¬ (gA s 104 v6 = gA s 93 v5)) then Y0 (w32 (v6 + 1)) s else x_findStates_j100 v2 v3 v4 v5 v6 s Q E X29 X59)) (fun v6' s' => I v6' s' ∧ me v6' s' < me v6 s)) : x_findStates_L71 v2 v3 v4 v5 v6 σ0 Q E X29 X59 := by
  unfold x_findStates_L71
  intro Y hY
  have key : ∀ (n : Nat) (v6 : Int) (s : S), me v6 s < n → Fr wX_findStates σ0 s → I v6 s → Y v6 s := by
    intro n
    induction n with
    | zero => intro v6 s h; exact absurd h (Nat.not_lt_zero _)
    | succ n ih =>
      intro v6 s hm fr hi
      exact hY v6 s (fx_findStates_L71_b (v2 := v2) (v3 := v3) (v4 := v4) (v5 := v5) (v6 := v6) (Q := Q) (Q2 := Q) (E := E) (E2 := E) (X29 := X29) (X292 := X29) (X59 := X59) (X592 := X59) (X71 := (fun v6' s' => I v6' s' ∧ me v6' s' < me v6 s)) (X712 := Y) fr (step v6 s fr hi) (fun _ _ _ h => h) (fun _ _ h => h) (fun _ _ _ _ _ h => h) (fun _ _ _ _ _ h => h) (fun v6 s f h => ih v6 s (by omega) f h.1))
  exact key _ v6 σ0 (Nat.lt_succ_self _) Fr.rf h0
theorem fx_findStates_L59_b {v2 : Int} {v3 : Int} {v4 : Int} {v5 : Int} {σ0 σ : S} {Q Q2 : Int → S → Prop} {E E2 : S → Prop} {X29 X292 : Int → Int → Int → S → Prop} {X59 X592 : Int → Int → Int → S → Prop} (fr : Fr wX_findStates σ0 σ) (h : (if v5 < gI σ 146 then x_findStates_L71 v2 v3 v4 v5 0 σ Q E X29 X59 else x_findStates_j188 v2 v3 v4 σ Q E X29)) (kQ : ∀ r s, Fr wX_findStates σ0 s → Q r s → Q2 r s) (kE : ∀ s, Fr wX_findStates σ0 s → E s → E2 s) (kX29 : ∀ a0 a1 a2 s, Fr wX_findStates σ0 s → X29 a0 a1 a2 s → X292 a0 a1 a2 s) (kX59 : ∀ v2 v3 v5 s, Fr wX_findStates σ0 s → X59 v2 v3 v5 s → X592 v2 v3 v5 s) : (if v5 < gI σ 146 then x_findStates_L71 v2 v3 v4 v5 0 σ Q2 E2 X292 X592 else x_findStates_j188 v2 v3 v4 σ Q2 E2 X292) :=
  ite_m (fun _ h0 => fx_findStates_L71 fr h0 kQ kE kX29 kX59) (fun _ h0 => fx_findStates_j188 fr h0 kQ kE kX29) h
theorem fx_findStates_L59 {v2 : Int} {v3 : Int} {v4 : Int} {v5 : Int} {σ0 σ : S} {Q Q2 : Int → S → Prop} {E E2 : S → Prop} {X29 X292 : Int → Int → Int → S → Prop} (fr : Fr wX_findStates σ0 σ) (h : x_findStates_L59 v2 v3 v4 v5 σ Q E X29) (kQ : ∀ r s, Fr wX_findStates σ0 s → Q r s → Q2 r s) (kE : ∀ s, Fr wX_findStates σ0 s → E s → E2 s) (kX29 : ∀ a0 a1 a2 s, Fr wX_findStates σ0 s → X29 a0 a1 a2 s → X292 a0 a1 a2 s) : x_findStates_L59 v2 v3 v4 v5 σ Q2 E2 X292 := by
  unfold x_findStates_L59 at h ⊢
  intro Y hY
  exact h (fun v2 v3 v5 s => Fr wX_findStates σ0 s → Y v2 v3 v5 s) (fun v2 v3 v5 s h f => hY v2 v3 v5 s (fx_findStates_L59_b (v2 := v2) (v3 := v3) (v4 := v4) (v5 := v5) (Q := Q) (Q2 := Q2) (E := E) (E2 := E2) (X29 := X29) (X292 := X292) (X59 := fun v2 v3 v5 s => Fr wX_findStates σ0 s → Y v2 v3 v5 s) (X592 := Y) f h kQ kE kX29 (fun v2 v3 v5 s f h => h f))) fr
theorem lx_findStates_L59 {v2 : Int} {v3 : Int} {v4 : Int} {v5 : Int} {σ0 : S} {Q : Int → S → Prop} {E : S → Prop} {X29 : Int → Int → Int → S → Prop} (I : Int → Int → Int → S → Prop) (me : Int → Int → Int → S → Nat) (h0 : I v2 v3 v5 σ0) (step : ∀ (v2 : Int) (v3 : Int) (v5 : Int) (s : S), Fr wX_findStates σ0 s → I v2 v3 v5 s → (fun (Y0 : Int → Int → Int → S → Prop) => (if v5 < gI s 146 then x_findStates_L71 v2 v3 v4 v5 0 s Q E X29 Y0 else x_findStates_j188 v2 v3 v4 s Q E X29)) (fun v2' v3' v5' s' => I v2' v3' v5' s' ∧ me v2' v3' v5' s' < me v2 v3 v5 s)) : x_findStates_L59 v2 v3 v4 v5 σ0 Q E X29 := by
  unfold x_findStates_L59
  intro Y hY
  have key : ∀ (n : Nat) (v2 : Int) (v3 : Int) (v5 : Int) (s : S), me v2 v3 v5 s < n → Fr wX_findStates σ0 s → I v2 v3 v5 s → Y v2 v3 v5 s := by
    intro n
    induction n with
    | zero => intro v2 v3 v5 s h; exact absurd h (Nat.not_lt_zero _)
    | succ n ih =>
      intro v2 v3 v5 s hm fr hi
      exact hY v2 v3 v5 s (fx_findStates_L59_b (v2 := v2) (v3 := v3) (v4 := v4) (v5 := v5) (Q := Q) (Q2 := Q) (E := E) (E2 := E) (X29 := X29) (X292 := X29) (X59 := (fun v2' v3' v5' s' => I v2' v3' v5' s' ∧ me v2' v3' v5' s' < me v2 v3 v5 s)) (X592 := Y) fr (step v2 v3 v5 s fr hi) (fun _ _ _ h => h) (fun _ _ h => h) (fun _ _ _ _ _ h => h) (fun v2 v3 v5 s f h => ih v2 v3 v5 s (by omega) f h.1))
  exact key _ v2 v3 v5 σ0 (Nat.lt_succ_self _) Fr.rf h0
theorem fx_findStates_L29_b {v2 : Int} {v3 : Int} {v4 : Int} {σ0 σ : S} {Q Q2 : Int → S → Prop} {E E2 : S → Prop} {X29 X292 : Int → Int → Int → S → Prop} (fr : Fr wX_findStates σ0 σ) (h : (if v4 < v2 then inb v4 121 ∧ ∀ σ_15, σ_15 = pA σ 108 v4 v3 → inb v4 120 ∧ x_rulesOf (gA σ_15 104 v4) (-2) σ_15 (fun _ σ_20 => x_findStates_L59 v2 v3 v4 0 σ_20 Q E X29) E else x_findStates_j194 v2 v3 σ Q E)) (kQ : ∀ r s, Fr wX_findStates σ0 s → Q r s → Q2 r s) (kE : ∀ s, Fr wX_findStates σ0 s → E s → E2 s) (kX29 : ∀ v2 v3 v4 s, Fr wX_findStates σ0 s → X29 v2 v3 v4 s → X292 v2 v3 v4 s) : (if v4 < v2 then inb v4 121 ∧ ∀ σ_15, σ_15 = pA σ 108 v4 v3 → inb v4 120 ∧ x_rulesOf (gA σ_15 104 v4) (-2) σ_15 (fun _ σ_20 => x_findStates_L59 v2 v3 v4 0 σ_20 Q2 E2 X292) E2 else x_findStates_j194 v2 v3 σ Q2 E2) :=
  ite_m (fun _ h0 => ⟨h0.1, fun σ_15 e2 => (have f2 : Fr wX_findStates σ0 σ_15 := Fr.putA fr e2 rfl; ⟨(h0.2 σ_15 e2).1, fm_x_rulesOf (h0.2 σ_15 e2).2 (fun _ σ_20 f h4 => (have f4 : Fr wX_findStates σ0 σ_20 := (f2.trans (f.weak (by decide +kernel))); fx_findStates_L59 f4 h4 kQ kE kX29)) (fun s f h => kE _ (f2.trans (f.weak (by decide +kernel))) h)⟩)⟩) (fun _ h0 => fx_findStates_j194 fr h0 kQ kE) h
theorem fx_findStates_L29 {v2 : Int} {v3 : Int} {v4 : Int} {σ0 σ : S} {Q Q2 : Int → S → Prop} {E E2 : S → Prop} (fr : Fr wX_findStates σ0 σ) (h : x_findStates_L29 v2 v3 v4 σ Q E) (kQ : ∀ r s, Fr wX_findStates σ0 s → Q r s → Q2 r s) (kE : ∀ s, Fr wX_findStates σ0 s → E s → E2 s) : x_findStates_L29 v2 v3 v4 σ Q2 E2 := by
  unfold x_findStates_L29 at h ⊢
  intro Y hY
  exact h (fun v2 v3 v4 s => Fr wX_findStates σ0 s → Y v2 v3 v4 s) (fun v2 v3 v4 s h f => hY v2 v3 v4 s (fx_findStates_L29_b (v2 := v2) (v3 := v3) (v4 := v4) (Q := Q) (Q2 := Q2) (E := E) (E2 := E2) (X29 := fun v2 v3 v4 s => Fr wX_findStates σ0 s → Y v2 v3 v4 s) (X292 := Y) f h kQ kE (fun v2 v3 v4 s f h => h f))) fr
theorem lx_findStates_L29 {v2 : Int} {v3 : Int} {v4 : Int} {σ0 : S} {Q : Int → S → Prop} {E : S → Prop} (I : Int → Int → Int → S → Prop) (me : Int → Int → Int → S → Nat) (h0 : I v2 v3 v4 σ0) (step : ∀ (v2 : Int) (v3 : Int) (v4 : Int) (s : S), Fr wX_findStates σ0 s → I v2 v3 v4 s → (fun (Y0 : Int → Int → Int → S → Prop) => (if v4 < v2 then inb v4 121 ∧ ∀ σ_15, σ_15 = pA s 108 v4 v3 → inb v4 120 ∧ x_rulesOf (gA σ_15 104 v4) (-2) σ_15 (fun _ σ_20 => x_findStates_L59 v2 v3 v4 0 σ_20 Q E Y0) E else x_findStates_j194 v2 v3 s Q E)) (fun v2' v3' v4' s' => I v2' v3' v4' s' ∧ me v2' v3' v4' s' < me v2 v3 v4 s)) : x_findStates_L29 v2 v3 v4 σ0 Q E := by
  unfold x_findStates_L29
  intro Y hY
  have key : ∀ (n : Nat) (v2 : Int) (v3 : Int) (v4 : Int) (s : S), me v2 v3 v4 s < n → Fr wX_findStates σ0 s → I v2 v3 v4 s → Y v2 v3 v4 s := by
    intro n
    induction n with
    | zero => intro v2 v3 v4 s h; exact absurd h (Nat.not_lt_zero _)
    | succ n ih =>
      intro v2 v3 v4 s hm fr hi
      exact hY v2 v3 v4 s (fx_findStates_L29_b (v2 := v2) (v3 := v3) (v4 := v4) (Q := Q) (Q2 := Q) (E := E) (E2 := E) (X29 := (fun v2' v3' v4' s' => I v2' v3' v4' s' ∧ me v2' v3' v4' s' < me v2 v3 v4 s)) (X292 := Y) fr (step v2 v3 v4 s fr hi) (fun _ _ _ h => h) (fun _ _ h => h) (fun v2 v3 v4 s f h => ih v2 v3 v4 s (by omega) f h.1))
  exact key _ v2 v3 v4 σ0 (Nat.lt_succ_self _) Fr.rf h0
theorem fm_x_findStates {v1 : Int} {σ0 : S} {Q Q2 : Int → S → Prop} {E E2 : S → Prop} (h : x_findStates v1 σ0 Q E) (kQ : ∀ r s, Fr wX_findStates σ0 s → Q r s → Q2 r s) (kE : ∀ s, Fr wX_findStates σ0 s → E s → E2 s) : x_findStates v1 σ0 Q2 E2 := by
  have fr : Fr wX_findStates σ0 σ0 := Fr.rf
  unfold x_findStates at h ⊢
  exact ⟨h.1, fun σ_1 e1 => (have f1 : Fr wX_findStates σ0 σ_1 := Fr.putA fr e1 rfl; ⟨(h.2 σ_1 e1).1, fun σ_4 e3 => (have f3 : Fr wX_findStates σ0 σ_4 := Fr.putA f1 e3 rfl; ⟨((h.2 σ_1 e1).2 σ_4 e3).1, fun σ_7 e5 => (have f5 : Fr wX_findStates σ0 σ_7 := Fr.putA f3 e5 rfl; fx_findStates_L29 f5 (((h.2 σ_1 e1).2 σ_4 e3).2 σ_7 e5) kQ kE)⟩)⟩)⟩
theorem fx_states_j161 {σ0 σ : S} {Q Q2 : Int → S → Prop} (fr : Fr wX_states σ0 σ) (h : x_states_j161  σ Q) (kQ : ∀ r s, Fr wX_states σ0 s → Q r s → Q2 r s) : x_states_j161  σ Q2 := by
  unfold x_states_j161 at h ⊢
  exact fm_x_tellSteps h (fun _ σ_9 f h0 => (have f0 : Fr wX_states σ0 σ_9 := (fr.trans (f.weak (by decide +kernel))); fm_x_stopped h0 (fun r_11 σ_10 f h1 => (have f1 : Fr wX_states σ0 σ_10 := (f0.trans (f.weak (by decide +kernel))); kQ _ _ f1 h1))))
theorem fx_states_j149 {v2 : Int} {σ0 σ : S} {Q Q2 : Int → S → Prop} (fr : Fr wX_states σ0 σ) (h : x_states_j149 v2 σ Q) (kQ : ∀ r s, Fr wX_states σ0 s → Q r s → Q2 r s) : x_states_j149 v2 σ Q2 := by
  unfold x_states_j149 at h ⊢
  exact fm_x_keepResults h (fun _ σ_29 f h0 => (have f0 : Fr wX_states σ0 σ_29 := (fr.trans (f.weak (by decide +kernel))); fm_x_tellSteps h0 (fun _ σ_30 f h1 => (have f1 : Fr wX_states σ0 σ_30 := (f0.trans (f.weak (by decide +kernel))); kQ _ _ f1 h1))))
theorem fx_states_L121_b {v2 : Int} {v3 : Int} {σ0 σ : S} {Q Q2 : Int → S → Prop} {X121 X1212 : Int → S → Prop} (fr : Fr wX_states σ0 σ) (h : inb v2 121 ∧ (if v3 < gA σ 101 v2 then inb v3 7200 ∧ inb v3 7200 ∧ ∀ σ_33, σ_33 = pA σ 102 v3 (gA σ 109 v3) → X121 (w32 (v3 + 1)) σ_33 else x_states_j149 v2 σ Q)) (kQ : ∀ r s, Fr wX_states σ0 s → Q r s → Q2 r s) (kX121 : ∀ v3 s, Fr wX_states σ0 s → X121 v3 s → X1212 v3 s) : inb v2 121 ∧ (if v3 < gA σ 101 v2 then inb v3 7200 ∧ inb v3 7200 ∧ ∀ σ_33, σ_33 = pA σ 102 v3 (gA σ 109 v3) → X1212 (w32 (v3 + 1)) σ_33 else x_states_j149 v2 σ Q2) :=
  ⟨h.1, ite_m (fun _ h1 => ⟨h1.1, ⟨h1.2.1, fun σ_33 e4 => (have f4 : Fr wX_states σ0 σ_33 := Fr.putA fr e4 rfl; kX121 _ _ f4 (h1.2.2 σ_33 e4))⟩⟩) (fun _ h1 => fx_states_j149 fr h1 kQ) h.2⟩
theorem fx_states_L121 {v2 : Int} {v3 : Int} {σ0 σ : S} {Q Q2 : Int → S → Prop} (fr : Fr wX_states σ0 σ) (h : x_states_L121 v2 v3 σ Q) (kQ : ∀ r s, Fr wX_states σ0 s → Q r s → Q2 r s) : x_states_L121 v2 v3 σ Q2 := by
  unfold x_states_L121 at h ⊢
  intro Y hY
  exact h (fun v3 s => Fr wX_states σ0 s → Y v3 s) (fun v3 s h f => hY v3 s (fx_states_L121_b (v2 := v2) (v3 := v3) (Q := Q) (Q2 := Q2) (X121 := fun v3 s => Fr wX_states σ0 s → Y v3 s) (X1212 := Y) f h kQ (fun v3 s f h => h f))) fr
theorem lx_states_L121 {v2 : Int} {v3 : Int} {σ0 : S} {Q : Int → S → Prop} (I : Int → S → Prop) (me : Int → S → Nat) (h0 : I v3 σ0) (step : ∀ (v3 : Int) (s : S), Fr wX_states σ0 s → I v3 s → (fun (Y0 : Int → S → Prop) => inb v2 121 ∧ (if v3 < gA s 101 v2 then inb v3 7200 ∧ inb v3 7200 ∧ ∀ σ_33, σ_33 = pA s 102 v3 (gA s 109 v3) → Y0 (w32 (v3 + 1)) σ_33 else x_states_j149 v2 s Q)) (fun v3' s' => I v3' s' ∧ me v3' s' < me v3 s)) : x_states_L121 v2 v3 σ0 Q := by
  unfold x_states_L121
  intro Y hY
  have key : ∀ (n : Nat) (v3 : Int) (s : S), me v3 s < n → Fr wX_states σ0 s → I v3 s → Y v3 s := by
    intro n
    induction n with
    | zero => intro v3 s h; exact absurd h (Nat.not_lt_zero _)
    | succ n ih =>
      intro v3 s hm fr hi
      exact hY v3 s (fx_states_L121_b (v2 := v2) (v3 := v3) (Q := Q) (Q2 := Q) (X121 := (fun v3' s' => I v3' s' ∧ me v3' s' < me v3 s)) (X1212 := Y) fr (step v3 s fr hi) (fun _ _ _ h => h) (fun v3 s f h => ih v3 s (by omega) f h.1))
  exact key _ v3 σ0 (Nat.lt_succ_self _) Fr.rf h0
theorem fx_states_j107 {v2 : Int} {σ0 σ : S} {Q Q2 : Int → S → Prop} (fr : Fr wX_states σ0 σ) (h : x_states_j107 v2 σ Q) (kQ : ∀ r s, Fr wX_states σ0 s → Q r s → Q2 r s) : x_states_j107 v2 σ Q2 := by
  unfold x_states_j107 at h ⊢
  exact ⟨h.1, ⟨h.2.1, fun σ_22 e2 => (have f2 : Fr wX_states σ0 σ_22 := Fr.putA fr e2 rfl; fx_states_L121 f2 (h.2.2 σ_22 e2) kQ)⟩⟩
theorem fx_states_L30_b {v2 : Int} {v3 : Int} {σ0 σ : S} {Q Q2 : Int → S → Prop} {X30 X302 : Int → S → Prop} (fr : Fr wX_states σ0 σ) (h : (if v3 < v2 then inb v3 120 ∧ x_saveTo (gA σ 104 v3) 97 (w32 (80 * v3)) σ (fun _ σ_38 => inb v3 120 ∧ inb v3 120 ∧ ∀ σ_41, σ_41 = pA σ_38 98 v3 (gA σ_38 105 v3) → inb v3 120 ∧ inb v3 120 ∧ ∀ σ_46, σ_46 = pA σ_41 99 v3 (gA σ_41 106 v3) → inb v3 120 ∧ inb v3 120 ∧ ∀ σ_51, σ_51 = pA σ_46 100 v3 (gA σ_46 107 v3) → inb v3 121 ∧ inb v3 121 ∧ ∀ σ_56, σ_56 = pA σ_51 101 v3 (gA σ_51 108 v3) → X30 (w32 (v3 + 1)) σ_56) else x_states_j107 v2 σ Q)) (kQ : ∀ r s, Fr wX_states σ0 s → Q r s → Q2 r s) (kX30 : ∀ v3 s, Fr wX_states σ0 s → X30 v3 s → X302 v3 s) : (if v3 < v2 then inb v3 120 ∧ x_saveTo (gA σ 104 v3) 97 (w32 (80 * v3)) σ (fun _ σ_38 => inb v3 120 ∧ inb v3 120 ∧ ∀ σ_41, σ_41 = pA σ_38 98 v3 (gA σ_38 105 v3) → inb v3 120 ∧ inb v3 120 ∧ ∀ σ_46, σ_46 = pA σ_41 99 v3 (gA σ_41 106 v3) → inb v3 120 ∧ inb v3 120 ∧ ∀ σ_51, σ_51 = pA σ_46 100 v3 (gA σ_46 107 v3) → inb v3 121 ∧ inb v3 121 ∧ ∀ σ_56, σ_56 = pA σ_51 101 v3 (gA σ_51 108 v3) → X302 (w32 (v3 + 1)) σ_56) else x_states_j107 v2 σ Q2) :=
  ite_m (fun _ h0 => ⟨h0.1, fm_x_saveTo h0.2 (fun _ σ_38 f h2 => (have f2 : Fr wX_states σ0 σ_38 := (fr.trans (f.weak (by decide +kernel))); ⟨h2.1, ⟨h2.2.1, fun σ_41 e5 => (have f5 : Fr wX_states σ0 σ_41 := Fr.putA f2 e5 rfl; ⟨(h2.2.2 σ_41 e5).1, ⟨(h2.2.2 σ_41 e5).2.1, fun σ_46 e8 => (have f8 : Fr wX_states σ0 σ_46 := Fr.putA f5 e8 rfl; ⟨((h2.2.2 σ_41 e5).2.2 σ_46 e8).1, ⟨((h2.2.2 σ_41 e5).2.2 σ_46 e8).2.1, fun σ_51 e11 => (have f11 : Fr wX_states σ0 σ_51 := Fr.putA f8 e11 rfl; ⟨(((h2.2.2 σ_41 e5).2.2 σ_46 e8).2.2 σ_51 e11).1, ⟨(((h2.2.2 σ_41 e5).2.2 σ_46 e8).2.2 σ_51 e11).2.1, fun σ_56 e14 => (have f14 : Fr wX_states σ0 σ_56 := Fr.putA f11 e14 rfl; kX30 _ _ f14 ((((h2.2.2 σ_41 e5).2.2 σ_46 e8).2.2 σ_51 e11).2.2 σ_56 e14))⟩⟩)⟩⟩)⟩⟩)⟩⟩))⟩) (fun _ h0 => fx_states_j107 fr h0 kQ) h
theorem fx_states_L30 {v2 : Int} {v3 : Int} {σ0 σ : S} {Q Q2 : Int → S → Prop} (fr : Fr wX_states σ0 σ) (h : x_states_L30 v2 v3 σ Q) (kQ : ∀ r s, Fr wX_states σ0 s → Q r s → Q2 r s) : x_states_L30 v2 v3 σ Q2 := by
  unfold x_states_L30 at h ⊢
  intro Y hY
  exact h (fun v3 s => Fr wX_states σ0 s → Y v3 s) (fun v3 s h f => hY v3 s (fx_states_L30_b (v2 := v2) (v3 := v3) (Q := Q) (Q2 := Q2) (X30 := fun v3 s => Fr wX_states σ0 s → Y v3 s) (X302 := Y) f h kQ (fun v3 s f h => h f))) fr
theorem lx_states_L30 {v2 : Int} {v3 : Int} {σ0 : S} {Q : Int → S → Prop} (I : Int → S → Prop) (me : Int → S → Nat) (h0 : I v3 σ0) (step : ∀ (v3 : Int) (s : S), Fr wX_states σ0 s → I v3 s → (fun (Y0 : Int → S → Prop) => (if v3 < v2 then inb v3 120 ∧ x_saveTo (gA s 104 v3) 97 (w32 (80 * v3)) s (fun _ σ_38 => inb v3 120 ∧ inb v3 120 ∧ ∀ σ_41, σ_41 = pA σ_38 98 v3 (gA σ_38 105 v3) → inb v3 120 ∧ inb v3 120 ∧ ∀ σ_46, σ_46 = pA σ_41 99 v3 (gA σ_41 106 v3) → inb v3 120 ∧ inb v3 120 ∧ ∀ σ_51, σ_51 = pA σ_46 100 v3 (gA σ_46 107 v3) → inb v3 121 ∧ inb v3 121 ∧ ∀ σ_56, σ_56 = pA σ_51 101 v3 (gA σ_51 108 v3) → Y0 (w32 (v3 + 1)) σ_56) else x_states_j107 v2 s Q)) (fun v3' s' => I v3' s' ∧ me v3' s' < me v3 s)) : x_states_L30 v2 v3 σ0 Q := by
  unfold x_states_L30
  intro Y hY
  have key : ∀ (n : Nat) (v3 : Int) (s : S), me v3 s < n → Fr wX_states σ0 s → I v3 s → Y v3 s := by
    intro n
    induction n with
    | zero => intro v3 s h; exact absurd h (Nat.not_lt_zero _)
    | succ n ih =>
      intro v3 s hm fr hi
      exact hY v3 s (fx_states_L30_b (v2 := v2) (v3 := v3) (Q := Q) (Q2 := Q) (X30 := (fun v3' s' => I v3' s' ∧ me v3' s' < me v3 s)) (X302 := Y) fr (step v3 s fr hi) (fun _ _ _ h => h) (fun v3 s f h => ih v3 s (by omega) f h.1))
  exact key _ v3 σ0 (Nat.lt_succ_self _) Fr.rf h0
theorem fm_x_states {v1 : Int} {σ0 : S} {Q Q2 : Int → S → Prop} (h : x_states v1 σ0 Q) (kQ : ∀ r s, Fr wX_states σ0 s → Q r s → Q2 r s) : x_states v1 σ0 Q2 := by
  have fr : Fr wX_states σ0 σ0 := Fr.rf
  unfold x_states at h ⊢
  exact fm_x_isHandle h (fun r_2 σ_1 f h0 => (have f0 : Fr wX_states σ0 σ_1 := (fr.trans (f.weak (by decide +kernel))); ite_m (fun _ h1 => kQ _ _ f0 h1) (fun _ h1 => fm_x_begin h1 (fun _ σ_5 f h2 => (have f2 : Fr wX_states σ0 σ_5 := (f0.trans (f.weak (by decide +kernel))); fm_x_termAt h2 (fun r_7 σ_6 f h3 => (have f3 : Fr wX_states σ0 σ_6 := (f2.trans (f.weak (by decide +kernel))); fm_x_toRest h3 (fun r_13 σ_12 f h4 => (have f4 : Fr wX_states σ0 σ_12 := (f3.trans (f.weak (by decide +kernel))); fm_x_findStates h4 (fun r_16 σ_15 f h5 => (have f5 : Fr wX_states σ0 σ_15 := (f4.trans (f.weak (by decide +kernel))); fx_states_L30 f5 h5 kQ)) (fun σ_17 f h5 => (have f5 : Fr wX_states σ0 σ_17 := (f4.trans (f.weak (by decide +kernel))); fx_states_j161 f5 h5 kQ)))) (fun σ_14 f h4 => (have f4 : Fr wX_states σ0 σ_14 := (f3.trans (f.weak (by decide +kernel))); fx_states_j161 f4 h4 kQ)))) (fun σ_8 f h3 => (have f3 : Fr wX_states σ0 σ_8 := (f2.trans (f.weak (by decide +kernel))); fx_states_j161 f3 h3 kQ))))) h0))
theorem fx_isPattern_j40 {σ0 σ : S} {Q Q2 : Int → S → Prop} {E E2 : S → Prop} (fr : Fr wX_isPattern σ0 σ) (h : x_isPattern_j40  σ Q E) (kQ : ∀ r s, Fr wX_isPattern σ0 s → Q r s → Q2 r s) (kE : ∀ s, Fr wX_isPattern σ0 s → E s → E2 s) : x_isPattern_j40  σ Q2 E2 := by
  unfold x_isPattern_j40 at h ⊢
  exact kQ _ _ fr h
theorem fm_x_isPattern {v1 : Int} {v2 : Int} {σ0 : S} {Q Q2 : Int → S → Prop} {E E2 : S → Prop} (h : x_isPattern v1 v2 σ0 Q E) (kQ : ∀ r s, Fr wX_isPattern σ0 s → Q r s → Q2 r s) (kE : ∀ s, Fr wX_isPattern σ0 s → E s → E2 s) : x_isPattern v1 v2 σ0 Q2 E2 := by
  have fr : Fr wX_isPattern σ0 σ0 := Fr.rf
  unfold x_isPattern at h ⊢
  exact fm_x_loadFrom h (fun r_2 σ_1 f h0 => (have f0 : Fr wX_isPattern σ0 σ_1 := (fr.trans (f.weak (by decide +kernel))); fm_x_kindAt h0 (fun r_5 σ_4 f h1 => (have f1 : Fr wX_isPattern σ0 σ_4 := (f0.trans (f.weak (by decide +kernel))); fm_x_kindAt h1 (fun r_7 σ_6 f h2 => (have f2 : Fr wX_isPattern σ0 σ_6 := (f1.trans (f.weak (by decide +kernel))); ite_m (fun _ h3 => fm_x_matchers h3 (fun r_11 σ_10 f h4 => (have f4 : Fr wX_isPattern σ0 σ_10 := (f2.trans (f.weak (by decide +kernel))); ite_m (fun _ h5 => fx_isPattern_j40 f4 h5 kQ kE) (fun _ h5 => kQ _ _ f4 h5) h4)) (fun s f h => kE _ (f2.trans (f.weak (by decide +kernel))) h)) (fun _ h3 => fx_isPattern_j40 f2 h3 kQ kE) h2)))))) (fun s f h => kE _ (fr.trans (f.weak (by decide +kernel))) h)
theorem fx_search_j76 {σ0 σ : S} {Q Q2 : Int → S → Prop} (fr : Fr wX_search σ0 σ) (h : x_search_j76  σ Q) (kQ : ∀ r s, Fr wX_search σ0 s → Q r s → Q2 r s) : x_search_j76  σ Q2 := by
  unfold x_search_j76 at h ⊢
  exact fm_x_stopped h (fun r_16 σ_15 f h0 => (have f0 : Fr wX_search σ0 σ_15 := (fr.trans (f.weak (by decide +kernel))); kQ _ _ f0 h0))
theorem fx_search_L45_b {v3 : Int} {v4 : Int} {σ0 σ : S} {Q Q2 : Int → S → Prop} {X45 X452 : Int → S → Prop} (fr : Fr wX_search σ0 σ) (h : (if v4 < gI σ 153 then x_isPattern v3 v4 σ (fun r_21 σ_20 => (if r_21 = 0 then X45 (w32 (v4 + 1)) σ_20 else Q v4 σ_20)) (fun σ_22 => x_search_j76 σ_22 Q) else Q (-2) σ)) (kQ : ∀ r s, Fr wX_search σ0 s → Q r s → Q2 r s) (kX45 : ∀ v4 s, Fr wX_search σ0 s → X45 v4 s → X452 v4 s) : (if v4 < gI σ 153 then x_isPattern v3 v4 σ (fun r_21 σ_20 => (if r_21 = 0 then X452 (w32 (v4 + 1)) σ_20 else Q2 v4 σ_20)) (fun σ_22 => x_search_j76 σ_22 Q2) else Q2 (-2) σ) :=
  ite_m (fun _ h0 => fm_x_isPattern h0 (fun r_21 σ_20 f h1 => (have f1 : Fr wX_search σ0 σ_20 := (fr.trans (f.weak (by decide +kernel))); ite_m (fun _ h2 => kX45 _ _ f1 h2) (fun _ h2 => kQ _ _ f1 h2) h1)) (fun σ_22 f h1 => (have f1 : Fr wX_search σ0 σ_22 := (fr.trans (f.weak (by decide +kernel))); fx_search_j76 f1 h1 kQ))) (fun _ h0 => kQ _ _ fr h0) h
theorem fx_search_L45 {v3 : Int} {v4 : Int} {σ0 σ : S} {Q Q2 : Int → S → Prop} (fr : Fr wX_search σ0 σ) (h : x_search_L45 v3 v4 σ Q) (kQ : ∀ r s, Fr wX_search σ0 s → Q r s → Q2 r s) : x_search_L45 v3 v4 σ Q2 := by
  unfold x_search_L45 at h ⊢
  intro Y hY
  exact h (fun v4 s => Fr wX_search σ0 s → Y v4 s) (fun v4 s h f => hY v4 s (fx_search_L45_b (v3 := v3) (v4 := v4) (Q := Q) (Q2 := Q2) (X45 := fun v4 s => Fr wX_search σ0 s → Y v4 s) (X452 := Y) f h kQ (fun v4 s f h => h f))) fr
theorem lx_search_L45 {v3 : Int} {v4 : Int} {σ0 : S} {Q : Int → S → Prop} (I : Int → S → Prop) (me : Int → S → Nat) (h0 : I v4 σ0) (step : ∀ (v4 : Int) (s : S), Fr wX_search σ0 s → I v4 s → (fun (Y0 : Int → S → Prop) => (if v4 < gI s 153 then x_isPattern v3 v4 s (fun r_21 σ_20 => (if r_21 = 0 then Y0 (w32 (v4 + 1)) σ_20 else Q v4 σ_20)) (fun σ_22 => x_search_j76 σ_22 Q) else Q (-2) s)) (fun v4' s' => I v4' s' ∧ me v4' s' < me v4 s)) : x_search_L45 v3 v4 σ0 Q := by
  unfold x_search_L45
  intro Y hY
  have key : ∀ (n : Nat) (v4 : Int) (s : S), me v4 s < n → Fr wX_search σ0 s → I v4 s → Y v4 s := by
    intro n
    induction n with
    | zero => intro v4 s h; exact absurd h (Nat.not_lt_zero _)
    | succ n ih =>
      intro v4 s hm fr hi
      exact hY v4 s (fx_search_L45_b (v3 := v3) (v4 := v4) (Q := Q) (Q2 := Q) (X45 := (fun v4' s' => I v4' s' ∧ me v4' s' < me v4 s)) (X452 := Y) fr (step v4 s fr hi) (fun _ _ _ h => h) (fun v4 s f h => ih v4 s (by omega) f h.1))
  exact key _ v4 σ0 (Nat.lt_succ_self _) Fr.rf h0
theorem fm_x_search {v1 : Int} {v2 : Int} {σ0 : S} {Q Q2 : Int → S → Prop} (h : x_search v1 v2 σ0 Q) (kQ : ∀ r s, Fr wX_search σ0 s → Q r s → Q2 r s) : x_search v1 v2 σ0 Q2 := by
  have fr : Fr wX_search σ0 σ0 := Fr.rf
  unfold x_search at h ⊢
  exact fm_x_isHandle h (fun r_2 σ_1 f h0 => (have f0 : Fr wX_search σ0 σ_1 := (fr.trans (f.weak (by decide +kernel))); ite_m (fun _ h1 => fm_x_within h1 (fun r_8 σ_7 f h2 => (have f2 : Fr wX_search σ0 σ_7 := (f0.trans (f.weak (by decide +kernel))); ite_m (fun _ h3 => kQ _ _ f2 h3) (fun _ h3 => fm_x_begin h3 (fun _ σ_11 f h4 => (have f4 : Fr wX_search σ0 σ_11 := (f2.trans (f.weak (by decide +kernel))); fm_x_termAt h4 (fun r_13 σ_12 f h5 => (have f5 : Fr wX_search σ0 σ_12 := (f4.trans (f.weak (by decide +kernel))); fx_search_L45 f5 h5 kQ)) (fun σ_14 f h5 => (have f5 : Fr wX_search σ0 σ_14 := (f4.trans (f.weak (by decide +kernel))); fx_search_j76 f5 h5 kQ))))) h2))) (fun _ h1 => kQ _ _ f0 h1) h0))
theorem fx_escapes_j217 {v2 : Nat} {v3 : Int} {σ0 σ : S} {Q Q2 : Int → S → Prop} {X59 X592 : Int → S → Prop} (fr : Fr wX_escapes σ0 σ) (h : x_escapes_j217 v2 v3 σ Q X59) (kQ : ∀ r s, Fr wX_escapes σ0 s → Q r s → Q2 r s) (kX59 : ∀ a0 s, Fr wX_escapes σ0 s → X59 a0 s → X592 a0 s) : x_escapes_j217 v2 v3 σ Q2 X592 := by
  unfold x_escapes_j217 at h ⊢
  exact kX59 _ _ fr h
theorem fx_escapes_j168 {v2 : Nat} {v3 : Int} {v5 : Int} {σ0 σ : S} {Q Q2 : Int → S → Prop} {X59 X592 : Int → S → Prop} (fr : Fr wX_escapes σ0 σ) (h : x_escapes_j168 v2 v3 v5 σ Q X59) (kQ : ∀ r s, Fr wX_escapes σ0 s → Q r s → Q2 r s) (kX59 : ∀ a0 s, Fr wX_escapes σ0 s → X59 a0 s → X592 a0 s) : x_escapes_j168 v2 v3 v5 σ Q2 X592 := by
  unfold x_escapes_j168 at h ⊢
  exact ⟨h.1, ⟨h.2.1, ite_m (fun _ h2 => ⟨h2.1, fun σ_52 e4 => (have f4 : Fr wX_escapes σ0 σ_52 := Fr.putA fr e4 rfl; ⟨(h2.2 σ_52 e4).1, fun σ_55 e6 => (have f6 : Fr wX_escapes σ0 σ_55 := Fr.putA f4 e6 rfl; ⟨((h2.2 σ_52 e4).2 σ_55 e6).1, ⟨((h2.2 σ_52 e4).2 σ_55 e6).2.1, fun σ_60 e9 => (have f9 : Fr wX_escapes σ0 σ_60 := Fr.putA f6 e9 rfl; fx_escapes_j217 f9 (((h2.2 σ_52 e4).2 σ_55 e6).2.2 σ_60 e9) kQ kX59)⟩⟩)⟩)⟩) (fun _ h2 => fx_escapes_j217 fr h2 kQ kX59) h.2.2⟩⟩
theorem fx_escapes_L59_b {v2 : Nat} {v3 : Int} {σ0 σ : S} {Q Q2 : Int → S → Prop} {X59 X592 : Int → S → Prop} (fr : Fr wX_escapes σ0 σ) (h : (if v3 ≤ 0 then Q 0 σ else inb (w32 (v3 - 1)) 120 ∧ inb (gA σ 113 (w32 (v3 - 1))) 121 ∧ inb (w32 (gA σ 113 (w32 (v3 - 1)) + 1)) 121 ∧ (if gA σ 101 (gA σ 113 (w32 (v3 - 1))) = gA σ 101 (w32 (gA σ 113 (w32 (v3 - 1)) + 1)) then Q 1 σ else inb (w32 (v3 - 1)) 120 ∧ inb (w32 (gA σ 113 (w32 (v3 - 1)) + 1)) 121 ∧ (if gA σ 114 (w32 (v3 - 1)) = gA σ 101 (w32 (gA σ 113 (w32 (v3 - 1)) + 1)) then inb (gA σ 113 (w32 (v3 - 1))) 120 ∧ ∀ σ_70, σ_70 = pA σ 112 (gA σ 113 (w32 (v3 - 1))) 2 → x_escapes_j217 v2 (w32 (v3 + (-1))) σ_70 Q X59 else inb (w32 (v3 - 1)) 120 ∧ inb (w32 (v3 - 1)) 120 ∧ ∀ σ_37, σ_37 = pA σ 114 (w32 (v3 - 1)) (w32 (gA σ 114 (w32 (v3 - 1)) + 1)) → inb (gA σ 114 (w32 (v3 - 1))) 7200 ∧ inb (gA σ_37 102 (gA σ 114 (w32 (v3 - 1)))) ((dAln dX v2 : Nat) : Int) ∧ (if gA σ_37 v2 (gA σ_37 102 (gA σ 114 (w32 (v3 - 1)))) = 0 then inb (gA σ_37 102 (gA σ 114 (w32 (v3 - 1)))) 120 ∧ (if gA σ_37 112 (gA σ_37 102 (gA σ 114 (w32 (v3 - 1)))) = 1 then Q 1 σ_37 else x_escapes_j168 v2 v3 (gA σ_37 102 (gA σ 114 (w32 (v3 - 1)))) σ_37 Q X59) else x_escapes_j168 v2 v3 (gA σ_37 102 (gA σ 114 (w32 (v3 - 1)))) σ_37 Q X59))))) (kQ : ∀ r s, Fr wX_escapes σ0 s → Q r s → Q2 r s) (kX59 : ∀ v3 s, Fr wX_escapes σ0 s → X59 v3 s → X592 v3 s) : (if v3 ≤ 0 then Q2 0 σ else inb (w32 (v3 - 1)) 120 ∧ inb (gA σ 113 (w32 (v3 - 1))) 121 ∧ inb (w32 (gA σ 113 (w32 (v3 - 1)) + 1)) 121 ∧ (if gA σ 101 (gA σ 113 (w32 (v3 - 1))) = gA σ 101 (w32 (gA σ 113 (w32 (v3 - 1)) + 1)) then Q2 1 σ else inb (w32 (v3 - 1)) 120 ∧ inb (w32 (gA σ 113 (w32 (v3 - 1)) + 1)) 121 ∧ (if gA σ 114 (w32 (v3 - 1)) = gA σ 101 (w32 (gA σ 113 (w32 (v3 - 1)) + 1)) then inb (gA σ 113 (w32 (v3 - 1))) 120 ∧ ∀ σ_70, σ_70 = pA σ 112 (gA σ 113 (w32 (v3 - 1))) 2 → x_escapes_j217 v2 (w32 (v3 + (-1))) σ_70 Q2 X592 else inb (w32 (v3 - 1)) 120 ∧ inb (w32 (v3 - 1)) 120 ∧ ∀ σ_37, σ_37 = pA σ 114 (w32 (v3 - 1)) (w32 (gA σ 114 (w32 (v3 - 1)) + 1)) → inb (gA σ 114 (w32 (v3 - 1))) 7200 ∧ inb (gA σ_37 102 (gA σ 114 (w32 (v3 - 1)))) ((dAln dX v2 : Nat) : Int) ∧ (if gA σ_37 v2 (gA σ_37 102 (gA σ 114 (w32 (v3 - 1)))) = 0 then inb (gA σ_37 102 (gA σ 114 (w32 (v3 - 1)))) 120 ∧ (if gA σ_37 112 (gA σ_37 102 (gA σ 114 (w32 (v3 - 1)))) = 1 then Q2 1 σ_37 else x_escapes_j168 v2 v3 (gA σ_37 102 (gA σ 114 (w32 (v3 - 1)))) σ_37 Q2 X592) else x_escapes_j168 v2 v3 (gA σ_37 102 (gA σ 114 (w32 (v3 - 1)))) σ_37 Q2 X592)))) :=
  ite_m (fun _ h0 => kQ _ _ fr h0) (fun _ h0 => ⟨h0.1, ⟨h0.2.1, ⟨h0.2.2.1, ite_m (fun _ h4 => kQ _ _ fr h4) (fun _ h4 => ⟨h4.1, ⟨h4.2.1, ite_m (fun _ h7 => ⟨h7.1, fun σ_70 e9 => (have f9 : Fr wX_escapes σ0 σ_70 := Fr.putA fr e9 rfl; fx_escapes_j217 f9 (h7.2 σ_70 e9) kQ kX59)⟩) (fun _ h7 => ⟨h7.1, ⟨h7.2.1, fun σ_37 e10 => (have f10 : Fr wX_escapes σ0 σ_37 := Fr.putA fr e10 rfl; ⟨(h7.2.2 σ_37 e10).1, ⟨(h7.2.2 σ_37 e10).2.1, ite_m (fun _ h13 => ⟨h13.1, ite_m (fun _ h15 => kQ _ _ f10 h15) (fun _ h15 => fx_escapes_j168 f10 h15 kQ kX59) h13.2⟩) (fun _ h13 => fx_escapes_j168 f10 h13 kQ kX59) (h7.2.2 σ_37 e10).2.2⟩⟩)⟩⟩) h4.2.2⟩⟩) h0.2.2.2⟩⟩⟩) h
theorem fx_escapes_L59 {v2 : Nat} {v3 : Int} {σ0 σ : S} {Q Q2 : Int → S → Prop} (fr : Fr wX_escapes σ0 σ) (h : x_escapes_L59 v2 v3 σ Q) (kQ : ∀ r s, Fr wX_escapes σ0 s → Q r s → Q2 r s) : x_escapes_L59 v2 v3 σ Q2 := by
  unfold x_escapes_L59 at h ⊢
  intro Y hY
  exact h (fun v3 s => Fr wX_escapes σ0 s → Y v3 s) (fun v3 s h f => hY v3 s (fx_escapes_L59_b (v2 := v2) (v3 := v3) (Q := Q) (Q2 := Q2) (X59 := fun v3 s => Fr wX_escapes σ0 s → Y v3 s) (X592 := Y) f h kQ (fun v3 s f h => h f))) fr
theorem lx_escapes_L59 {v2 : Nat} {v3 : Int} {σ0 : S} {Q : Int → S → Prop} (I : Int → S → Prop) (me : Int → S → Nat) (h0 : I v3 σ0) (step : ∀ (v3 : Int) (s : S), Fr wX_escapes σ0 s → I v3 s → (fun (Y0 : Int → S → Prop) => (if v3 ≤ 0 then Q 0 s else inb (w32 (v3 - 1)) 120 ∧ inb (gA s 113 (w32 (v3 - 1))) 121 ∧ inb (w32 (gA s 113 (w32 (v3 - 1)) + 1)) 121 ∧ (if gA s 101 (gA s 113 (w32 (v3 - 1))) = gA s 101 (w32 (gA s 113 (w32 (v3 - 1)) + 1)) then Q 1 s else inb (w32 (v3 - 1)) 120 ∧ inb (w32 (gA s 113 (w32 (v3 - 1)) + 1)) 121 ∧ (if gA s 114 (w32 (v3 - 1)) = gA s 101 (w32 (gA s 113 (w32 (v3 - 1)) + 1)) then inb (gA s 113 (w32 (v3 - 1))) 120 ∧ ∀ σ_70, σ_70 = pA s 112 (gA s 113 (w32 (v3 - 1))) 2 → x_escapes_j217 v2 (w32 (v3 + (-1))) σ_70 Q Y0 else inb (w32 (v3 - 1)) 120 ∧ inb (w32 (v3 - 1)) 120 ∧ ∀ σ_37, σ_37 = pA s 114 (w32 (v3 - 1)) (w32 (gA s 114 (w32 (v3 - 1)) + 1)) → inb (gA s 114 (w32 (v3 - 1))) 7200 ∧ inb (gA σ_37 102 (gA s 114 (w32 (v3 - 1)))) ((dAln dX v2 : Nat) : Int) ∧ (if gA σ_37 v2 (gA σ_37 102 (gA s 114 (w32 (v3 - 1)))) = 0 then inb (gA σ_37 102 (gA s 114 (w32 (v3 - 1)))) 120 ∧ (if gA σ_37 112 (gA σ_37 102 (gA s 114 (w32 (v3 - 1)))) = 1 then Q 1 σ_37 else x_escapes_j168 v2 v3 (gA σ_37 102 (gA s 114 (w32 (v3 - 1)))) σ_37 Q Y0) else x_escapes_j168 v2 v3 (gA σ_37 102 (gA s 114 (w32 (v3 - 1)))) σ_37 Q Y0))))) (fun v3' s' => I v3' s' ∧ me v3' s' < me v3 s)) : x_escapes_L59 v2 v3 σ0 Q := by
  unfold x_escapes_L59
  intro Y hY
  have key : ∀ (n : Nat) (v3 : Int) (s : S), me v3 s < n → Fr wX_escapes σ0 s → I v3 s → Y v3 s := by
    intro n
    induction n with
    | zero => intro v3 s h; exact absurd h (Nat.not_lt_zero _)
    | succ n ih =>
      intro v3 s hm fr hi
      exact hY v3 s (fx_escapes_L59_b (v2 := v2) (v3 := v3) (Q := Q) (Q2 := Q) (X59 := (fun v3' s' => I v3' s' ∧ me v3' s' < me v3 s)) (X592 := Y) fr (step v3 s fr hi) (fun _ _ _ h => h) (fun v3 s f h => ih v3 s (by omega) f h.1))
  exact key _ v3 σ0 (Nat.lt_succ_self _) Fr.rf h0
theorem fx_escapes_j31 {v1 : Int} {v2 : Nat} {σ0 σ : S} {Q Q2 : Int → S → Prop} (fr : Fr wX_escapes σ0 σ) (h : x_escapes_j31 v1 v2 σ Q) (kQ : ∀ r s, Fr wX_escapes σ0 s → Q r s → Q2 r s) : x_escapes_j31 v1 v2 σ Q2 := by
  unfold x_escapes_j31 at h ⊢
  exact ⟨h.1, fun σ_8 e1 => (have f1 : Fr wX_escapes σ0 σ_8 := Fr.putA fr e1 rfl; ⟨(h.2 σ_8 e1).1, ⟨(h.2 σ_8 e1).2.1, fun σ_13 e4 => (have f4 : Fr wX_escapes σ0 σ_13 := Fr.putA f1 e4 rfl; ⟨((h.2 σ_8 e1).2.2 σ_13 e4).1, fun σ_16 e6 => (have f6 : Fr wX_escapes σ0 σ_16 := Fr.putA f4 e6 rfl; fx_escapes_L59 f6 (((h.2 σ_8 e1).2.2 σ_13 e4).2 σ_16 e6) kQ)⟩)⟩⟩)⟩
theorem fx_escapes_L10_b {v1 : Int} {v2 : Nat} {v3 : Int} {σ0 σ : S} {Q Q2 : Int → S → Prop} {X10 X102 : Int → S → Prop} (fr : Fr wX_escapes σ0 σ) (h : (if v3 < gI σ 153 then inb v3 120 ∧ ∀ σ_73, σ_73 = pA σ 112 v3 0 → X10 (w32 (v3 + 1)) σ_73 else x_escapes_j31 v1 v2 σ Q)) (kQ : ∀ r s, Fr wX_escapes σ0 s → Q r s → Q2 r s) (kX10 : ∀ v3 s, Fr wX_escapes σ0 s → X10 v3 s → X102 v3 s) : (if v3 < gI σ 153 then inb v3 120 ∧ ∀ σ_73, σ_73 = pA σ 112 v3 0 → X102 (w32 (v3 + 1)) σ_73 else x_escapes_j31 v1 v2 σ Q2) :=
  ite_m (fun _ h0 => ⟨h0.1, fun σ_73 e2 => (have f2 : Fr wX_escapes σ0 σ_73 := Fr.putA fr e2 rfl; kX10 _ _ f2 (h0.2 σ_73 e2))⟩) (fun _ h0 => fx_escapes_j31 fr h0 kQ) h
theorem fx_escapes_L10 {v1 : Int} {v2 : Nat} {v3 : Int} {σ0 σ : S} {Q Q2 : Int → S → Prop} (fr : Fr wX_escapes σ0 σ) (h : x_escapes_L10 v1 v2 v3 σ Q) (kQ : ∀ r s, Fr wX_escapes σ0 s → Q r s → Q2 r s) : x_escapes_L10 v1 v2 v3 σ Q2 := by
  unfold x_escapes_L10 at h ⊢
  intro Y hY
  exact h (fun v3 s => Fr wX_escapes σ0 s → Y v3 s) (fun v3 s h f => hY v3 s (fx_escapes_L10_b (v1 := v1) (v2 := v2) (v3 := v3) (Q := Q) (Q2 := Q2) (X10 := fun v3 s => Fr wX_escapes σ0 s → Y v3 s) (X102 := Y) f h kQ (fun v3 s f h => h f))) fr
theorem lx_escapes_L10 {v1 : Int} {v2 : Nat} {v3 : Int} {σ0 : S} {Q : Int → S → Prop} (I : Int → S → Prop) (me : Int → S → Nat) (h0 : I v3 σ0) (step : ∀ (v3 : Int) (s : S), Fr wX_escapes σ0 s → I v3 s → (fun (Y0 : Int → S → Prop) => (if v3 < gI s 153 then inb v3 120 ∧ ∀ σ_73, σ_73 = pA s 112 v3 0 → Y0 (w32 (v3 + 1)) σ_73 else x_escapes_j31 v1 v2 s Q)) (fun v3' s' => I v3' s' ∧ me v3' s' < me v3 s)) : x_escapes_L10 v1 v2 v3 σ0 Q := by
  unfold x_escapes_L10
  intro Y hY
  have key : ∀ (n : Nat) (v3 : Int) (s : S), me v3 s < n → Fr wX_escapes σ0 s → I v3 s → Y v3 s := by
    intro n
    induction n with
    | zero => intro v3 s h; exact absurd h (Nat.not_lt_zero _)
    | succ n ih =>
      intro v3 s hm fr hi
      exact hY v3 s (fx_escapes_L10_b (v1 := v1) (v2 := v2) (v3 := v3) (Q := Q) (Q2 := Q) (X10 := (fun v3' s' => I v3' s' ∧ me v3' s' < me v3 s)) (X102 := Y) fr (step v3 s fr hi) (fun _ _ _ h => h) (fun v3 s f h => ih v3 s (by omega) f h.1))
  exact key _ v3 σ0 (Nat.lt_succ_self _) Fr.rf h0
theorem fm_x_escapes {v1 : Int} {v2 : Nat} {σ0 : S} {Q Q2 : Int → S → Prop} (h : x_escapes v1 v2 σ0 Q) (kQ : ∀ r s, Fr wX_escapes σ0 s → Q r s → Q2 r s) : x_escapes v1 v2 σ0 Q2 := by
  have fr : Fr wX_escapes σ0 σ0 := Fr.rf
  unfold x_escapes at h ⊢
  exact ⟨h.1, ite_m (fun _ h1 => fx_escapes_L10 fr h1 kQ) (fun _ h1 => kQ _ _ fr h1) h.2⟩
theorem fx_law_j141 {σ0 σ : S} {Q Q2 : Int → S → Prop} (fr : Fr wX_law σ0 σ) (h : x_law_j141  σ Q) (kQ : ∀ r s, Fr wX_law σ0 s → Q r s → Q2 r s) : x_law_j141  σ Q2 := by
  unfold x_law_j141 at h ⊢
  exact fm_x_stopped h (fun r_19 σ_18 f h0 => (have f0 : Fr wX_law σ0 σ_18 := (fr.trans (f.weak (by decide +kernel))); kQ _ _ f0 h0))
theorem fx_law_j301 {v4 : Int} {σ0 σ : S} {Q Q2 : Int → S → Prop} (fr : Fr wX_law σ0 σ) (h : x_law_j301 v4 σ Q) (kQ : ∀ r s, Fr wX_law σ0 s → Q r s → Q2 r s) : x_law_j301 v4 σ Q2 := by
  unfold x_law_j301 at h ⊢
  exact kQ _ _ fr h
theorem fx_law_j279 {v1 : Int} {v4 : Int} {v5 : Int} {s0 : Int} {σ0 σ : S} {Q Q2 : Int → S → Prop} {X169 X1692 : Int → Int → S → Prop} (fr : Fr wX_law σ0 σ) (h : x_law_j279 v1 v4 v5 s0 σ Q X169) (kQ : ∀ r s, Fr wX_law σ0 s → Q r s → Q2 r s) (kX169 : ∀ a0 a1 s, Fr wX_law σ0 s → X169 a0 a1 s → X1692 a0 a1 s) : x_law_j279 v1 v4 v5 s0 σ Q2 X1692 := by
  unfold x_law_j279 at h ⊢
  exact kX169 _ _ _ fr h
theorem fx_law_j278 {v1 : Int} {v4 : Int} {v5 : Int} {σ0 σ : S} {Q Q2 : Int → S → Prop} {X169 X1692 : Int → Int → S → Prop} (fr : Fr wX_law σ0 σ) (h : x_law_j278 v1 v4 v5 σ Q X169) (kQ : ∀ r s, Fr wX_law σ0 s → Q r s → Q2 r s) (kX169 : ∀ a0 a1 s, Fr wX_law σ0 s → X169 a0 a1 s → X1692 a0 a1 s) : x_law_j278 v1 v4 v5 σ Q2 X1692 := by
  unfold x_law_j278 at h ⊢
  exact fx_law_j279 fr h kQ kX169
theorem fx_law_j237 {v1 : Int} {v4 : Int} {v5 : Int} {σ0 σ : S} {Q Q2 : Int → S → Prop} {X169 X1692 : Int → Int → S → Prop} (fr : Fr wX_law σ0 σ) (h : x_law_j237 v1 v4 v5 σ Q X169) (kQ : ∀ r s, Fr wX_law σ0 s → Q r s → Q2 r s) (kX169 : ∀ a0 a1 s, Fr wX_law σ0 s → X169 a0 a1 s → X1692 a0 a1 s) : x_law_j237 v1 v4 v5 σ Q2 X1692 := by
  unfold x_law_j237 at h ⊢
  exact fx_law_j279 fr h kQ kX169
theorem fx_law_L169_b {v1 : Int} {v4 : Int} {v5 : Int} {σ0 σ : S} {Q Q2 : Int → S → Prop} {X169 X1692 : Int → Int → S → Prop} (fr : Fr wX_law σ0 σ) (h : (if v5 < 0 then x_law_j301 v4 σ Q else (if v1 = 0 then inb v5 120 ∧ x_law_j279 v1 v4 v5 (bi (gA σ 110 v5 = 0)) σ Q X169 else (if v1 = 1 then inb v5 120 ∧ x_law_j279 v1 v4 v5 (gA σ 110 v5) σ Q X169 else (if v1 = 2 then (if v5 = 0 then x_escapes 0 110 σ (fun r_67 σ_66 => (if r_67 = 0 then x_law_j237 v1 v4 v5 σ_66 Q X169 else x_law_j279 v1 v4 v5 1 σ_66 Q X169)) else x_law_j237 v1 v4 v5 σ Q X169) else inb v5 120 ∧ ((¬ gA σ 110 v5 = 0) → (inb v5 120)) ∧ (if ¬ (gA σ 110 v5 = 0) ∧ (gA σ 111 v5 = 0) then x_escapes v5 111 σ (fun r_54 σ_53 => (if r_54 = 0 then x_law_j278 v1 v4 v5 σ_53 Q X169 else x_law_j279 v1 v4 v5 1 σ_53 Q X169)) else x_law_j278 v1 v4 v5 σ Q X169)))))) (kQ : ∀ r s, Fr wX_law σ0 s → Q r s → Q2 r s) (kX169 : ∀ v4 v5 s, Fr wX_law σ0 s → X169 v4 v5 s → X1692 v4 v5 s) : (if v5 < 0 then x_law_j301 v4 σ Q2 else (if v1 = 0 then inb v5 120 ∧ x_law_j279 v1 v4 v5 (bi (gA σ 110 v5 = 0)) σ Q2 X1692 else (if v1 = 1 then inb v5 120 ∧ x_law_j279 v1 v4 v5 (gA σ 110 v5) σ Q2 X1692 else (if v1 = 2 then (if v5 = 0 then x_escapes 0 110 σ (fun r_67 σ_66 => (if r_67 = 0 then x_law_j237 v1 v4 v5 σ_66 Q2 X1692 else x_law_j279 v1 v4 v5 1 σ_66 Q2 X1692)) else x_law_j237 v1 v4 v5 σ Q2 X1692) else inb v5 120 ∧ ((¬ gA σ 110 v5 = 0) → (inb v5 120)) ∧ (if ¬ (gA σ 110 v5 = 0) ∧ (gA σ 111 v5 = 0) then x_escapes v5 111 σ (fun r_54 σ_53 => (if r_54 = 0 then x_law_j278 v1 v4 v5 σ_53 Q2 X1692 else x_law_j279 v1 v4 v5 1 σ_53 Q2 X1692)) else x_law_j278 v1 v4 v5 σ Q2 X1692))))) :=
  ite_m (fun _ h0 => fx_law_j301 fr h0 kQ) (fun _ h0 => ite_m (fun _ h1 => ⟨h1.1, fx_law_j279 fr h1.2 kQ kX169⟩) (fun _ h1 => ite_m (fun _ h2 => ⟨h2.1, fx_law_j279 fr h2.2 kQ kX169⟩) (fun _ h2 => ite_m (fun _ h3 => ite_m (fun _ h4 => fm_x_escapes h4 (fun r_67 σ_66 f h5 => (have f5 : Fr wX_law σ0 σ_66 := (fr.trans (f.weak (by decide +kernel))); ite_m (fun _ h6 => fx_law_j237 f5 h6 kQ kX169) (fun _ h6 => fx_law_j279 f5 h6 kQ kX169) h5))) (fun _ h4 => fx_law_j237 fr h4 kQ kX169) h3) (fun _ h3 => ⟨h3.1, ⟨h3.2.1, ite_m (fun _ h6 => fm_x_escapes h6 (fun r_54 σ_53 f h7 => (have f7 : Fr wX_law σ0 σ_53 := (fr.trans (f.weak (by decide +kernel))); ite_m (fun _ h8 => fx_law_j278 f7 h8 kQ kX169) (fun _ h8 => fx_law_j279 f7 h8 kQ kX169) h7))) (fun _ h6 => fx_law_j278 fr h6 kQ kX169) h3.2.2⟩⟩) h2) h1) h0) h
theorem fx_law_L169 {v1 : Int} {v4 : Int} {v5 : Int} {σ0 σ : S} {Q Q2 : Int → S → Prop} (fr : Fr wX_law σ0 σ) (h : x_law_L169 v1 v4 v5 σ Q) (kQ : ∀ r s, Fr wX_law σ0 s → Q r s → Q2 r s) : x_law_L169 v1 v4 v5 σ Q2 := by
  unfold x_law_L169 at h ⊢
  intro Y hY
  exact h (fun v4 v5 s => Fr wX_law σ0 s → Y v4 v5 s) (fun v4 v5 s h f => hY v4 v5 s (fx_law_L169_b (v1 := v1) (v4 := v4) (v5 := v5) (Q := Q) (Q2 := Q2) (X169 := fun v4 v5 s => Fr wX_law σ0 s → Y v4 v5 s) (X1692 := Y) f h kQ (fun v4 v5 s f h => h f))) fr
theorem lx_law_L169 {v1 : Int} {v4 : Int} {v5 : Int} {σ0 : S} {Q : Int → S → Prop} (I : Int → Int → S → Prop) (me : Int → Int → S → Nat) (h0 : I v4 v5 σ0) (step : ∀ (v4 : Int) (v5 : Int) (s : S), Fr wX_law σ0 s → I v4 v5 s → (fun (Y0 : Int → Int → S → Prop) => (if v5 < 0 then x_law_j301 v4 s Q else (if v1 = 0 then inb v5 120 ∧ x_law_j279 v1 v4 v5 (bi (gA s 110 v5 = 0)) s Q Y0 else (if v1 = 1 then inb v5 120 ∧ x_law_j279 v1 v4 v5 (gA s 110 v5) s Q Y0 else (if v1 = 2 then (if v5 = 0 then x_escapes 0 110 s (fun r_67 σ_66 => (if r_67 = 0 then x_law_j237 v1 v4 v5 σ_66 Q Y0 else x_law_j279 v1 v4 v5 1 σ_66 Q Y0)) else x_law_j237 v1 v4 v5 s Q Y0) else inb v5 120 ∧ ((¬ gA s 110 v5 = 0) → (inb v5 120)) ∧ (if ¬ (gA s 110 v5 = 0) ∧ (gA s 111 v5 = 0) then x_escapes v5 111 s (fun r_54 σ_53 => (if r_54 = 0 then x_law_j278 v1 v4 v5 σ_53 Q Y0 else x_law_j279 v1 v4 v5 1 σ_53 Q Y0)) else x_law_j278 v1 v4 v5 s Q Y0)))))) (fun v4' v5' s' => I v4' v5' s' ∧ me v4' v5' s' < me v4 v5 s)) : x_law_L169 v1 v4 v5 σ0 Q := by
  unfold x_law_L169
  intro Y hY
  have key : ∀ (n : Nat) (v4 : Int) (v5 : Int) (s : S), me v4 v5 s < n → Fr wX_law σ0 s → I v4 v5 s → Y v4 v5 s := by
    intro n
    induction n with
    | zero => intro v4 v5 s h; exact absurd h (Nat.not_lt_zero _)
    | succ n ih =>
      intro v4 v5 s hm fr hi
      exact hY v4 v5 s (fx_law_L169_b (v1 := v1) (v4 := v4) (v5 := v5) (Q := Q) (Q2 := Q) (X169 := (fun v4' v5' s' => I v4' v5' s' ∧ me v4' v5' s' < me v4 v5 s)) (X1692 := Y) fr (step v4 v5 s fr hi) (fun _ _ _ h => h) (fun v4 v5 s f h => ih v4 v5 s (by omega) f h.1))
  exact key _ v4 v5 σ0 (Nat.lt_succ_self _) Fr.rf h0
theorem fx_law_j138 {v1 : Int} {σ0 σ : S} {Q Q2 : Int → S → Prop} (fr : Fr wX_law σ0 σ) (h : x_law_j138 v1 σ Q) (kQ : ∀ r s, Fr wX_law σ0 s → Q r s → Q2 r s) : x_law_j138 v1 σ Q2 := by
  unfold x_law_j138 at h ⊢
  exact fx_law_L169 fr h kQ
theorem fx_law_L103_b {v1 : Int} {v5 : Int} {v6 : Int} {σ0 σ : S} {Q Q2 : Int → S → Prop} {X103 X1032 : Int → S → Prop} (fr : Fr wX_law σ0 σ) (h : (if (v6 < gI σ 153) ∧ (v1 = 3) then x_isPattern v5 v6 σ (fun r_29 σ_28 => inb v6 120 ∧ ∀ σ_31, σ_31 = pA σ_28 111 v6 r_29 → X103 (w32 (v6 + 1)) σ_31) (fun σ_30 => x_law_j141 σ_30 Q) else x_law_j138 v1 σ Q)) (kQ : ∀ r s, Fr wX_law σ0 s → Q r s → Q2 r s) (kX103 : ∀ v6 s, Fr wX_law σ0 s → X103 v6 s → X1032 v6 s) : (if (v6 < gI σ 153) ∧ (v1 = 3) then x_isPattern v5 v6 σ (fun r_29 σ_28 => inb v6 120 ∧ ∀ σ_31, σ_31 = pA σ_28 111 v6 r_29 → X1032 (w32 (v6 + 1)) σ_31) (fun σ_30 => x_law_j141 σ_30 Q2) else x_law_j138 v1 σ Q2) :=
  ite_m (fun _ h0 => fm_x_isPattern h0 (fun r_29 σ_28 f h1 => (have f1 : Fr wX_law σ0 σ_28 := (fr.trans (f.weak (by decide +kernel))); ⟨h1.1, fun σ_31 e3 => (have f3 : Fr wX_law σ0 σ_31 := Fr.putA f1 e3 rfl; kX103 _ _ f3 (h1.2 σ_31 e3))⟩)) (fun σ_30 f h1 => (have f1 : Fr wX_law σ0 σ_30 := (fr.trans (f.weak (by decide +kernel))); fx_law_j141 f1 h1 kQ))) (fun _ h0 => fx_law_j138 fr h0 kQ) h
theorem fx_law_L103 {v1 : Int} {v5 : Int} {v6 : Int} {σ0 σ : S} {Q Q2 : Int → S → Prop} (fr : Fr wX_law σ0 σ) (h : x_law_L103 v1 v5 v6 σ Q) (kQ : ∀ r s, Fr wX_law σ0 s → Q r s → Q2 r s) : x_law_L103 v1 v5 v6 σ Q2 := by
  unfold x_law_L103 at h ⊢
  intro Y hY
  exact h (fun v6 s => Fr wX_law σ0 s → Y v6 s) (fun v6 s h f => hY v6 s (fx_law_L103_b (v1 := v1) (v5 := v5) (v6 := v6) (Q := Q) (Q2 := Q2) (X103 := fun v6 s => Fr wX_law σ0 s → Y v6 s) (X1032 := Y) f h kQ (fun v6 s f h => h f))) fr
theorem lx_law_L103 {v1 : Int} {v5 : Int} {v6 : Int} {σ0 : S} {Q : Int → S → Prop} (I : Int → S → Prop) (me : Int → S → Nat) (h0 : I v6 σ0) (step : ∀ (v6 : Int) (s : S), Fr wX_law σ0 s → I v6 s → (fun (Y0 : Int → S → Prop) => (if (v6 < gI s 153) ∧ (v1 = 3) then x_isPattern v5 v6 s (fun r_29 σ_28 => inb v6 120 ∧ ∀ σ_31, σ_31 = pA σ_28 111 v6 r_29 → Y0 (w32 (v6 + 1)) σ_31) (fun σ_30 => x_law_j141 σ_30 Q) else x_law_j138 v1 s Q)) (fun v6' s' => I v6' s' ∧ me v6' s' < me v6 s)) : x_law_L103 v1 v5 v6 σ0 Q := by
  unfold x_law_L103
  intro Y hY
  have key : ∀ (n : Nat) (v6 : Int) (s : S), me v6 s < n → Fr wX_law σ0 s → I v6 s → Y v6 s := by
    intro n
    induction n with
    | zero => intro v6 s h; exact absurd h (Nat.not_lt_zero _)
    | succ n ih =>
      intro v6 s hm fr hi
      exact hY v6 s (fx_law_L103_b (v1 := v1) (v5 := v5) (v6 := v6) (Q := Q) (Q2 := Q) (X103 := (fun v6' s' => I v6' s' ∧ me v6' s' < me v6 s)) (X1032 := Y) fr (step v6 s fr hi) (fun _ _ _ h => h) (fun v6 s f h => ih v6 s (by omega) f h.1))
  exact key _ v6 σ0 (Nat.lt_succ_self _) Fr.rf h0
theorem fx_law_j98 {v1 : Int} {s0 : Int} {σ0 σ : S} {Q Q2 : Int → S → Prop} (fr : Fr wX_law σ0 σ) (h : x_law_j98 v1 s0 σ Q) (kQ : ∀ r s, Fr wX_law σ0 s → Q r s → Q2 r s) : x_law_j98 v1 s0 σ Q2 := by
  unfold x_law_j98 at h ⊢
  exact fx_law_L103 fr h kQ
theorem fx_law_j84 {v1 : Int} {v3 : Int} {σ0 σ : S} {Q Q2 : Int → S → Prop} (fr : Fr wX_law σ0 σ) (h : x_law_j84 v1 v3 σ Q) (kQ : ∀ r s, Fr wX_law σ0 s → Q r s → Q2 r s) : x_law_j84 v1 v3 σ Q2 := by
  unfold x_law_j84 at h ⊢
  exact ite_m (fun _ h0 => fm_x_termAt h0 (fun r_81 σ_80 f h1 => (have f1 : Fr wX_law σ0 σ_80 := (fr.trans (f.weak (by decide +kernel))); fx_law_j98 f1 h1 kQ)) (fun σ_82 f h1 => (have f1 : Fr wX_law σ0 σ_82 := (fr.trans (f.weak (by decide +kernel))); fx_law_j141 f1 h1 kQ))) (fun _ h0 => fx_law_j98 fr h0 kQ) h
theorem fx_law_L54_b {v1 : Int} {v3 : Int} {v4 : Int} {v5 : Int} {σ0 σ : S} {Q Q2 : Int → S → Prop} {X54 X542 : Int → S → Prop} (fr : Fr wX_law σ0 σ) (h : (if v5 < gI σ 153 then x_isPattern v4 v5 σ (fun r_84 σ_83 => inb v5 120 ∧ ∀ σ_86, σ_86 = pA σ_83 110 v5 r_84 → X54 (w32 (v5 + 1)) σ_86) (fun σ_85 => x_law_j141 σ_85 Q) else x_law_j84 v1 v3 σ Q)) (kQ : ∀ r s, Fr wX_law σ0 s → Q r s → Q2 r s) (kX54 : ∀ v5 s, Fr wX_law σ0 s → X54 v5 s → X542 v5 s) : (if v5 < gI σ 153 then x_isPattern v4 v5 σ (fun r_84 σ_83 => inb v5 120 ∧ ∀ σ_86, σ_86 = pA σ_83 110 v5 r_84 → X542 (w32 (v5 + 1)) σ_86) (fun σ_85 => x_law_j141 σ_85 Q2) else x_law_j84 v1 v3 σ Q2) :=
  ite_m (fun _ h0 => fm_x_isPattern h0 (fun r_84 σ_83 f h1 => (have f1 : Fr wX_law σ0 σ_83 := (fr.trans (f.weak (by decide +kernel))); ⟨h1.1, fun σ_86 e3 => (have f3 : Fr wX_law σ0 σ_86 := Fr.putA f1 e3 rfl; kX54 _ _ f3 (h1.2 σ_86 e3))⟩)) (fun σ_85 f h1 => (have f1 : Fr wX_law σ0 σ_85 := (fr.trans (f.weak (by decide +kernel))); fx_law_j141 f1 h1 kQ))) (fun _ h0 => fx_law_j84 fr h0 kQ) h
theorem fx_law_L54 {v1 : Int} {v3 : Int} {v4 : Int} {v5 : Int} {σ0 σ : S} {Q Q2 : Int → S → Prop} (fr : Fr wX_law σ0 σ) (h : x_law_L54 v1 v3 v4 v5 σ Q) (kQ : ∀ r s, Fr wX_law σ0 s → Q r s → Q2 r s) : x_law_L54 v1 v3 v4 v5 σ Q2 := by
  unfold x_law_L54 at h ⊢
  intro Y hY
  exact h (fun v5 s => Fr wX_law σ0 s → Y v5 s) (fun v5 s h f => hY v5 s (fx_law_L54_b (v1 := v1) (v3 := v3) (v4 := v4) (v5 := v5) (Q := Q) (Q2 := Q2) (X54 := fun v5 s => Fr wX_law σ0 s → Y v5 s) (X542 := Y) f h kQ (fun v5 s f h => h f))) fr
theorem lx_law_L54 {v1 : Int} {v3 : Int} {v4 : Int} {v5 : Int} {σ0 : S} {Q : Int → S → Prop} (I : Int → S → Prop) (me : Int → S → Nat) (h0 : I v5 σ0) (step : ∀ (v5 : Int) (s : S), Fr wX_law σ0 s → I v5 s → (fun (Y0 : Int → S → Prop) => (if v5 < gI s 153 then x_isPattern v4 v5 s (fun r_84 σ_83 => inb v5 120 ∧ ∀ σ_86, σ_86 = pA σ_83 110 v5 r_84 → Y0 (w32 (v5 + 1)) σ_86) (fun σ_85 => x_law_j141 σ_85 Q) else x_law_j84 v1 v3 s Q)) (fun v5' s' => I v5' s' ∧ me v5' s' < me v5 s)) : x_law_L54 v1 v3 v4 v5 σ0 Q := by
  unfold x_law_L54
  intro Y hY
  have key : ∀ (n : Nat) (v5 : Int) (s : S), me v5 s < n → Fr wX_law σ0 s → I v5 s → Y v5 s := by
    intro n
    induction n with
    | zero => intro v5 s h; exact absurd h (Nat.not_lt_zero _)
    | succ n ih =>
      intro v5 s hm fr hi
      exact hY v5 s (fx_law_L54_b (v1 := v1) (v3 := v3) (v4 := v4) (v5 := v5) (Q := Q) (Q2 := Q) (X54 := (fun v5' s' => I v5' s' ∧ me v5' s' < me v5 s)) (X542 := Y) fr (step v5 s fr hi) (fun _ _ _ h => h) (fun v5 s f h => ih v5 s (by omega) f h.1))
  exact key _ v5 σ0 (Nat.lt_succ_self _) Fr.rf h0
theorem fx_law_j30 {v1 : Int} {v2 : Int} {v3 : Int} {σ0 σ : S} {Q Q2 : Int → S → Prop} (fr : Fr wX_law σ0 σ) (h : x_law_j30 v1 v2 v3 σ Q) (kQ : ∀ r s, Fr wX_law σ0 s → Q r s → Q2 r s) : x_law_j30 v1 v2 v3 σ Q2 := by
  unfold x_law_j30 at h ⊢
  exact ite_m (fun _ h0 => fm_x_begin h0 (fun _ σ_14 f h1 => (have f1 : Fr wX_law σ0 σ_14 := (fr.trans (f.weak (by decide +kernel))); fm_x_termAt h1 (fun r_16 σ_15 f h2 => (have f2 : Fr wX_law σ0 σ_15 := (f1.trans (f.weak (by decide +kernel))); fx_law_L54 f2 h2 kQ)) (fun σ_17 f h2 => (have f2 : Fr wX_law σ0 σ_17 := (f1.trans (f.weak (by decide +kernel))); fx_law_j141 f2 h2 kQ))))) (fun _ h0 => kQ _ _ fr h0) h
theorem fm_x_law {v1 : Int} {v2 : Int} {v3 : Int} {σ0 : S} {Q Q2 : Int → S → Prop} (h : x_law v1 v2 v3 σ0 Q) (kQ : ∀ r s, Fr wX_law σ0 s → Q r s → Q2 r s) : x_law v1 v2 v3 σ0 Q2 := by
  have fr : Fr wX_law σ0 σ0 := Fr.rf
  unfold x_law at h ⊢
  exact fm_x_within h (fun r_2 σ_1 f h0 => (have f0 : Fr wX_law σ0 σ_1 := (fr.trans (f.weak (by decide +kernel))); ite_m (fun _ h1 => kQ _ _ f0 h1) (fun _ h1 => fm_x_isHandle h1 (fun r_6 σ_5 f h2 => (have f2 : Fr wX_law σ0 σ_5 := (f0.trans (f.weak (by decide +kernel))); ite_m (fun _ h3 => kQ _ _ f2 h3) (fun _ h3 => ite_m (fun _ h4 => fm_x_isHandle h4 (fun r_90 σ_89 f h5 => (have f5 : Fr wX_law σ0 σ_89 := (f2.trans (f.weak (by decide +kernel))); ite_m (fun _ h6 => kQ _ _ f5 h6) (fun _ h6 => fx_law_j30 f5 h6 kQ) h5))) (fun _ h4 => fx_law_j30 f2 h4 kQ) h3) h2))) h0))
theorem fm_x_zNode {v1 : Int} {v2 : Int} {v3 : Int} {σ0 : S} {Q Q2 : Int → S → Prop} (h : x_zNode v1 v2 v3 σ0 Q) (kQ : ∀ r s, Fr wX_zNode σ0 s → Q r s → Q2 r s) : x_zNode v1 v2 v3 σ0 Q2 := by
  have fr : Fr wX_zNode σ0 σ0 := Fr.rf
  unfold x_zNode at h ⊢
  exact ⟨h.1, fun σ_2 e1 => (have f1 : Fr wX_zNode σ0 σ_2 := Fr.putA fr e1 rfl; ⟨(h.2 σ_2 e1).1, fun σ_6 e3 => (have f3 : Fr wX_zNode σ0 σ_6 := Fr.putA f1 e3 rfl; ⟨((h.2 σ_2 e1).2 σ_6 e3).1, fun σ_10 e5 => (have f5 : Fr wX_zNode σ0 σ_10 := Fr.putA f3 e5 rfl; fun σ_14 e6 => (have f6 : Fr wX_zNode σ0 σ_14 := Fr.putI f5 e6 rfl; kQ _ _ f6 ((((h.2 σ_2 e1).2 σ_6 e3).2 σ_10 e5) σ_14 e6)))⟩)⟩)⟩
theorem fm_x_bad {σ0 : S} {Q Q2 : Int → S → Prop} (h : x_bad  σ0 Q) (kQ : ∀ r s, Fr wX_bad σ0 s → Q r s → Q2 r s) : x_bad  σ0 Q2 := by
  have fr : Fr wX_bad σ0 σ0 := Fr.rf
  unfold x_bad at h ⊢
  exact fm_x_wrong h (fun r_3 σ_2 f h0 => (have f0 : Fr wX_bad σ0 σ_2 := (fr.trans (f.weak (by decide +kernel))); kQ _ _ f0 h0))
theorem fx_readChoice_j50 {s0 : Int} {σ0 σ : S} {Q Q2 : Int → S → Prop} {X5 X52 : Int → S → Prop} {G : Orc} (hG : FrO wX_readChoice G) (fr : Fr wX_readChoice σ0 σ) (h : x_readChoice_j50 G s0 σ Q X5) (kQ : ∀ r s, Fr wX_readChoice σ0 s → Q r s → Q2 r s) (kX5 : ∀ a0 s, Fr wX_readChoice σ0 s → X5 a0 s → X52 a0 s) : x_readChoice_j50 G s0 σ Q2 X52 := by
  unfold x_readChoice_j50 at h ⊢
  exact kX5 _ _ fr h
theorem fx_readChoice_j34 {v1 : Int} {s0 : Int} {σ0 σ : S} {Q Q2 : Int → S → Prop} {X5 X52 : Int → S → Prop} {G : Orc} (hG : FrO wX_readChoice G) (fr : Fr wX_readChoice σ0 σ) (h : x_readChoice_j34 G v1 s0 σ Q X5) (kQ : ∀ r s, Fr wX_readChoice σ0 s → Q r s → Q2 r s) (kX5 : ∀ a0 s, Fr wX_readChoice σ0 s → X5 a0 s → X52 a0 s) : x_readChoice_j34 G v1 s0 σ Q2 X52 := by
  unfold x_readChoice_j34 at h ⊢
  exact ite_m (fun _ h0 => fx_readChoice_j50 hG fr h0 kQ kX5) (fun _ h0 => fm_x_zNode h0 (fun r_16 σ_15 f h1 => (have f1 : Fr wX_readChoice σ0 σ_15 := (fr.trans (f.weak (by decide +kernel))); fx_readChoice_j50 hG f1 h1 kQ kX5))) h
theorem fx_readChoice_L5_b {v1 : Int} {σ0 σ : S} {Q Q2 : Int → S → Prop} {X5 X52 : Int → S → Prop} {G : Orc} (hG : FrO wX_readChoice G) (fr : Fr wX_readChoice σ0 σ) (h : (if v1 < 0 then Q v1 σ else x_isWordText 24 σ (fun r_6 σ_5 => (if r_6 = 0 then Q v1 σ_5 else x_step σ_5 (fun r_10 σ_9 => (if r_10 = 0 then x_readChoice_j34 G v1 (-1) σ_9 Q X5 else G 1 [] σ_9 (fun r_18 σ_17 => x_readChoice_j34 G v1 r_18 σ_17 Q X5) (fun _ => False))))))) (kQ : ∀ r s, Fr wX_readChoice σ0 s → Q r s → Q2 r s) (kX5 : ∀ v1 s, Fr wX_readChoice σ0 s → X5 v1 s → X52 v1 s) : (if v1 < 0 then Q2 v1 σ else x_isWordText 24 σ (fun r_6 σ_5 => (if r_6 = 0 then Q2 v1 σ_5 else x_step σ_5 (fun r_10 σ_9 => (if r_10 = 0 then x_readChoice_j34 G v1 (-1) σ_9 Q2 X52 else G 1 [] σ_9 (fun r_18 σ_17 => x_readChoice_j34 G v1 r_18 σ_17 Q2 X52) (fun _ => False)))))) :=
  ite_m (fun _ h0 => kQ _ _ fr h0) (fun _ h0 => fm_x_isWordText h0 (fun r_6 σ_5 f h1 => (have f1 : Fr wX_readChoice σ0 σ_5 := (fr.trans (f.weak (by decide +kernel))); ite_m (fun _ h2 => kQ _ _ f1 h2) (fun _ h2 => fm_x_step h2 (fun r_10 σ_9 f h3 => (have f3 : Fr wX_readChoice σ0 σ_9 := (f1.trans (f.weak (by decide +kernel))); ite_m (fun _ h4 => fx_readChoice_j34 hG f3 h4 kQ kX5) (fun _ h4 => hG _ _ _ _ _ _ _ h4 (fun r_18 σ_17 f h5 => (have f5 : Fr wX_readChoice σ0 σ_17 := (f3.trans f); fx_readChoice_j34 hG f5 h5 kQ kX5)) (fun _ _ h => h)) h3))) h1))) h
theorem fx_readChoice_L5 {v1 : Int} {σ0 σ : S} {Q Q2 : Int → S → Prop} {G : Orc} (hG : FrO wX_readChoice G) (fr : Fr wX_readChoice σ0 σ) (h : x_readChoice_L5 G v1 σ Q) (kQ : ∀ r s, Fr wX_readChoice σ0 s → Q r s → Q2 r s) : x_readChoice_L5 G v1 σ Q2 := by
  unfold x_readChoice_L5 at h ⊢
  intro Y hY
  exact h (fun v1 s => Fr wX_readChoice σ0 s → Y v1 s) (fun v1 s h f => hY v1 s (fx_readChoice_L5_b (v1 := v1) (Q := Q) (Q2 := Q2) (X5 := fun v1 s => Fr wX_readChoice σ0 s → Y v1 s) (X52 := Y) hG f h kQ (fun v1 s f h => h f))) fr
theorem lx_readChoice_L5 {v1 : Int} {σ0 : S} {Q : Int → S → Prop} {G : Orc} (hG : FrO wX_readChoice G) (I : Int → S → Prop) (me : Int → S → Nat) (h0 : I v1 σ0) (step : ∀ (v1 : Int) (s : S), Fr wX_readChoice σ0 s → I v1 s → (fun (Y0 : Int → S → Prop) => (if v1 < 0 then Q v1 s else x_isWordText 24 s (fun r_6 σ_5 => (if r_6 = 0 then Q v1 σ_5 else x_step σ_5 (fun r_10 σ_9 => (if r_10 = 0 then x_readChoice_j34 G v1 (-1) σ_9 Q Y0 else G 1 [] σ_9 (fun r_18 σ_17 => x_readChoice_j34 G v1 r_18 σ_17 Q Y0) (fun _ => False))))))) (fun v1' s' => I v1' s' ∧ me v1' s' < me v1 s)) : x_readChoice_L5 G v1 σ0 Q := by
  unfold x_readChoice_L5
  intro Y hY
  have key : ∀ (n : Nat) (v1 : Int) (s : S), me v1 s < n → Fr wX_readChoice σ0 s → I v1 s → Y v1 s := by
    intro n
    induction n with
    | zero => intro v1 s h; exact absurd h (Nat.not_lt_zero _)
    | succ n ih =>
      intro v1 s hm fr hi
      exact hY v1 s (fx_readChoice_L5_b (v1 := v1) (Q := Q) (Q2 := Q) (X5 := (fun v1' s' => I v1' s' ∧ me v1' s' < me v1 s)) (X52 := Y) hG fr (step v1 s fr hi) (fun _ _ _ h => h) (fun v1 s f h => ih v1 s (by omega) f h.1))
  exact key _ v1 σ0 (Nat.lt_succ_self _) Fr.rf h0
theorem fx_readChoice_F {σ0 : S} {Q Q2 : Int → S → Prop} {G : Orc} (hG : FrO wX_readChoice G) (h : x_readChoice_F G  σ0 Q) (kQ : ∀ r s, Fr wX_readChoice σ0 s → Q r s → Q2 r s) : x_readChoice_F G  σ0 Q2 := by
  have fr : Fr wX_readChoice σ0 σ0 := Fr.rf
  unfold x_readChoice_F at h ⊢
  exact hG _ _ _ _ _ _ _ h (fun r_2 σ_1 f h0 => (have f0 : Fr wX_readChoice σ0 σ_1 := (fr.trans f); fx_readChoice_L5 hG f0 h0 kQ)) (fun _ _ h => h)
theorem fx_readThen_j50 {s0 : Int} {σ0 σ : S} {Q Q2 : Int → S → Prop} {X5 X52 : Int → S → Prop} {G : Orc} (hG : FrO wX_readThen G) (fr : Fr wX_readThen σ0 σ) (h : x_readThen_j50 G s0 σ Q X5) (kQ : ∀ r s, Fr wX_readThen σ0 s → Q r s → Q2 r s) (kX5 : ∀ a0 s, Fr wX_readThen σ0 s → X5 a0 s → X52 a0 s) : x_readThen_j50 G s0 σ Q2 X52 := by
  unfold x_readThen_j50 at h ⊢
  exact kX5 _ _ fr h
theorem fx_readThen_j34 {v1 : Int} {s0 : Int} {σ0 σ : S} {Q Q2 : Int → S → Prop} {X5 X52 : Int → S → Prop} {G : Orc} (hG : FrO wX_readThen G) (fr : Fr wX_readThen σ0 σ) (h : x_readThen_j34 G v1 s0 σ Q X5) (kQ : ∀ r s, Fr wX_readThen σ0 s → Q r s → Q2 r s) (kX5 : ∀ a0 s, Fr wX_readThen σ0 s → X5 a0 s → X52 a0 s) : x_readThen_j34 G v1 s0 σ Q2 X52 := by
  unfold x_readThen_j34 at h ⊢
  exact ite_m (fun _ h0 => fx_readThen_j50 hG fr h0 kQ kX5) (fun _ h0 => fm_x_zNode h0 (fun r_16 σ_15 f h1 => (have f1 : Fr wX_readThen σ0 σ_15 := (fr.trans (f.weak (by decide +kernel))); fx_readThen_j50 hG f1 h1 kQ kX5))) h
theorem fx_readThen_L5_b {v1 : Int} {σ0 σ : S} {Q Q2 : Int → S → Prop} {X5 X52 : Int → S → Prop} {G : Orc} (hG : FrO wX_readThen G) (fr : Fr wX_readThen σ0 σ) (h : (if v1 < 0 then Q v1 σ else x_isWordText 25 σ (fun r_6 σ_5 => (if r_6 = 0 then Q v1 σ_5 else x_step σ_5 (fun r_10 σ_9 => (if r_10 = 0 then x_readThen_j34 G v1 (-1) σ_9 Q X5 else G 2 [] σ_9 (fun r_18 σ_17 => x_readThen_j34 G v1 r_18 σ_17 Q X5) (fun _ => False))))))) (kQ : ∀ r s, Fr wX_readThen σ0 s → Q r s → Q2 r s) (kX5 : ∀ v1 s, Fr wX_readThen σ0 s → X5 v1 s → X52 v1 s) : (if v1 < 0 then Q2 v1 σ else x_isWordText 25 σ (fun r_6 σ_5 => (if r_6 = 0 then Q2 v1 σ_5 else x_step σ_5 (fun r_10 σ_9 => (if r_10 = 0 then x_readThen_j34 G v1 (-1) σ_9 Q2 X52 else G 2 [] σ_9 (fun r_18 σ_17 => x_readThen_j34 G v1 r_18 σ_17 Q2 X52) (fun _ => False)))))) :=
  ite_m (fun _ h0 => kQ _ _ fr h0) (fun _ h0 => fm_x_isWordText h0 (fun r_6 σ_5 f h1 => (have f1 : Fr wX_readThen σ0 σ_5 := (fr.trans (f.weak (by decide +kernel))); ite_m (fun _ h2 => kQ _ _ f1 h2) (fun _ h2 => fm_x_step h2 (fun r_10 σ_9 f h3 => (have f3 : Fr wX_readThen σ0 σ_9 := (f1.trans (f.weak (by decide +kernel))); ite_m (fun _ h4 => fx_readThen_j34 hG f3 h4 kQ kX5) (fun _ h4 => hG _ _ _ _ _ _ _ h4 (fun r_18 σ_17 f h5 => (have f5 : Fr wX_readThen σ0 σ_17 := (f3.trans f); fx_readThen_j34 hG f5 h5 kQ kX5)) (fun _ _ h => h)) h3))) h1))) h
theorem fx_readThen_L5 {v1 : Int} {σ0 σ : S} {Q Q2 : Int → S → Prop} {G : Orc} (hG : FrO wX_readThen G) (fr : Fr wX_readThen σ0 σ) (h : x_readThen_L5 G v1 σ Q) (kQ : ∀ r s, Fr wX_readThen σ0 s → Q r s → Q2 r s) : x_readThen_L5 G v1 σ Q2 := by
  unfold x_readThen_L5 at h ⊢
  intro Y hY
  exact h (fun v1 s => Fr wX_readThen σ0 s → Y v1 s) (fun v1 s h f => hY v1 s (fx_readThen_L5_b (v1 := v1) (Q := Q) (Q2 := Q2) (X5 := fun v1 s => Fr wX_readThen σ0 s → Y v1 s) (X52 := Y) hG f h kQ (fun v1 s f h => h f))) fr
theorem lx_readThen_L5 {v1 : Int} {σ0 : S} {Q : Int → S → Prop} {G : Orc} (hG : FrO wX_readThen G) (I : Int → S → Prop) (me : Int → S → Nat) (h0 : I v1 σ0) (step : ∀ (v1 : Int) (s : S), Fr wX_readThen σ0 s → I v1 s → (fun (Y0 : Int → S → Prop) => (if v1 < 0 then Q v1 s else x_isWordText 25 s (fun r_6 σ_5 => (if r_6 = 0 then Q v1 σ_5 else x_step σ_5 (fun r_10 σ_9 => (if r_10 = 0 then x_readThen_j34 G v1 (-1) σ_9 Q Y0 else G 2 [] σ_9 (fun r_18 σ_17 => x_readThen_j34 G v1 r_18 σ_17 Q Y0) (fun _ => False))))))) (fun v1' s' => I v1' s' ∧ me v1' s' < me v1 s)) : x_readThen_L5 G v1 σ0 Q := by
  unfold x_readThen_L5
  intro Y hY
  have key : ∀ (n : Nat) (v1 : Int) (s : S), me v1 s < n → Fr wX_readThen σ0 s → I v1 s → Y v1 s := by
    intro n
    induction n with
    | zero => intro v1 s h; exact absurd h (Nat.not_lt_zero _)
    | succ n ih =>
      intro v1 s hm fr hi
      exact hY v1 s (fx_readThen_L5_b (v1 := v1) (Q := Q) (Q2 := Q) (X5 := (fun v1' s' => I v1' s' ∧ me v1' s' < me v1 s)) (X52 := Y) hG fr (step v1 s fr hi) (fun _ _ _ h => h) (fun v1 s f h => ih v1 s (by omega) f h.1))
  exact key _ v1 σ0 (Nat.lt_succ_self _) Fr.rf h0
theorem fx_readThen_F {σ0 : S} {Q Q2 : Int → S → Prop} {G : Orc} (hG : FrO wX_readThen G) (h : x_readThen_F G  σ0 Q) (kQ : ∀ r s, Fr wX_readThen σ0 s → Q r s → Q2 r s) : x_readThen_F G  σ0 Q2 := by
  have fr : Fr wX_readThen σ0 σ0 := Fr.rf
  unfold x_readThen_F at h ⊢
  exact hG _ _ _ _ _ _ _ h (fun r_2 σ_1 f h0 => (have f0 : Fr wX_readThen σ0 σ_1 := (fr.trans f); fx_readThen_L5 hG f0 h0 kQ)) (fun _ _ h => h)
theorem fx_readMany_j29 {v1 : Int} {σ0 σ : S} {Q Q2 : Int → S → Prop} {X5 X52 : Int → S → Prop} {G : Orc} (hG : FrO wX_readMany G) (fr : Fr wX_readMany σ0 σ) (h : x_readMany_j29 G v1 σ Q X5) (kQ : ∀ r s, Fr wX_readMany σ0 s → Q r s → Q2 r s) (kX5 : ∀ a0 s, Fr wX_readMany σ0 s → X5 a0 s → X52 a0 s) : x_readMany_j29 G v1 σ Q2 X52 := by
  unfold x_readMany_j29 at h ⊢
  exact fm_x_isWordText h (fun r_10 σ_9 f h0 => (have f0 : Fr wX_readMany σ0 σ_9 := (fr.trans (f.weak (by decide +kernel))); fm_x_zNode h0 (fun r_16 σ_15 f h1 => (have f1 : Fr wX_readMany σ0 σ_15 := (f0.trans (f.weak (by decide +kernel))); fm_x_step h1 (fun r_18 σ_17 f h2 => (have f2 : Fr wX_readMany σ0 σ_17 := (f1.trans (f.weak (by decide +kernel))); kX5 _ _ f2 h2))))))
theorem fx_readMany_L5_b {v1 : Int} {σ0 σ : S} {Q Q2 : Int → S → Prop} {X5 X52 : Int → S → Prop} {G : Orc} (hG : FrO wX_readMany G) (fr : Fr wX_readMany σ0 σ) (h : (if v1 < 0 then Q v1 σ else x_isWordText 26 σ (fun r_6 σ_5 => (if r_6 = 0 then x_isWordText 27 σ_5 (fun r_24 σ_23 => (if r_24 = 0 then Q v1 σ_23 else x_readMany_j29 G v1 σ_23 Q X5)) else x_readMany_j29 G v1 σ_5 Q X5)))) (kQ : ∀ r s, Fr wX_readMany σ0 s → Q r s → Q2 r s) (kX5 : ∀ v1 s, Fr wX_readMany σ0 s → X5 v1 s → X52 v1 s) : (if v1 < 0 then Q2 v1 σ else x_isWordText 26 σ (fun r_6 σ_5 => (if r_6 = 0 then x_isWordText 27 σ_5 (fun r_24 σ_23 => (if r_24 = 0 then Q2 v1 σ_23 else x_readMany_j29 G v1 σ_23 Q2 X52)) else x_readMany_j29 G v1 σ_5 Q2 X52))) :=
  ite_m (fun _ h0 => kQ _ _ fr h0) (fun _ h0 => fm_x_isWordText h0 (fun r_6 σ_5 f h1 => (have f1 : Fr wX_readMany σ0 σ_5 := (fr.trans (f.weak (by decide +kernel))); ite_m (fun _ h2 => fm_x_isWordText h2 (fun r_24 σ_23 f h3 => (have f3 : Fr wX_readMany σ0 σ_23 := (f1.trans (f.weak (by decide +kernel))); ite_m (fun _ h4 => kQ _ _ f3 h4) (fun _ h4 => fx_readMany_j29 hG f3 h4 kQ kX5) h3))) (fun _ h2 => fx_readMany_j29 hG f1 h2 kQ kX5) h1))) h
theorem fx_readMany_L5 {v1 : Int} {σ0 σ : S} {Q Q2 : Int → S → Prop} {G : Orc} (hG : FrO wX_readMany G) (fr : Fr wX_readMany σ0 σ) (h : x_readMany_L5 G v1 σ Q) (kQ : ∀ r s, Fr wX_readMany σ0 s → Q r s → Q2 r s) : x_readMany_L5 G v1 σ Q2 := by
  unfold x_readMany_L5 at h ⊢
  intro Y hY
  exact h (fun v1 s => Fr wX_readMany σ0 s → Y v1 s) (fun v1 s h f => hY v1 s (fx_readMany_L5_b (v1 := v1) (Q := Q) (Q2 := Q2) (X5 := fun v1 s => Fr wX_readMany σ0 s → Y v1 s) (X52 := Y) hG f h kQ (fun v1 s f h => h f))) fr
theorem lx_readMany_L5 {v1 : Int} {σ0 : S} {Q : Int → S → Prop} {G : Orc} (hG : FrO wX_readMany G) (I : Int → S → Prop) (me : Int → S → Nat) (h0 : I v1 σ0) (step : ∀ (v1 : Int) (s : S), Fr wX_readMany σ0 s → I v1 s → (fun (Y0 : Int → S → Prop) => (if v1 < 0 then Q v1 s else x_isWordText 26 s (fun r_6 σ_5 => (if r_6 = 0 then x_isWordText 27 σ_5 (fun r_24 σ_23 => (if r_24 = 0 then Q v1 σ_23 else x_readMany_j29 G v1 σ_23 Q Y0)) else x_readMany_j29 G v1 σ_5 Q Y0)))) (fun v1' s' => I v1' s' ∧ me v1' s' < me v1 s)) : x_readMany_L5 G v1 σ0 Q := by
  unfold x_readMany_L5
  intro Y hY
  have key : ∀ (n : Nat) (v1 : Int) (s : S), me v1 s < n → Fr wX_readMany σ0 s → I v1 s → Y v1 s := by
    intro n
    induction n with
    | zero => intro v1 s h; exact absurd h (Nat.not_lt_zero _)
    | succ n ih =>
      intro v1 s hm fr hi
      exact hY v1 s (fx_readMany_L5_b (v1 := v1) (Q := Q) (Q2 := Q) (X5 := (fun v1' s' => I v1' s' ∧ me v1' s' < me v1 s)) (X52 := Y) hG fr (step v1 s fr hi) (fun _ _ _ h => h) (fun v1 s f h => ih v1 s (by omega) f h.1))
  exact key _ v1 σ0 (Nat.lt_succ_self _) Fr.rf h0
theorem fx_readMany_F {σ0 : S} {Q Q2 : Int → S → Prop} {G : Orc} (hG : FrO wX_readMany G) (h : x_readMany_F G  σ0 Q) (kQ : ∀ r s, Fr wX_readMany σ0 s → Q r s → Q2 r s) : x_readMany_F G  σ0 Q2 := by
  have fr : Fr wX_readMany σ0 σ0 := Fr.rf
  unfold x_readMany_F at h ⊢
  exact hG _ _ _ _ _ _ _ h (fun r_2 σ_1 f h0 => (have f0 : Fr wX_readMany σ0 σ_1 := (fr.trans f); fx_readMany_L5 hG f0 h0 kQ)) (fun _ _ h => h)
theorem fx_readOne_j73 {s0 : Int} {σ0 σ : S} {Q Q2 : Int → S → Prop} {G : Orc} (hG : FrO wX_readOne G) (fr : Fr wX_readOne σ0 σ) (h : x_readOne_j73 G s0 σ Q) (kQ : ∀ r s, Fr wX_readOne σ0 s → Q r s → Q2 r s) : x_readOne_j73 G s0 σ Q2 := by
  unfold x_readOne_j73 at h ⊢
  exact fm_x_step h (fun r_20 σ_19 f h0 => (have f0 : Fr wX_readOne σ0 σ_19 := (fr.trans (f.weak (by decide +kernel))); ite_m (fun _ h1 => kQ _ _ f0 h1) (fun _ h1 => fm_x_zNode h1 (fun r_24 σ_23 f h2 => (have f2 : Fr wX_readOne σ0 σ_23 := (f0.trans (f.weak (by decide +kernel))); kQ _ _ f2 h2))) h0))
theorem fx_readOne_j44 {σ0 σ : S} {Q Q2 : Int → S → Prop} {G : Orc} (hG : FrO wX_readOne G) (fr : Fr wX_readOne σ0 σ) (h : x_readOne_j44 G  σ Q) (kQ : ∀ r s, Fr wX_readOne σ0 s → Q r s → Q2 r s) : x_readOne_j44 G  σ Q2 := by
  unfold x_readOne_j44 at h ⊢
  exact fm_x_isWordText h (fun r_10 σ_9 f h0 => (have f0 : Fr wX_readOne σ0 σ_9 := (fr.trans (f.weak (by decide +kernel))); ite_m (fun _ h1 => fm_x_isWordText h1 (fun r_14 σ_13 f h2 => (have f2 : Fr wX_readOne σ0 σ_13 := (f0.trans (f.weak (by decide +kernel))); fx_readOne_j73 hG f2 h2 kQ))) (fun _ h1 => fx_readOne_j73 hG f0 h1 kQ) h0))
theorem fx_readOne_j162 {v1 : Int} {s0 : Int} {σ0 σ : S} {Q Q2 : Int → S → Prop} {G : Orc} (hG : FrO wX_readOne G) (fr : Fr wX_readOne σ0 σ) (h : x_readOne_j162 G v1 s0 σ Q) (kQ : ∀ r s, Fr wX_readOne σ0 s → Q r s → Q2 r s) : x_readOne_j162 G v1 s0 σ Q2 := by
  unfold x_readOne_j162 at h ⊢
  exact ite_m (fun _ h0 => kQ _ _ fr h0) (fun _ h0 => fm_x_zNode h0 (fun r_56 σ_55 f h1 => (have f1 : Fr wX_readOne σ0 σ_55 := (fr.trans (f.weak (by decide +kernel))); kQ _ _ f1 h1))) h
theorem fx_readOne_j113 {σ0 σ : S} {Q Q2 : Int → S → Prop} {G : Orc} (hG : FrO wX_readOne G) (fr : Fr wX_readOne σ0 σ) (h : x_readOne_j113 G  σ Q) (kQ : ∀ r s, Fr wX_readOne σ0 s → Q r s → Q2 r s) : x_readOne_j113 G  σ Q2 := by
  unfold x_readOne_j113 at h ⊢
  exact fm_x_isWordText h (fun r_38 σ_37 f h0 => (have f0 : Fr wX_readOne σ0 σ_37 := (fr.trans (f.weak (by decide +kernel))); fm_x_step h0 (fun r_44 σ_43 f h1 => (have f1 : Fr wX_readOne σ0 σ_43 := (f0.trans (f.weak (by decide +kernel))); ite_m (fun _ h2 => fx_readOne_j162 hG f1 h2 kQ) (fun _ h2 => fm_x_isSign h2 (fun r_48 σ_47 f h3 => (have f3 : Fr wX_readOne σ0 σ_47 := (f1.trans (f.weak (by decide +kernel))); ite_m (fun _ h4 => fm_x_bad h4 (fun r_52 σ_51 f h5 => (have f5 : Fr wX_readOne σ0 σ_51 := (f3.trans (f.weak (by decide +kernel))); fx_readOne_j162 hG f5 h5 kQ))) (fun _ h4 => hG _ _ _ _ _ _ _ h4 (fun r_58 σ_57 f h5 => (have f5 : Fr wX_readOne σ0 σ_57 := (f3.trans f); fx_readOne_j162 hG f5 h5 kQ)) (fun _ _ h => h)) h3))) h1))))
theorem fx_readOne_j257 {σ0 σ : S} {Q Q2 : Int → S → Prop} {G : Orc} (hG : FrO wX_readOne G) (fr : Fr wX_readOne σ0 σ) (h : x_readOne_j257 G  σ Q) (kQ : ∀ r s, Fr wX_readOne σ0 s → Q r s → Q2 r s) : x_readOne_j257 G  σ Q2 := by
  unfold x_readOne_j257 at h ⊢
  exact fm_x_bad h (fun r_71 σ_70 f h0 => (have f0 : Fr wX_readOne σ0 σ_70 := (fr.trans (f.weak (by decide +kernel))); kQ _ _ f0 h0))
theorem fx_readOne_j222 {σ0 σ : S} {Q Q2 : Int → S → Prop} {G : Orc} (hG : FrO wX_readOne G) (fr : Fr wX_readOne σ0 σ) (h : x_readOne_j222 G  σ Q) (kQ : ∀ r s, Fr wX_readOne σ0 s → Q r s → Q2 r s) : x_readOne_j222 G  σ Q2 := by
  unfold x_readOne_j222 at h ⊢
  exact ⟨h.1, fm_x_step h.2 (fun r_83 σ_82 f h1 => (have f1 : Fr wX_readOne σ0 σ_82 := (fr.trans (f.weak (by decide +kernel))); ite_m (fun _ h2 => kQ _ _ f1 h2) (fun _ h2 => fm_x_zNode h2 (fun r_87 σ_86 f h3 => (have f3 : Fr wX_readOne σ0 σ_86 := (f1.trans (f.weak (by decide +kernel))); kQ _ _ f3 h3))) h1))⟩
theorem fx_readOne_L193_b {v1 : Int} {σ0 σ : S} {Q Q2 : Int → S → Prop} {X193 X1932 : Int → S → Prop} {G : Orc} (hG : FrO wX_readOne G) (fr : Fr wX_readOne σ0 σ) (h : (if v1 < gI σ 43 then inb (w32 (40 + v1)) 70 ∧ inb (gI σ 17) 902 ∧ (if gA σ 27 (w32 (40 + v1)) = gA σ 5 (gI σ 17) then x_readOne_j222 G σ Q else X193 (w32 (v1 + 1)) σ) else x_readOne_j257 G σ Q)) (kQ : ∀ r s, Fr wX_readOne σ0 s → Q r s → Q2 r s) (kX193 : ∀ v1 s, Fr wX_readOne σ0 s → X193 v1 s → X1932 v1 s) : (if v1 < gI σ 43 then inb (w32 (40 + v1)) 70 ∧ inb (gI σ 17) 902 ∧ (if gA σ 27 (w32 (40 + v1)) = gA σ 5 (gI σ 17) then x_readOne_j222 G σ Q2 else X1932 (w32 (v1 + 1)) σ) else x_readOne_j257 G σ Q2) :=
  ite_m (fun _ h0 => ⟨h0.1, ⟨h0.2.1, ite_m (fun _ h3 => fx_readOne_j222 hG fr h3 kQ) (fun _ h3 => kX193 _ _ fr h3) h0.2.2⟩⟩) (fun _ h0 => fx_readOne_j257 hG fr h0 kQ) h
theorem fx_readOne_L193 {v1 : Int} {σ0 σ : S} {Q Q2 : Int → S → Prop} {G : Orc} (hG : FrO wX_readOne G) (fr : Fr wX_readOne σ0 σ) (h : x_readOne_L193 G v1 σ Q) (kQ : ∀ r s, Fr wX_readOne σ0 s → Q r s → Q2 r s) : x_readOne_L193 G v1 σ Q2 := by
  unfold x_readOne_L193 at h ⊢
  intro Y hY
  exact h (fun v1 s => Fr wX_readOne σ0 s → Y v1 s) (fun v1 s h f => hY v1 s (fx_readOne_L193_b (v1 := v1) (Q := Q) (Q2 := Q2) (X193 := fun v1 s => Fr wX_readOne σ0 s → Y v1 s) (X1932 := Y) hG f h kQ (fun v1 s f h => h f))) fr
theorem lx_readOne_L193 {v1 : Int} {σ0 : S} {Q : Int → S → Prop} {G : Orc} (hG : FrO wX_readOne G) (I : Int → S → Prop) (me : Int → S → Nat) (h0 : I v1 σ0) (step : ∀ (v1 : Int) (s : S), Fr wX_readOne σ0 s → I v1 s → (fun (Y0 : Int → S → Prop) => (if v1 < gI s 43 then inb (w32 (40 + v1)) 70 ∧ inb (gI s 17) 902 ∧ (if gA s 27 (w32 (40 + v1)) = gA s 5 (gI s 17) then x_readOne_j222 G s Q else Y0 (w32 (v1 + 1)) s) else x_readOne_j257 G s Q)) (fun v1' s' => I v1' s' ∧ me v1' s' < me v1 s)) : x_readOne_L193 G v1 σ0 Q := by
  unfold x_readOne_L193
  intro Y hY
  have key : ∀ (n : Nat) (v1 : Int) (s : S), me v1 s < n → Fr wX_readOne σ0 s → I v1 s → Y v1 s := by
    intro n
    induction n with
    | zero => intro v1 s h; exact absurd h (Nat.not_lt_zero _)
    | succ n ih =>
      intro v1 s hm fr hi
      exact hY v1 s (fx_readOne_L193_b (v1 := v1) (Q := Q) (Q2 := Q) (X193 := (fun v1' s' => I v1' s' ∧ me v1' s' < me v1 s)) (X1932 := Y) hG fr (step v1 s fr hi) (fun _ _ _ h => h) (fun v1 s f h => ih v1 s (by omega) f h.1))
  exact key _ v1 σ0 (Nat.lt_succ_self _) Fr.rf h0
theorem fx_readOne_F {σ0 : S} {Q Q2 : Int → S → Prop} {G : Orc} (hG : FrO wX_readOne G) (h : x_readOne_F G  σ0 Q) (kQ : ∀ r s, Fr wX_readOne σ0 s → Q r s → Q2 r s) : x_readOne_F G  σ0 Q2 := by
  have fr : Fr wX_readOne σ0 σ0 := Fr.rf
  unfold x_readOne_F at h ⊢
  exact fm_x_isSign h (fun r_2 σ_1 f h0 => (have f0 : Fr wX_readOne σ0 σ_1 := (fr.trans (f.weak (by decide +kernel))); ite_m (fun _ h1 => fm_x_isWordText h1 (fun r_6 σ_5 f h2 => (have f2 : Fr wX_readOne σ0 σ_5 := (f0.trans (f.weak (by decide +kernel))); ite_m (fun _ h3 => fm_x_isWordText h3 (fun r_26 σ_25 f h4 => (have f4 : Fr wX_readOne σ0 σ_25 := (f2.trans (f.weak (by decide +kernel))); ite_m (fun _ h5 => fm_x_isWordText h5 (fun r_30 σ_29 f h6 => (have f6 : Fr wX_readOne σ0 σ_29 := (f4.trans (f.weak (by decide +kernel))); ite_m (fun _ h7 => fm_x_isWordText h7 (fun r_34 σ_33 f h8 => (have f8 : Fr wX_readOne σ0 σ_33 := (f6.trans (f.weak (by decide +kernel))); ite_m (fun _ h9 => fm_x_isWordText h9 (fun r_60 σ_59 f h10 => (have f10 : Fr wX_readOne σ0 σ_59 := (f8.trans (f.weak (by decide +kernel))); ite_m (fun _ h11 => fm_x_isWord h11 (fun r_64 σ_63 f h12 => (have f12 : Fr wX_readOne σ0 σ_63 := (f10.trans (f.weak (by decide +kernel))); ite_m (fun _ h13 => fm_x_bad h13 (fun r_89 σ_88 f h14 => (have f14 : Fr wX_readOne σ0 σ_88 := (f12.trans (f.weak (by decide +kernel))); kQ _ _ f14 h14))) (fun _ h13 => fx_readOne_L193 hG f12 h13 kQ) h12))) (fun _ h11 => fx_readOne_j113 hG f10 h11 kQ) h10))) (fun _ h9 => fx_readOne_j113 hG f8 h9 kQ) h8))) (fun _ h7 => fx_readOne_j44 hG f6 h7 kQ) h6))) (fun _ h5 => fx_readOne_j44 hG f4 h5 kQ) h4))) (fun _ h3 => fx_readOne_j44 hG f2 h3 kQ) h2))) (fun _ h1 => hG _ _ _ _ _ _ _ h1 (fun r_91 σ_90 f h2 => (have f2 : Fr wX_readOne σ0 σ_90 := (f0.trans f); kQ _ _ f2 h2)) (fun _ _ h => h)) h0))
theorem fx_readBracket_F {σ0 : S} {Q Q2 : Int → S → Prop} {G : Orc} (hG : FrO wX_readBracket G) (h : x_readBracket_F G  σ0 Q) (kQ : ∀ r s, Fr wX_readBracket σ0 s → Q r s → Q2 r s) : x_readBracket_F G  σ0 Q2 := by
  have fr : Fr wX_readBracket σ0 σ0 := Fr.rf
  unfold x_readBracket_F at h ⊢
  exact fm_x_step h (fun r_2 σ_1 f h0 => (have f0 : Fr wX_readBracket σ0 σ_1 := (fr.trans (f.weak (by decide +kernel))); ite_m (fun _ h1 => kQ _ _ f0 h1) (fun _ h1 => hG _ _ _ _ _ _ _ h1 (fun r_6 σ_5 f h2 => (have f2 : Fr wX_readBracket σ0 σ_5 := (f0.trans f); ite_m (fun _ h3 => kQ _ _ f2 h3) (fun _ h3 => fm_x_isSign h3 (fun r_10 σ_9 f h4 => (have f4 : Fr wX_readBracket σ0 σ_9 := (f2.trans (f.weak (by decide +kernel))); ite_m (fun _ h5 => fm_x_bad h5 (fun r_20 σ_19 f h6 => (have f6 : Fr wX_readBracket σ0 σ_19 := (f4.trans (f.weak (by decide +kernel))); kQ _ _ f6 h6))) (fun _ h5 => fm_x_step h5 (fun r_14 σ_13 f h6 => (have f6 : Fr wX_readBracket σ0 σ_13 := (f4.trans (f.weak (by decide +kernel))); kQ _ _ f6 h6))) h4))) h2)) (fun _ _ h => h)) h0))
theorem fo_x_S_readChoice : ∀ n, FrO wX_readChoice (x_S_readChoice n)
  | 0 => fun _ _ _ _ _ _ _ h _ _ => h.elim
  | n + 1 => fun i a σ Q Q2 E E2 h kQ kE => by
    unfold x_S_readChoice at h ⊢
    split at h
    · exact fx_readChoice_F (fo_x_S_readChoice n) h kQ
    · exact fx_readThen_F (fo_x_S_readChoice n) h kQ
    · exact fx_readMany_F (fo_x_S_readChoice n) h kQ
    · exact fx_readOne_F (fo_x_S_readChoice n) h kQ
    · exact fx_readBracket_F (fo_x_S_readChoice n) h kQ
    · exact h.elim
theorem fm_x_readChoice {σ0 : S} {Q Q2 : Int → S → Prop} (h : x_readChoice  σ0 Q) (kQ : ∀ r s, Fr wX_readChoice σ0 s → Q r s → Q2 r s) : x_readChoice  σ0 Q2 := fo_x_S_readChoice 320 _ _ _ _ _ _ _ h kQ (fun _ _ h => h)
theorem fm_x_readThen {σ0 : S} {Q Q2 : Int → S → Prop} (h : x_readThen  σ0 Q) (kQ : ∀ r s, Fr wX_readThen σ0 s → Q r s → Q2 r s) : x_readThen  σ0 Q2 := fo_x_S_readChoice 320 _ _ _ _ _ _ _ h kQ (fun _ _ h => h)
theorem fm_x_readMany {σ0 : S} {Q Q2 : Int → S → Prop} (h : x_readMany  σ0 Q) (kQ : ∀ r s, Fr wX_readMany σ0 s → Q r s → Q2 r s) : x_readMany  σ0 Q2 := fo_x_S_readChoice 320 _ _ _ _ _ _ _ h kQ (fun _ _ h => h)
theorem fm_x_readOne {σ0 : S} {Q Q2 : Int → S → Prop} (h : x_readOne  σ0 Q) (kQ : ∀ r s, Fr wX_readOne σ0 s → Q r s → Q2 r s) : x_readOne  σ0 Q2 := fo_x_S_readChoice 320 _ _ _ _ _ _ _ h kQ (fun _ _ h => h)
theorem fm_x_readBracket {σ0 : S} {Q Q2 : Int → S → Prop} (h : x_readBracket  σ0 Q) (kQ : ∀ r s, Fr wX_readBracket σ0 s → Q r s → Q2 r s) : x_readBracket  σ0 Q2 := fo_x_S_readChoice 320 _ _ _ _ _ _ _ h kQ (fun _ _ h => h)
theorem fx_addAnswer_j30 {v1 : Int} {v2 : Int} {v3 : Int} {σ0 σ : S} {Q Q2 : Int → S → Prop} {E E2 : S → Prop} (fr : Fr wX_addAnswer σ0 σ) (h : x_addAnswer_j30 v1 v2 v3 σ Q E) (kQ : ∀ r s, Fr wX_addAnswer σ0 s → Q r s → Q2 r s) (kE : ∀ s, Fr wX_addAnswer σ0 s → E s → E2 s) : x_addAnswer_j30 v1 v2 v3 σ Q2 E2 := by
  unfold x_addAnswer_j30 at h ⊢
  exact ite_m (fun _ h0 => fm_x_stop h0 (fun _ σ_8 f h1 => (have f1 : Fr wX_addAnswer σ0 σ_8 := (fr.trans (f.weak (by decide +kernel))); kE _ f1 h1))) (fun _ h0 => ⟨h0.1, fun σ_5 e2 => (have f2 : Fr wX_addAnswer σ0 σ_5 := Fr.putA fr e2 rfl; kQ _ _ f2 (h0.2 σ_5 e2))⟩) h
theorem fx_addAnswer_L3_b {v1 : Int} {v2 : Int} {v3 : Int} {v4 : Int} {σ0 σ : S} {Q Q2 : Int → S → Prop} {E E2 : S → Prop} {X3 X32 : Int → S → Prop} (fr : Fr wX_addAnswer σ0 σ) (h : (if v4 < v2 then inb (w32 (v1 + v4)) 20000 ∧ (if gA σ 118 (w32 (v1 + v4)) = v3 then Q v2 σ else X3 (w32 (v4 + 1)) σ) else x_addAnswer_j30 v1 v2 v3 σ Q E)) (kQ : ∀ r s, Fr wX_addAnswer σ0 s → Q r s → Q2 r s) (kE : ∀ s, Fr wX_addAnswer σ0 s → E s → E2 s) (kX3 : ∀ v4 s, Fr wX_addAnswer σ0 s → X3 v4 s → X32 v4 s) : (if v4 < v2 then inb (w32 (v1 + v4)) 20000 ∧ (if gA σ 118 (w32 (v1 + v4)) = v3 then Q2 v2 σ else X32 (w32 (v4 + 1)) σ) else x_addAnswer_j30 v1 v2 v3 σ Q2 E2) :=
  ite_m (fun _ h0 => ⟨h0.1, ite_m (fun _ h2 => kQ _ _ fr h2) (fun _ h2 => kX3 _ _ fr h2) h0.2⟩) (fun _ h0 => fx_addAnswer_j30 fr h0 kQ kE) h
theorem fx_addAnswer_L3 {v1 : Int} {v2 : Int} {v3 : Int} {v4 : Int} {σ0 σ : S} {Q Q2 : Int → S → Prop} {E E2 : S → Prop} (fr : Fr wX_addAnswer σ0 σ) (h : x_addAnswer_L3 v1 v2 v3 v4 σ Q E) (kQ : ∀ r s, Fr wX_addAnswer σ0 s → Q r s → Q2 r s) (kE : ∀ s, Fr wX_addAnswer σ0 s → E s → E2 s) : x_addAnswer_L3 v1 v2 v3 v4 σ Q2 E2 := by
  unfold x_addAnswer_L3 at h ⊢
  intro Y hY
  exact h (fun v4 s => Fr wX_addAnswer σ0 s → Y v4 s) (fun v4 s h f => hY v4 s (fx_addAnswer_L3_b (v1 := v1) (v2 := v2) (v3 := v3) (v4 := v4) (Q := Q) (Q2 := Q2) (E := E) (E2 := E2) (X3 := fun v4 s => Fr wX_addAnswer σ0 s → Y v4 s) (X32 := Y) f h kQ kE (fun v4 s f h => h f))) fr
theorem lx_addAnswer_L3 {v1 : Int} {v2 : Int} {v3 : Int} {v4 : Int} {σ0 : S} {Q : Int → S → Prop} {E : S → Prop} (I : Int → S → Prop) (me : Int → S → Nat) (h0 : I v4 σ0) (step : ∀ (v4 : Int) (s : S), Fr wX_addAnswer σ0 s → I v4 s → (fun (Y0 : Int → S → Prop) => (if v4 < v2 then inb (w32 (v1 + v4)) 20000 ∧ (if gA s 118 (w32 (v1 + v4)) = v3 then Q v2 s else Y0 (w32 (v4 + 1)) s) else x_addAnswer_j30 v1 v2 v3 s Q E)) (fun v4' s' => I v4' s' ∧ me v4' s' < me v4 s)) : x_addAnswer_L3 v1 v2 v3 v4 σ0 Q E := by
  unfold x_addAnswer_L3
  intro Y hY
  have key : ∀ (n : Nat) (v4 : Int) (s : S), me v4 s < n → Fr wX_addAnswer σ0 s → I v4 s → Y v4 s := by
    intro n
    induction n with
    | zero => intro v4 s h; exact absurd h (Nat.not_lt_zero _)
    | succ n ih =>
      intro v4 s hm fr hi
      exact hY v4 s (fx_addAnswer_L3_b (v1 := v1) (v2 := v2) (v3 := v3) (v4 := v4) (Q := Q) (Q2 := Q) (E := E) (E2 := E) (X3 := (fun v4' s' => I v4' s' ∧ me v4' s' < me v4 s)) (X32 := Y) fr (step v4 s fr hi) (fun _ _ _ h => h) (fun _ _ h => h) (fun v4 s f h => ih v4 s (by omega) f h.1))
  exact key _ v4 σ0 (Nat.lt_succ_self _) Fr.rf h0
theorem fm_x_addAnswer {v1 : Int} {v2 : Int} {v3 : Int} {σ0 : S} {Q Q2 : Int → S → Prop} {E E2 : S → Prop} (h : x_addAnswer v1 v2 v3 σ0 Q E) (kQ : ∀ r s, Fr wX_addAnswer σ0 s → Q r s → Q2 r s) (kE : ∀ s, Fr wX_addAnswer σ0 s → E s → E2 s) : x_addAnswer v1 v2 v3 σ0 Q2 E2 := by
  have fr : Fr wX_addAnswer σ0 σ0 := Fr.rf
  unfold x_addAnswer at h ⊢
  exact fx_addAnswer_L3 fr h kQ kE
theorem fx_join_L6_b {v1 : Int} {v3 : Int} {v4 : Int} {v5 : Int} {σ0 σ : S} {Q Q2 : Int → S → Prop} {E E2 : S → Prop} {X6 X62 : Int → Int → S → Prop} (fr : Fr wX_join σ0 σ) (h : (if v5 < v3 then inb (w32 (w32 (w32 (v1 + 60) + 1) + v5)) 20000 ∧ x_addAnswer v1 v4 (gA σ 118 (w32 (w32 (w32 (v1 + 60) + 1) + v5))) σ (fun r_6 σ_5 => X6 r_6 (w32 (v5 + 1)) σ_5) E else Q v4 σ)) (kQ : ∀ r s, Fr wX_join σ0 s → Q r s → Q2 r s) (kE : ∀ s, Fr wX_join σ0 s → E s → E2 s) (kX6 : ∀ v4 v5 s, Fr wX_join σ0 s → X6 v4 v5 s → X62 v4 v5 s) : (if v5 < v3 then inb (w32 (w32 (w32 (v1 + 60) + 1) + v5)) 20000 ∧ x_addAnswer v1 v4 (gA σ 118 (w32 (w32 (w32 (v1 + 60) + 1) + v5))) σ (fun r_6 σ_5 => X62 r_6 (w32 (v5 + 1)) σ_5) E2 else Q2 v4 σ) :=
  ite_m (fun _ h0 => ⟨h0.1, fm_x_addAnswer h0.2 (fun r_6 σ_5 f h2 => (have f2 : Fr wX_join σ0 σ_5 := (fr.trans (f.weak (by decide +kernel))); kX6 _ _ _ f2 h2)) (fun s f h => kE _ (fr.trans (f.weak (by decide +kernel))) h)⟩) (fun _ h0 => kQ _ _ fr h0) h
theorem fx_join_L6 {v1 : Int} {v3 : Int} {v4 : Int} {v5 : Int} {σ0 σ : S} {Q Q2 : Int → S → Prop} {E E2 : S → Prop} (fr : Fr wX_join σ0 σ) (h : x_join_L6 v1 v3 v4 v5 σ Q E) (kQ : ∀ r s, Fr wX_join σ0 s → Q r s → Q2 r s) (kE : ∀ s, Fr wX_join σ0 s → E s → E2 s) : x_join_L6 v1 v3 v4 v5 σ Q2 E2 := by
  unfold x_join_L6 at h ⊢
  intro Y hY
  exact h (fun v4 v5 s => Fr wX_join σ0 s → Y v4 v5 s) (fun v4 v5 s h f => hY v4 v5 s (fx_join_L6_b (v1 := v1) (v3 := v3) (v4 := v4) (v5 := v5) (Q := Q) (Q2 := Q2) (E := E) (E2 := E2) (X6 := fun v4 v5 s => Fr wX_join σ0 s → Y v4 v5 s) (X62 := Y) f h kQ kE (fun v4 v5 s f h => h f))) fr
theorem lx_join_L6 {v1 : Int} {v3 : Int} {v4 : Int} {v5 : Int} {σ0 : S} {Q : Int → S → Prop} {E : S → Prop} (I : Int → Int → S → Prop) (me : Int → Int → S → Nat) (h0 : I v4 v5 σ0) (step : ∀ (v4 : Int) (v5 : Int) (s : S), Fr wX_join σ0 s → I v4 v5 s → (fun (Y0 : Int → Int → S → Prop) => (if v5 < v3 then inb (w32 (w32 (w32 (v1 + 60) + 1) + v5)) 20000 ∧ x_addAnswer v1 v4 (gA s 118 (w32 (w32 (w32 (v1 + 60) + 1) + v5))) s (fun r_6 σ_5 => Y0 r_6 (w32 (v5 + 1)) σ_5) E else Q v4 s)) (fun v4' v5' s' => I v4' v5' s' ∧ me v4' v5' s' < me v4 v5 s)) : x_join_L6 v1 v3 v4 v5 σ0 Q E := by
  unfold x_join_L6
  intro Y hY
  have key : ∀ (n : Nat) (v4 : Int) (v5 : Int) (s : S), me v4 v5 s < n → Fr wX_join σ0 s → I v4 v5 s → Y v4 v5 s := by
    intro n
    induction n with
    | zero => intro v4 v5 s h; exact absurd h (Nat.not_lt_zero _)
    | succ n ih =>
      intro v4 v5 s hm fr hi
      exact hY v4 v5 s (fx_join_L6_b (v1 := v1) (v3 := v3) (v4 := v4) (v5 := v5) (Q := Q) (Q2 := Q) (E := E) (E2 := E) (X6 := (fun v4' v5' s' => I v4' v5' s' ∧ me v4' v5' s' < me v4 v5 s)) (X62 := Y) fr (step v4 v5 s fr hi) (fun _ _ _ h => h) (fun _ _ h => h) (fun v4 v5 s f h => ih v4 v5 s (by omega) f h.1))
  exact key _ v4 v5 σ0 (Nat.lt_succ_self _) Fr.rf h0
theorem fm_x_join {v1 : Int} {v2 : Int} {v3 : Int} {σ0 : S} {Q Q2 : Int → S → Prop} {E E2 : S → Prop} (h : x_join v1 v2 v3 σ0 Q E) (kQ : ∀ r s, Fr wX_join σ0 s → Q r s → Q2 r s) (kE : ∀ s, Fr wX_join σ0 s → E s → E2 s) : x_join v1 v2 v3 σ0 Q2 E2 := by
  have fr : Fr wX_join σ0 σ0 := Fr.rf
  unfold x_join at h ⊢
  exact fx_join_L6 fr h kQ kE
theorem fx_answers_L103_b {v3 : Int} {v4 : Int} {v5 : Int} {σ0 σ : S} {Q Q2 : Int → S → Prop} {E E2 : S → Prop} {X103 X1032 : Int → Int → S → Prop} {G : Orc} (hG : FrO wX_answers G) (fr : Fr wX_answers σ0 σ) (h : (if v5 < gI σ 146 then inb v5 61 ∧ x_addAnswer v3 v4 (gA σ 93 v5) σ (fun r_22 σ_21 => X103 r_22 (w32 (v5 + 1)) σ_21) E else Q v4 σ)) (kQ : ∀ r s, Fr wX_answers σ0 s → Q r s → Q2 r s) (kE : ∀ s, Fr wX_answers σ0 s → E s → E2 s) (kX103 : ∀ v4 v5 s, Fr wX_answers σ0 s → X103 v4 v5 s → X1032 v4 v5 s) : (if v5 < gI σ 146 then inb v5 61 ∧ x_addAnswer v3 v4 (gA σ 93 v5) σ (fun r_22 σ_21 => X1032 r_22 (w32 (v5 + 1)) σ_21) E2 else Q2 v4 σ) :=
  ite_m (fun _ h0 => ⟨h0.1, fm_x_addAnswer h0.2 (fun r_22 σ_21 f h2 => (have f2 : Fr wX_answers σ0 σ_21 := (fr.trans (f.weak (by decide +kernel))); kX103 _ _ _ f2 h2)) (fun s f h => kE _ (fr.trans (f.weak (by decide +kernel))) h)⟩) (fun _ h0 => kQ _ _ fr h0) h
theorem fx_answers_L103 {v3 : Int} {v4 : Int} {v5 : Int} {σ0 σ : S} {Q Q2 : Int → S → Prop} {E E2 : S → Prop} {G : Orc} (hG : FrO wX_answers G) (fr : Fr wX_answers σ0 σ) (h : x_answers_L103 G v3 v4 v5 σ Q E) (kQ : ∀ r s, Fr wX_answers σ0 s → Q r s → Q2 r s) (kE : ∀ s, Fr wX_answers σ0 s → E s → E2 s) : x_answers_L103 G v3 v4 v5 σ Q2 E2 := by
  unfold x_answers_L103 at h ⊢
  intro Y hY
  exact h (fun v4 v5 s => Fr wX_answers σ0 s → Y v4 v5 s) (fun v4 v5 s h f => hY v4 v5 s (fx_answers_L103_b (v3 := v3) (v4 := v4) (v5 := v5) (Q := Q) (Q2 := Q2) (E := E) (E2 := E2) (X103 := fun v4 v5 s => Fr wX_answers σ0 s → Y v4 v5 s) (X1032 := Y) hG f h kQ kE (fun v4 v5 s f h => h f))) fr
theorem lx_answers_L103 {v3 : Int} {v4 : Int} {v5 : Int} {σ0 : S} {Q : Int → S → Prop} {E : S → Prop} {G : Orc} (hG : FrO wX_answers G) (I : Int → Int → S → Prop) (me : Int → Int → S → Nat) (h0 : I v4 v5 σ0) (step : ∀ (v4 : Int) (v5 : Int) (s : S), Fr wX_answers σ0 s → I v4 v5 s → (fun (Y0 : Int → Int → S → Prop) => (if v5 < gI s 146 then inb v5 61 ∧ x_addAnswer v3 v4 (gA s 93 v5) s (fun r_22 σ_21 => Y0 r_22 (w32 (v5 + 1)) σ_21) E else Q v4 s)) (fun v4' v5' s' => I v4' v5' s' ∧ me v4' v5' s' < me v4 v5 s)) : x_answers_L103 G v3 v4 v5 σ0 Q E := by
  unfold x_answers_L103
  intro Y hY
  have key : ∀ (n : Nat) (v4 : Int) (v5 : Int) (s : S), me v4 v5 s < n → Fr wX_answers σ0 s → I v4 v5 s → Y v4 v5 s := by
    intro n
    induction n with
    | zero => intro v4 v5 s h; exact absurd h (Nat.not_lt_zero _)
    | succ n ih =>
      intro v4 v5 s hm fr hi
      exact hY v4 v5 s (fx_answers_L103_b (v3 := v3) (v4 := v4) (v5 := v5) (Q := Q) (Q2 := Q) (E := E) (E2 := E) (X103 := (fun v4' v5' s' => I v4' v5' s' ∧ me v4' v5' s' < me v4 v5 s)) (X1032 := Y) hG fr (step v4 v5 s fr hi) (fun _ _ _ h => h) (fun _ _ h => h) (fun v4 v5 s f h => ih v4 v5 s (by omega) f h.1))
  exact key _ v4 v5 σ0 (Nat.lt_succ_self _) Fr.rf h0
theorem fx_answers_F {v1 : Int} {v2 : Int} {v3 : Int} {σ0 : S} {Q Q2 : Int → S → Prop} {E E2 : S → Prop} {G : Orc} (hG : FrO wX_answers G) (h : x_answers_F G v1 v2 v3 σ0 Q E) (kQ : ∀ r s, Fr wX_answers σ0 s → Q r s → Q2 r s) (kE : ∀ s, Fr wX_answers σ0 s → E s → E2 s) : x_answers_F G v1 v2 v3 σ0 Q2 E2 := by
  have fr : Fr wX_answers σ0 σ0 := Fr.rf
  unfold x_answers_F at h ⊢
  exact ⟨h.1, ite_m (fun _ h1 => fm_x_addAnswer h1 (fun r_4 σ_3 f h2 => (have f2 : Fr wX_answers σ0 σ_3 := (fr.trans (f.weak (by decide +kernel))); kQ _ _ f2 h2)) (fun s f h => kE _ (fr.trans (f.weak (by decide +kernel))) h)) (fun _ h1 => ite_m (fun _ h2 => kQ _ _ fr h2) (fun _ h2 => ite_m (fun _ h3 => ⟨h3.1, ⟨h3.2.1, fm_x_rulesOf h3.2.2 (fun _ σ_14 f h6 => (have f6 : Fr wX_answers σ0 σ_14 := (fr.trans (f.weak (by decide +kernel))); fx_answers_L103 hG f6 h6 kQ kE)) (fun s f h => kE _ (fr.trans (f.weak (by decide +kernel))) h)⟩⟩) (fun _ h3 => ite_m (fun _ h4 => ⟨h4.1, ⟨h4.2.1, fm_x_rulesOf h4.2.2 (fun _ σ_32 f h7 => (have f7 : Fr wX_answers σ0 σ_32 := (fr.trans (f.weak (by decide +kernel))); fx_answers_L103 hG f7 h7 kQ kE)) (fun s f h => kE _ (fr.trans (f.weak (by decide +kernel))) h)⟩⟩) (fun _ h4 => ite_m (fun _ h5 => ⟨h5.1, hG _ _ _ _ _ _ _ h5.2 (fun r_37 σ_36 f h7 => (have f7 : Fr wX_answers σ0 σ_36 := (fr.trans f); ⟨h7.1, hG _ _ _ _ _ _ _ h7.2 (fun r_42 σ_41 f h9 => (have f9 : Fr wX_answers σ0 σ_41 := (f7.trans f); fm_x_join h9 (fun r_45 σ_44 f h10 => (have f10 : Fr wX_answers σ0 σ_44 := (f9.trans (f.weak (by decide +kernel))); kQ _ _ f10 h10)) (fun s f h => kE _ (f9.trans (f.weak (by decide +kernel))) h))) (fun s f h => kE _ (f7.trans f) h)⟩)) (fun s f h => kE _ (fr.trans f) h)⟩) (fun _ h5 => ite_m (fun _ h6 => hG _ _ _ _ _ _ _ h6 (fun r_48 σ_47 f h7 => (have f7 : Fr wX_answers σ0 σ_47 := (fr.trans f); kQ _ _ f7 h7)) (fun s f h => kE _ (fr.trans f) h)) (fun _ h6 => ite_m (fun _ h7 => hG _ _ _ _ _ _ _ h7 (fun r_51 σ_50 f h8 => (have f8 : Fr wX_answers σ0 σ_50 := (fr.trans f); kQ _ _ f8 h8)) (fun s f h => kE _ (fr.trans f) h)) (fun _ h7 => ite_m (fun _ h8 => hG _ _ _ _ _ _ _ h8 (fun r_54 σ_53 f h9 => (have f9 : Fr wX_answers σ0 σ_53 := (fr.trans f); kQ _ _ f9 h9)) (fun s f h => kE _ (fr.trans f) h)) (fun _ h8 => ite_m (fun _ h9 => ⟨h9.1, hG _ _ _ _ _ _ _ h9.2 (fun r_59 σ_58 f h11 => (have f11 : Fr wX_answers σ0 σ_58 := (fr.trans f); ite_m (fun _ h12 => fm_x_addAnswer h12 (fun r_64 σ_63 f h13 => (have f13 : Fr wX_answers σ0 σ_63 := (f11.trans (f.weak (by decide +kernel))); kQ _ _ f13 h13)) (fun s f h => kE _ (f11.trans (f.weak (by decide +kernel))) h)) (fun _ h12 => kQ _ _ f11 h12) h11)) (fun s f h => kE _ (fr.trans f) h)⟩) (fun _ h9 => ite_m (fun _ h10 => ⟨h10.1, hG _ _ _ _ _ _ _ h10.2 (fun r_69 σ_68 f h12 => (have f12 : Fr wX_answers σ0 σ_68 := (fr.trans f); kQ _ _ f12 h12)) (fun s f h => kE _ (fr.trans f) h)⟩) (fun _ h10 => hG _ _ _ _ _ _ _ h10 (fun r_72 σ_71 f h11 => (have f11 : Fr wX_answers σ0 σ_71 := (fr.trans f); kQ _ _ f11 h11)) (fun s f h => kE _ (fr.trans f) h)) h9) h8) h7) h6) h5) h4) h3) h2) h1) h.2⟩
theorem fx_answersThen_j104 {v1 : Int} {v3 : Int} {v4 : Int} {v5 : Int} {v6 : Int} {v7 : Int} {σ0 σ : S} {Q Q2 : Int → S → Prop} {E E2 : S → Prop} {X29 X292 : Int → Int → S → Prop} {G : Orc} (hG : FrO wX_answersThen G) (fr : Fr wX_answersThen σ0 σ) (h : x_answersThen_j104 G v1 v3 v4 v5 v6 v7 σ Q E X29) (kQ : ∀ r s, Fr wX_answersThen σ0 s → Q r s → Q2 r s) (kE : ∀ s, Fr wX_answersThen σ0 s → E s → E2 s) (kX29 : ∀ a0 a1 s, Fr wX_answersThen σ0 s → X29 a0 a1 s → X292 a0 a1 s) : x_answersThen_j104 G v1 v3 v4 v5 v6 v7 σ Q2 E2 X292 := by
  unfold x_answersThen_j104 at h ⊢
  exact kX29 _ _ _ fr h
theorem fx_answersThen_L72_b {v1 : Int} {v3 : Int} {v4 : Int} {v5 : Int} {v6 : Int} {v7 : Int} {v8 : Int} {v9 : Int} {v10 : Int} {σ0 σ : S} {Q Q2 : Int → S → Prop} {E E2 : S → Prop} {X29 X292 : Int → Int → S → Prop} {X72 X722 : Int → Int → S → Prop} {G : Orc} (hG : FrO wX_answersThen G) (fr : Fr wX_answersThen σ0 σ) (h : (if v10 < v9 then inb (w32 (v8 + v10)) 20000 ∧ x_addAnswer v3 v6 (gA σ 118 (w32 (v8 + v10))) σ (fun r_20 σ_19 => X72 r_20 (w32 (v10 + 1)) σ_19) E else x_answersThen_j104 G v1 v3 v4 v5 v6 v7 σ Q E X29)) (kQ : ∀ r s, Fr wX_answersThen σ0 s → Q r s → Q2 r s) (kE : ∀ s, Fr wX_answersThen σ0 s → E s → E2 s) (kX29 : ∀ a0 a1 s, Fr wX_answersThen σ0 s → X29 a0 a1 s → X292 a0 a1 s) (kX72 : ∀ v6 v10 s, Fr wX_answersThen σ0 s → X72 v6 v10 s → X722 v6 v10 s) : (if v10 < v9 then inb (w32 (v8 + v10)) 20000 ∧ x_addAnswer v3 v6 (gA σ 118 (w32 (v8 + v10))) σ (fun r_20 σ_19 => X722 r_20 (w32 (v10 + 1)) σ_19) E2 else x_answersThen_j104 G v1 v3 v4 v5 v6 v7 σ Q2 E2 X292) :=
  ite_m (fun _ h0 => ⟨h0.1, fm_x_addAnswer h0.2 (fun r_20 σ_19 f h2 => (have f2 : Fr wX_answersThen σ0 σ_19 := (fr.trans (f.weak (by decide +kernel))); kX72 _ _ _ f2 h2)) (fun s f h => kE _ (fr.trans (f.weak (by decide +kernel))) h)⟩) (fun _ h0 => fx_answersThen_j104 hG fr h0 kQ kE kX29) h
theorem fx_answersThen_L72 {v1 : Int} {v3 : Int} {v4 : Int} {v5 : Int} {v6 : Int} {v7 : Int} {v8 : Int} {v9 : Int} {v10 : Int} {σ0 σ : S} {Q Q2 : Int → S → Prop} {E E2 : S → Prop} {X29 X292 : Int → Int → S → Prop} {G : Orc} (hG : FrO wX_answersThen G) (fr : Fr wX_answersThen σ0 σ) (h : x_answersThen_L72 G v1 v3 v4 v5 v6 v7 v8 v9 v10 σ Q E X29) (kQ : ∀ r s, Fr wX_answersThen σ0 s → Q r s → Q2 r s) (kE : ∀ s, Fr wX_answersThen σ0 s → E s → E2 s) (kX29 : ∀ a0 a1 s, Fr wX_answersThen σ0 s → X29 a0 a1 s → X292 a0 a1 s) : x_answersThen_L72 G v1 v3 v4 v5 v6 v7 v8 v9 v10 σ Q2 E2 X292 := by
  unfold x_answersThen_L72 at h ⊢
  intro Y hY
  exact h (fun v6 v10 s => Fr wX_answersThen σ0 s → Y v6 v10 s) (fun v6 v10 s h f => hY v6 v10 s (fx_answersThen_L72_b (v1 := v1) (v3 := v3) (v4 := v4) (v5 := v5) (v6 := v6) (v7 := v7) (v8 := v8) (v9 := v9) (v10 := v10) (Q := Q) (Q2 := Q2) (E := E) (E2 := E2) (X29 := X29) (X292 := X292) (X72 := fun v6 v10 s => Fr wX_answersThen σ0 s → Y v6 v10 s) (X722 := Y) hG f h kQ kE kX29 (fun v6 v10 s f h => h f))) fr
theorem lx_answersThen_L72 {v1 : Int} {v3 : Int} {v4 : Int} {v5 : Int} {v6 : Int} {v7 : Int} {v8 : Int} {v9 : Int} {v10 : Int} {σ0 : S} {Q : Int → S → Prop} {E : S → Prop} {X29 : Int → Int → S → Prop} {G : Orc} (hG : FrO wX_answersThen G) (I : Int → Int → S → Prop) (me : Int → Int → S → Nat) (h0 : I v6 v10 σ0) (step : ∀ (v6 : Int) (v10 : Int) (s : S), Fr wX_answersThen σ0 s → I v6 v10 s → (fun (Y0 : Int → Int → S → Prop) => (if v10 < v9 then inb (w32 (v8 + v10)) 20000 ∧ x_addAnswer v3 v6 (gA s 118 (w32 (v8 + v10))) s (fun r_20 σ_19 => Y0 r_20 (w32 (v10 + 1)) σ_19) E else x_answersThen_j104 G v1 v3 v4 v5 v6 v7 s Q E X29)) (fun v6' v10' s' => I v6' v10' s' ∧ me v6' v10' s' < me v6 v10 s)) : x_answersThen_L72 G v1 v3 v4 v5 v6 v7 v8 v9 v10 σ0 Q E X29 := by
  unfold x_answersThen_L72
  intro Y hY
  have key : ∀ (n : Nat) (v6 : Int) (v10 : Int) (s : S), me v6 v10 s < n → Fr wX_answersThen σ0 s → I v6 v10 s → Y v6 v10 s := by
    intro n
    induction n with
    | zero => intro v6 v10 s h; exact absurd h (Nat.not_lt_zero _)
    | succ n ih =>
      intro v6 v10 s hm fr hi
      exact hY v6 v10 s (fx_answersThen_L72_b (v1 := v1) (v3 := v3) (v4 := v4) (v5 := v5) (v6 := v6) (v7 := v7) (v8 := v8) (v9 := v9) (v10 := v10) (Q := Q) (Q2 := Q) (E := E) (E2 := E) (X29 := X29) (X292 := X29) (X72 := (fun v6' v10' s' => I v6' v10' s' ∧ me v6' v10' s' < me v6 v10 s)) (X722 := Y) hG fr (step v6 v10 s fr hi) (fun _ _ _ h => h) (fun _ _ h => h) (fun _ _ _ _ h => h) (fun v6 v10 s f h => ih v6 v10 s (by omega) f h.1))
  exact key _ v6 v10 σ0 (Nat.lt_succ_self _) Fr.rf h0
theorem fx_answersThen_L29_b {v1 : Int} {v3 : Int} {v4 : Int} {v5 : Int} {v6 : Int} {v7 : Int} {σ0 σ : S} {Q Q2 : Int → S → Prop} {E E2 : S → Prop} {X29 X292 : Int → Int → S → Prop} {G : Orc} (hG : FrO wX_answersThen G) (fr : Fr wX_answersThen σ0 σ) (h : (if v7 < v5 then inb v1 200 ∧ inb (w32 (v4 + v7)) 20000 ∧ G 0 [(gA σ 117 v1), (gA σ 118 (w32 (v4 + v7))), (w32 (w32 (v4 + 60) + 1))] σ (fun r_13 σ_12 => x_answersThen_L72 G v1 v3 v4 v5 v6 v7 (w32 (w32 (v4 + 60) + 1)) r_13 0 σ_12 Q E X29) E else Q v6 σ)) (kQ : ∀ r s, Fr wX_answersThen σ0 s → Q r s → Q2 r s) (kE : ∀ s, Fr wX_answersThen σ0 s → E s → E2 s) (kX29 : ∀ v6 v7 s, Fr wX_answersThen σ0 s → X29 v6 v7 s → X292 v6 v7 s) : (if v7 < v5 then inb v1 200 ∧ inb (w32 (v4 + v7)) 20000 ∧ G 0 [(gA σ 117 v1), (gA σ 118 (w32 (v4 + v7))), (w32 (w32 (v4 + 60) + 1))] σ (fun r_13 σ_12 => x_answersThen_L72 G v1 v3 v4 v5 v6 v7 (w32 (w32 (v4 + 60) + 1)) r_13 0 σ_12 Q2 E2 X292) E2 else Q2 v6 σ) :=
  ite_m (fun _ h0 => ⟨h0.1, ⟨h0.2.1, hG _ _ _ _ _ _ _ h0.2.2 (fun r_13 σ_12 f h3 => (have f3 : Fr wX_answersThen σ0 σ_12 := (fr.trans f); fx_answersThen_L72 hG f3 h3 kQ kE kX29)) (fun s f h => kE _ (fr.trans f) h)⟩⟩) (fun _ h0 => kQ _ _ fr h0) h
theorem fx_answersThen_L29 {v1 : Int} {v3 : Int} {v4 : Int} {v5 : Int} {v6 : Int} {v7 : Int} {σ0 σ : S} {Q Q2 : Int → S → Prop} {E E2 : S → Prop} {G : Orc} (hG : FrO wX_answersThen G) (fr : Fr wX_answersThen σ0 σ) (h : x_answersThen_L29 G v1 v3 v4 v5 v6 v7 σ Q E) (kQ : ∀ r s, Fr wX_answersThen σ0 s → Q r s → Q2 r s) (kE : ∀ s, Fr wX_answersThen σ0 s → E s → E2 s) : x_answersThen_L29 G v1 v3 v4 v5 v6 v7 σ Q2 E2 := by
  unfold x_answersThen_L29 at h ⊢
  intro Y hY
  exact h (fun v6 v7 s => Fr wX_answersThen σ0 s → Y v6 v7 s) (fun v6 v7 s h f => hY v6 v7 s (fx_answersThen_L29_b (v1 := v1) (v3 := v3) (v4 := v4) (v5 := v5) (v6 := v6) (v7 := v7) (Q := Q) (Q2 := Q2) (E := E) (E2 := E2) (X29 := fun v6 v7 s => Fr wX_answersThen σ0 s → Y v6 v7 s) (X292 := Y) hG f h kQ kE (fun v6 v7 s f h => h f))) fr
theorem lx_answersThen_L29 {v1 : Int} {v3 : Int} {v4 : Int} {v5 : Int} {v6 : Int} {v7 : Int} {σ0 : S} {Q : Int → S → Prop} {E : S → Prop} {G : Orc} (hG : FrO wX_answersThen G) (I : Int → Int → S → Prop) (me : Int → Int → S → Nat) (h0 : I v6 v7 σ0) (step : ∀ (v6 : Int) (v7 : Int) (s : S), Fr wX_answersThen σ0 s → I v6 v7 s → (fun (Y0 : Int → Int → S → Prop) => (if v7 < v5 then inb v1 200 ∧ inb (w32 (v4 + v7)) 20000 ∧ G 0 [(gA s 117 v1), (gA s 118 (w32 (v4 + v7))), (w32 (w32 (v4 + 60) + 1))] s (fun r_13 σ_12 => x_answersThen_L72 G v1 v3 v4 v5 v6 v7 (w32 (w32 (v4 + 60) + 1)) r_13 0 σ_12 Q E Y0) E else Q v6 s)) (fun v6' v7' s' => I v6' v7' s' ∧ me v6' v7' s' < me v6 v7 s)) : x_answersThen_L29 G v1 v3 v4 v5 v6 v7 σ0 Q E := by
  unfold x_answersThen_L29
  intro Y hY
  have key : ∀ (n : Nat) (v6 : Int) (v7 : Int) (s : S), me v6 v7 s < n → Fr wX_answersThen σ0 s → I v6 v7 s → Y v6 v7 s := by
    intro n
    induction n with
    | zero => intro v6 v7 s h; exact absurd h (Nat.not_lt_zero _)
    | succ n ih =>
      intro v6 v7 s hm fr hi
      exact hY v6 v7 s (fx_answersThen_L29_b (v1 := v1) (v3 := v3) (v4 := v4) (v5 := v5) (v6 := v6) (v7 := v7) (Q := Q) (Q2 := Q) (E := E) (E2 := E) (X29 := (fun v6' v7' s' => I v6' v7' s' ∧ me v6' v7' s' < me v6 v7 s)) (X292 := Y) hG fr (step v6 v7 s fr hi) (fun _ _ _ h => h) (fun _ _ h => h) (fun v6 v7 s f h => ih v6 v7 s (by omega) f h.1))
  exact key _ v6 v7 σ0 (Nat.lt_succ_self _) Fr.rf h0
theorem fx_answersThen_F {v1 : Int} {v2 : Int} {v3 : Int} {σ0 : S} {Q Q2 : Int → S → Prop} {E E2 : S → Prop} {G : Orc} (hG : FrO wX_answersThen G) (h : x_answersThen_F G v1 v2 v3 σ0 Q E) (kQ : ∀ r s, Fr wX_answersThen σ0 s → Q r s → Q2 r s) (kE : ∀ s, Fr wX_answersThen σ0 s → E s → E2 s) : x_answersThen_F G v1 v2 v3 σ0 Q2 E2 := by
  have fr : Fr wX_answersThen σ0 σ0 := Fr.rf
  unfold x_answersThen_F at h ⊢
  exact ⟨h.1, hG _ _ _ _ _ _ _ h.2 (fun r_4 σ_3 f h1 => (have f1 : Fr wX_answersThen σ0 σ_3 := (fr.trans f); fx_answersThen_L29 hG f1 h1 kQ kE)) (fun s f h => kE _ (fr.trans f) h)⟩
theorem fx_answersMany_j147 {v1 : Int} {v3 : Int} {v4 : Int} {v5 : Int} {v6 : Int} {v7 : Int} {v8 : Int} {σ0 σ : S} {Q Q2 : Int → S → Prop} {E E2 : S → Prop} {X42 X422 : Int → Int → Int → S → Prop} {G : Orc} (hG : FrO wX_answersMany G) (fr : Fr wX_answersMany σ0 σ) (h : x_answersMany_j147 G v1 v3 v4 v5 v6 v7 v8 σ Q E X42) (kQ : ∀ r s, Fr wX_answersMany σ0 s → Q r s → Q2 r s) (kE : ∀ s, Fr wX_answersMany σ0 s → E s → E2 s) (kX42 : ∀ a0 a1 a2 s, Fr wX_answersMany σ0 s → X42 a0 a1 a2 s → X422 a0 a1 a2 s) : x_answersMany_j147 G v1 v3 v4 v5 v6 v7 v8 σ Q2 E2 X422 := by
  unfold x_answersMany_j147 at h ⊢
  exact kX42 _ _ _ _ fr h
theorem fx_answersMany_j118 {v1 : Int} {v3 : Int} {v4 : Int} {v5 : Int} {v6 : Int} {v7 : Int} {v8 : Int} {v10 : Int} {σ0 σ : S} {Q Q2 : Int → S → Prop} {E E2 : S → Prop} {X42 X422 : Int → Int → Int → S → Prop} {G : Orc} (hG : FrO wX_answersMany G) (fr : Fr wX_answersMany σ0 σ) (h : x_answersMany_j118 G v1 v3 v4 v5 v6 v7 v8 v10 σ Q E X42) (kQ : ∀ r s, Fr wX_answersMany σ0 s → Q r s → Q2 r s) (kE : ∀ s, Fr wX_answersMany σ0 s → E s → E2 s) (kX42 : ∀ a0 a1 a2 s, Fr wX_answersMany σ0 s → X42 a0 a1 a2 s → X422 a0 a1 a2 s) : x_answersMany_j118 G v1 v3 v4 v5 v6 v7 v8 v10 σ Q2 E2 X422 := by
  unfold x_answersMany_j118 at h ⊢
  exact ite_m (fun _ h0 => ⟨h0.1, fm_x_addAnswer h0.2 (fun r_23 σ_22 f h2 => (have f2 : Fr wX_answersMany σ0 σ_22 := (fr.trans (f.weak (by decide +kernel))); fx_answersMany_j147 hG f2 h2 kQ kE kX42)) (fun s f h => kE _ (fr.trans (f.weak (by decide +kernel))) h)⟩) (fun _ h0 => fx_answersMany_j147 hG fr h0 kQ kE kX42) h
theorem fx_answersMany_L85_b {v1 : Int} {v3 : Int} {v4 : Int} {v5 : Int} {v6 : Int} {v7 : Int} {v8 : Int} {v9 : Int} {v10 : Int} {v11 : Int} {σ0 σ : S} {Q Q2 : Int → S → Prop} {E E2 : S → Prop} {X42 X422 : Int → Int → Int → S → Prop} {X85 X852 : Int → Int → S → Prop} {G : Orc} (hG : FrO wX_answersMany G) (fr : Fr wX_answersMany σ0 σ) (h : (if v11 < v10 then inb (w32 (v9 + v11)) 20000 ∧ x_addAnswer v4 v6 (gA σ 118 (w32 (v9 + v11))) σ (fun r_31 σ_30 => X85 r_31 (w32 (v11 + 1)) σ_30) E else x_answersMany_j118 G v1 v3 v4 v5 v6 v7 v8 v10 σ Q E X42)) (kQ : ∀ r s, Fr wX_answersMany σ0 s → Q r s → Q2 r s) (kE : ∀ s, Fr wX_answersMany σ0 s → E s → E2 s) (kX42 : ∀ a0 a1 a2 s, Fr wX_answersMany σ0 s → X42 a0 a1 a2 s → X422 a0 a1 a2 s) (kX85 : ∀ v6 v11 s, Fr wX_answersMany σ0 s → X85 v6 v11 s → X852 v6 v11 s) : (if v11 < v10 then inb (w32 (v9 + v11)) 20000 ∧ x_addAnswer v4 v6 (gA σ 118 (w32 (v9 + v11))) σ (fun r_31 σ_30 => X852 r_31 (w32 (v11 + 1)) σ_30) E2 else x_answersMany_j118 G v1 v3 v4 v5 v6 v7 v8 v10 σ Q2 E2 X422) :=
  ite_m (fun _ h0 => ⟨h0.1, fm_x_addAnswer h0.2 (fun r_31 σ_30 f h2 => (have f2 : Fr wX_answersMany σ0 σ_30 := (fr.trans (f.weak (by decide +kernel))); kX85 _ _ _ f2 h2)) (fun s f h => kE _ (fr.trans (f.weak (by decide +kernel))) h)⟩) (fun _ h0 => fx_answersMany_j118 hG fr h0 kQ kE kX42) h
theorem fx_answersMany_L85 {v1 : Int} {v3 : Int} {v4 : Int} {v5 : Int} {v6 : Int} {v7 : Int} {v8 : Int} {v9 : Int} {v10 : Int} {v11 : Int} {σ0 σ : S} {Q Q2 : Int → S → Prop} {E E2 : S → Prop} {X42 X422 : Int → Int → Int → S → Prop} {G : Orc} (hG : FrO wX_answersMany G) (fr : Fr wX_answersMany σ0 σ) (h : x_answersMany_L85 G v1 v3 v4 v5 v6 v7 v8 v9 v10 v11 σ Q E X42) (kQ : ∀ r s, Fr wX_answersMany σ0 s → Q r s → Q2 r s) (kE : ∀ s, Fr wX_answersMany σ0 s → E s → E2 s) (kX42 : ∀ a0 a1 a2 s, Fr wX_answersMany σ0 s → X42 a0 a1 a2 s → X422 a0 a1 a2 s) : x_answersMany_L85 G v1 v3 v4 v5 v6 v7 v8 v9 v10 v11 σ Q2 E2 X422 := by
  unfold x_answersMany_L85 at h ⊢
  intro Y hY
  exact h (fun v6 v11 s => Fr wX_answersMany σ0 s → Y v6 v11 s) (fun v6 v11 s h f => hY v6 v11 s (fx_answersMany_L85_b (v1 := v1) (v3 := v3) (v4 := v4) (v5 := v5) (v6 := v6) (v7 := v7) (v8 := v8) (v9 := v9) (v10 := v10) (v11 := v11) (Q := Q) (Q2 := Q2) (E := E) (E2 := E2) (X42 := X42) (X422 := X422) (X85 := fun v6 v11 s => Fr wX_answersMany σ0 s → Y v6 v11 s) (X852 := Y) hG f h kQ kE kX42 (fun v6 v11 s f h => h f))) fr
theorem lx_answersMany_L85 {v1 : Int} {v3 : Int} {v4 : Int} {v5 : Int} {v6 : Int} {v7 : Int} {v8 : Int} {v9 : Int} {v10 : Int} {v11 : Int} {σ0 : S} {Q : Int → S → Prop} {E : S → Prop} {X42 : Int → Int → Int → S → Prop} {G : Orc} (hG : FrO wX_answersMany G) (I : Int → Int → S → Prop) (me : Int → Int → S → Nat) (h0 : I v6 v11 σ0) (step : ∀ (v6 : Int) (v11 : Int) (s : S), Fr wX_answersMany σ0 s → I v6 v11 s → (fun (Y0 : Int → Int → S → Prop) => (if v11 < v10 then inb (w32 (v9 + v11)) 20000 ∧ x_addAnswer v4 v6 (gA s 118 (w32 (v9 + v11))) s (fun r_31 σ_30 => Y0 r_31 (w32 (v11 + 1)) σ_30) E else x_answersMany_j118 G v1 v3 v4 v5 v6 v7 v8 v10 s Q E X42)) (fun v6' v11' s' => I v6' v11' s' ∧ me v6' v11' s' < me v6 v11 s)) : x_answersMany_L85 G v1 v3 v4 v5 v6 v7 v8 v9 v10 v11 σ0 Q E X42 := by
  unfold x_answersMany_L85
  intro Y hY
  have key : ∀ (n : Nat) (v6 : Int) (v11 : Int) (s : S), me v6 v11 s < n → Fr wX_answersMany σ0 s → I v6 v11 s → Y v6 v11 s := by
    intro n
    induction n with
    | zero => intro v6 v11 s h; exact absurd h (Nat.not_lt_zero _)
    | succ n ih =>
      intro v6 v11 s hm fr hi
      exact hY v6 v11 s (fx_answersMany_L85_b (v1 := v1) (v3 := v3) (v4 := v4) (v5 := v5) (v6 := v6) (v7 := v7) (v8 := v8) (v9 := v9) (v10 := v10) (v11 := v11) (Q := Q) (Q2 := Q) (E := E) (E2 := E) (X42 := X42) (X422 := X42) (X85 := (fun v6' v11' s' => I v6' v11' s' ∧ me v6' v11' s' < me v6 v11 s)) (X852 := Y) hG fr (step v6 v11 s fr hi) (fun _ _ _ h => h) (fun _ _ h => h) (fun _ _ _ _ _ h => h) (fun v6 v11 s f h => ih v6 v11 s (by omega) f h.1))
  exact key _ v6 v11 σ0 (Nat.lt_succ_self _) Fr.rf h0
theorem fx_answersMany_L42_b {v1 : Int} {v3 : Int} {v4 : Int} {v5 : Int} {v6 : Int} {v7 : Int} {v8 : Int} {σ0 σ : S} {Q Q2 : Int → S → Prop} {E E2 : S → Prop} {X42 X422 : Int → Int → Int → S → Prop} {G : Orc} (hG : FrO wX_answersMany G) (fr : Fr wX_answersMany σ0 σ) (h : (if v8 < v6 then inb v1 200 ∧ inb (w32 (v4 + v8)) 20000 ∧ G 0 [(gA σ 116 v1), (gA σ 118 (w32 (v4 + v8))), (w32 (w32 (v4 + 60) + 1))] σ (fun r_14 σ_13 => x_answersMany_L85 G v1 v3 v4 v5 v6 v7 v8 (w32 (w32 (v4 + 60) + 1)) r_14 0 σ_13 Q E X42) E else Q v7 σ)) (kQ : ∀ r s, Fr wX_answersMany σ0 s → Q r s → Q2 r s) (kE : ∀ s, Fr wX_answersMany σ0 s → E s → E2 s) (kX42 : ∀ v6 v7 v8 s, Fr wX_answersMany σ0 s → X42 v6 v7 v8 s → X422 v6 v7 v8 s) : (if v8 < v6 then inb v1 200 ∧ inb (w32 (v4 + v8)) 20000 ∧ G 0 [(gA σ 116 v1), (gA σ 118 (w32 (v4 + v8))), (w32 (w32 (v4 + 60) + 1))] σ (fun r_14 σ_13 => x_answersMany_L85 G v1 v3 v4 v5 v6 v7 v8 (w32 (w32 (v4 + 60) + 1)) r_14 0 σ_13 Q2 E2 X422) E2 else Q2 v7 σ) :=
  ite_m (fun _ h0 => ⟨h0.1, ⟨h0.2.1, hG _ _ _ _ _ _ _ h0.2.2 (fun r_14 σ_13 f h3 => (have f3 : Fr wX_answersMany σ0 σ_13 := (fr.trans f); fx_answersMany_L85 hG f3 h3 kQ kE kX42)) (fun s f h => kE _ (fr.trans f) h)⟩⟩) (fun _ h0 => kQ _ _ fr h0) h
theorem fx_answersMany_L42 {v1 : Int} {v3 : Int} {v4 : Int} {v5 : Int} {v6 : Int} {v7 : Int} {v8 : Int} {σ0 σ : S} {Q Q2 : Int → S → Prop} {E E2 : S → Prop} {G : Orc} (hG : FrO wX_answersMany G) (fr : Fr wX_answersMany σ0 σ) (h : x_answersMany_L42 G v1 v3 v4 v5 v6 v7 v8 σ Q E) (kQ : ∀ r s, Fr wX_answersMany σ0 s → Q r s → Q2 r s) (kE : ∀ s, Fr wX_answersMany σ0 s → E s → E2 s) : x_answersMany_L42 G v1 v3 v4 v5 v6 v7 v8 σ Q2 E2 := by
  unfold x_answersMany_L42 at h ⊢
  intro Y hY
  exact h (fun v6 v7 v8 s => Fr wX_answersMany σ0 s → Y v6 v7 v8 s) (fun v6 v7 v8 s h f => hY v6 v7 v8 s (fx_answersMany_L42_b (v1 := v1) (v3 := v3) (v4 := v4) (v5 := v5) (v6 := v6) (v7 := v7) (v8 := v8) (Q := Q) (Q2 := Q2) (E := E) (E2 := E2) (X42 := fun v6 v7 v8 s => Fr wX_answersMany σ0 s → Y v6 v7 v8 s) (X422 := Y) hG f h kQ kE (fun v6 v7 v8 s f h => h f))) fr
theorem lx_answersMany_L42 {v1 : Int} {v3 : Int} {v4 : Int} {v5 : Int} {v6 : Int} {v7 : Int} {v8 : Int} {σ0 : S} {Q : Int → S → Prop} {E : S → Prop} {G : Orc} (hG : FrO wX_answersMany G) (I : Int → Int → Int → S → Prop) (me : Int → Int → Int → S → Nat) (h0 : I v6 v7 v8 σ0) (step : ∀ (v6 : Int) (v7 : Int) (v8 : Int) (s : S), Fr wX_answersMany σ0 s → I v6 v7 v8 s → (fun (Y0 : Int → Int → Int → S → Prop) => (if v8 < v6 then inb v1 200 ∧ inb (w32 (v4 + v8)) 20000 ∧ G 0 [(gA s 116 v1), (gA s 118 (w32 (v4 + v8))), (w32 (w32 (v4 + 60) + 1))] s (fun r_14 σ_13 => x_answersMany_L85 G v1 v3 v4 v5 v6 v7 v8 (w32 (w32 (v4 + 60) + 1)) r_14 0 σ_13 Q E Y0) E else Q v7 s)) (fun v6' v7' v8' s' => I v6' v7' v8' s' ∧ me v6' v7' v8' s' < me v6 v7 v8 s)) : x_answersMany_L42 G v1 v3 v4 v5 v6 v7 v8 σ0 Q E := by
  unfold x_answersMany_L42
  intro Y hY
  have key : ∀ (n : Nat) (v6 : Int) (v7 : Int) (v8 : Int) (s : S), me v6 v7 v8 s < n → Fr wX_answersMany σ0 s → I v6 v7 v8 s → Y v6 v7 v8 s := by
    intro n
    induction n with
    | zero => intro v6 v7 v8 s h; exact absurd h (Nat.not_lt_zero _)
    | succ n ih =>
      intro v6 v7 v8 s hm fr hi
      exact hY v6 v7 v8 s (fx_answersMany_L42_b (v1 := v1) (v3 := v3) (v4 := v4) (v5 := v5) (v6 := v6) (v7 := v7) (v8 := v8) (Q := Q) (Q2 := Q) (E := E) (E2 := E) (X42 := (fun v6' v7' v8' s' => I v6' v7' v8' s' ∧ me v6' v7' v8' s' < me v6 v7 v8 s)) (X422 := Y) hG fr (step v6 v7 v8 s fr hi) (fun _ _ _ h => h) (fun _ _ h => h) (fun v6 v7 v8 s f h => ih v6 v7 v8 s (by omega) f h.1))
  exact key _ v6 v7 v8 σ0 (Nat.lt_succ_self _) Fr.rf h0
theorem fx_answersMany_F {v1 : Int} {v2 : Int} {v3 : Int} {σ0 : S} {Q Q2 : Int → S → Prop} {E E2 : S → Prop} {G : Orc} (hG : FrO wX_answersMany G) (h : x_answersMany_F G v1 v2 v3 σ0 Q E) (kQ : ∀ r s, Fr wX_answersMany σ0 s → Q r s → Q2 r s) (kE : ∀ s, Fr wX_answersMany σ0 s → E s → E2 s) : x_answersMany_F G v1 v2 v3 σ0 Q2 E2 := by
  have fr : Fr wX_answersMany σ0 σ0 := Fr.rf
  unfold x_answersMany_F at h ⊢
  exact ⟨h.1, fm_x_addAnswer h.2 (fun r_5 σ_4 f h1 => (have f1 : Fr wX_answersMany σ0 σ_4 := (fr.trans (f.weak (by decide +kernel))); fx_answersMany_L42 hG f1 h1 kQ kE)) (fun s f h => kE _ (fr.trans (f.weak (by decide +kernel))) h)⟩
theorem fo_x_S_answers : ∀ n, FrO wX_answers (x_S_answers n)
  | 0 => fun _ _ _ _ _ _ _ h _ _ => h.elim
  | n + 1 => fun i a σ Q Q2 E E2 h kQ kE => by
    unfold x_S_answers at h ⊢
    split at h
    · exact fx_answers_F (fo_x_S_answers n) h kQ kE
    · exact fx_answersThen_F (fo_x_S_answers n) h kQ kE
    · exact fx_answersMany_F (fo_x_S_answers n) h kQ kE
    · exact h.elim
theorem fm_x_answers {v1 : Int} {v2 : Int} {v3 : Int} {σ0 : S} {Q Q2 : Int → S → Prop} {E E2 : S → Prop} (h : x_answers v1 v2 v3 σ0 Q E) (kQ : ∀ r s, Fr wX_answers σ0 s → Q r s → Q2 r s) (kE : ∀ s, Fr wX_answers σ0 s → E s → E2 s) : x_answers v1 v2 v3 σ0 Q2 E2 := fo_x_S_answers 140 _ _ _ _ _ _ _ h kQ kE
theorem fm_x_answersThen {v1 : Int} {v2 : Int} {v3 : Int} {σ0 : S} {Q Q2 : Int → S → Prop} {E E2 : S → Prop} (h : x_answersThen v1 v2 v3 σ0 Q E) (kQ : ∀ r s, Fr wX_answersThen σ0 s → Q r s → Q2 r s) (kE : ∀ s, Fr wX_answersThen σ0 s → E s → E2 s) : x_answersThen v1 v2 v3 σ0 Q2 E2 := fo_x_S_answers 140 _ _ _ _ _ _ _ h kQ kE
theorem fm_x_answersMany {v1 : Int} {v2 : Int} {v3 : Int} {σ0 : S} {Q Q2 : Int → S → Prop} {E E2 : S → Prop} (h : x_answersMany v1 v2 v3 σ0 Q E) (kQ : ∀ r s, Fr wX_answersMany σ0 s → Q r s → Q2 r s) (kE : ∀ s, Fr wX_answersMany σ0 s → E s → E2 s) : x_answersMany v1 v2 v3 σ0 Q2 E2 := fo_x_S_answers 140 _ _ _ _ _ _ _ h kQ kE
theorem fx_strategy_j152 {σ0 σ : S} {Q Q2 : Int → S → Prop} (fr : Fr wX_strategy σ0 σ) (h : x_strategy_j152  σ Q) (kQ : ∀ r s, Fr wX_strategy σ0 s → Q r s → Q2 r s) : x_strategy_j152  σ Q2 := by
  unfold x_strategy_j152 at h ⊢
  exact fm_x_tellSteps h (fun _ σ_30 f h0 => (have f0 : Fr wX_strategy σ0 σ_30 := (fr.trans (f.weak (by decide +kernel))); fm_x_stopped h0 (fun r_32 σ_31 f h1 => (have f1 : Fr wX_strategy σ0 σ_31 := (f0.trans (f.weak (by decide +kernel))); kQ _ _ f1 h1))))
theorem fx_strategy_j135 {v3 : Int} {σ0 σ : S} {Q Q2 : Int → S → Prop} (fr : Fr wX_strategy σ0 σ) (h : x_strategy_j135 v3 σ Q) (kQ : ∀ r s, Fr wX_strategy σ0 s → Q r s → Q2 r s) : x_strategy_j135 v3 σ Q2 := by
  unfold x_strategy_j135 at h ⊢
  exact fm_x_keepResults h (fun _ σ_41 f h0 => (have f0 : Fr wX_strategy σ0 σ_41 := (fr.trans (f.weak (by decide +kernel))); fun σ_42 e1 => (have f1 : Fr wX_strategy σ0 σ_42 := Fr.putI f0 e1 rfl; fm_x_tellSteps (h0 σ_42 e1) (fun _ σ_44 f h2 => (have f2 : Fr wX_strategy σ0 σ_44 := (f1.trans (f.weak (by decide +kernel))); kQ _ _ f2 h2)))))
theorem fx_strategy_L103_b {v3 : Int} {v4 : Int} {σ0 σ : S} {Q Q2 : Int → S → Prop} {X103 X1032 : Int → S → Prop} (fr : Fr wX_strategy σ0 σ) (h : (if v4 < v3 then inb v4 20000 ∧ x_saveTo (gA σ 118 v4) 97 (w32 (80 * v4)) σ (fun _ σ_47 => X103 (w32 (v4 + 1)) σ_47) else x_strategy_j135 v3 σ Q)) (kQ : ∀ r s, Fr wX_strategy σ0 s → Q r s → Q2 r s) (kX103 : ∀ v4 s, Fr wX_strategy σ0 s → X103 v4 s → X1032 v4 s) : (if v4 < v3 then inb v4 20000 ∧ x_saveTo (gA σ 118 v4) 97 (w32 (80 * v4)) σ (fun _ σ_47 => X1032 (w32 (v4 + 1)) σ_47) else x_strategy_j135 v3 σ Q2) :=
  ite_m (fun _ h0 => ⟨h0.1, fm_x_saveTo h0.2 (fun _ σ_47 f h2 => (have f2 : Fr wX_strategy σ0 σ_47 := (fr.trans (f.weak (by decide +kernel))); kX103 _ _ f2 h2))⟩) (fun _ h0 => fx_strategy_j135 fr h0 kQ) h
theorem fx_strategy_L103 {v3 : Int} {v4 : Int} {σ0 σ : S} {Q Q2 : Int → S → Prop} (fr : Fr wX_strategy σ0 σ) (h : x_strategy_L103 v3 v4 σ Q) (kQ : ∀ r s, Fr wX_strategy σ0 s → Q r s → Q2 r s) : x_strategy_L103 v3 v4 σ Q2 := by
  unfold x_strategy_L103 at h ⊢
  intro Y hY
  exact h (fun v4 s => Fr wX_strategy σ0 s → Y v4 s) (fun v4 s h f => hY v4 s (fx_strategy_L103_b (v3 := v3) (v4 := v4) (Q := Q) (Q2 := Q2) (X103 := fun v4 s => Fr wX_strategy σ0 s → Y v4 s) (X1032 := Y) f h kQ (fun v4 s f h => h f))) fr
theorem lx_strategy_L103 {v3 : Int} {v4 : Int} {σ0 : S} {Q : Int → S → Prop} (I : Int → S → Prop) (me : Int → S → Nat) (h0 : I v4 σ0) (step : ∀ (v4 : Int) (s : S), Fr wX_strategy σ0 s → I v4 s → (fun (Y0 : Int → S → Prop) => (if v4 < v3 then inb v4 20000 ∧ x_saveTo (gA s 118 v4) 97 (w32 (80 * v4)) s (fun _ σ_47 => Y0 (w32 (v4 + 1)) σ_47) else x_strategy_j135 v3 s Q)) (fun v4' s' => I v4' s' ∧ me v4' s' < me v4 s)) : x_strategy_L103 v3 v4 σ0 Q := by
  unfold x_strategy_L103
  intro Y hY
  have key : ∀ (n : Nat) (v4 : Int) (s : S), me v4 s < n → Fr wX_strategy σ0 s → I v4 s → Y v4 s := by
    intro n
    induction n with
    | zero => intro v4 s h; exact absurd h (Nat.not_lt_zero _)
    | succ n ih =>
      intro v4 s hm fr hi
      exact hY v4 s (fx_strategy_L103_b (v3 := v3) (v4 := v4) (Q := Q) (Q2 := Q) (X103 := (fun v4' s' => I v4' s' ∧ me v4' s' < me v4 s)) (X1032 := Y) fr (step v4 s fr hi) (fun _ _ _ h => h) (fun v4 s f h => ih v4 s (by omega) f h.1))
  exact key _ v4 σ0 (Nat.lt_succ_self _) Fr.rf h0
theorem fx_strategy_j72 {v1 : Int} {v2 : Int} {σ0 σ : S} {Q Q2 : Int → S → Prop} (fr : Fr wX_strategy σ0 σ) (h : x_strategy_j72 v1 v2 σ Q) (kQ : ∀ r s, Fr wX_strategy σ0 s → Q r s → Q2 r s) : x_strategy_j72 v1 v2 σ Q2 := by
  unfold x_strategy_j72 at h ⊢
  exact ite_m (fun _ h0 => kQ _ _ fr h0) (fun _ h0 => fm_x_termAt h0 (fun r_28 σ_27 f h1 => (have f1 : Fr wX_strategy σ0 σ_27 := (fr.trans (f.weak (by decide +kernel))); fm_x_toRest h1 (fun r_34 σ_33 f h2 => (have f2 : Fr wX_strategy σ0 σ_33 := (f1.trans (f.weak (by decide +kernel))); fm_x_answers h2 (fun r_37 σ_36 f h3 => (have f3 : Fr wX_strategy σ0 σ_36 := (f2.trans (f.weak (by decide +kernel))); fx_strategy_L103 f3 h3 kQ)) (fun σ_38 f h3 => (have f3 : Fr wX_strategy σ0 σ_38 := (f2.trans (f.weak (by decide +kernel))); fx_strategy_j152 f3 h3 kQ)))) (fun σ_35 f h2 => (have f2 : Fr wX_strategy σ0 σ_35 := (f1.trans (f.weak (by decide +kernel))); fx_strategy_j152 f2 h2 kQ)))) (fun σ_29 f h1 => (have f1 : Fr wX_strategy σ0 σ_29 := (fr.trans (f.weak (by decide +kernel))); fx_strategy_j152 f1 h1 kQ))) h
theorem fm_x_strategy {v1 : Int} {σ0 : S} {Q Q2 : Int → S → Prop} (h : x_strategy v1 σ0 Q) (kQ : ∀ r s, Fr wX_strategy σ0 s → Q r s → Q2 r s) : x_strategy v1 σ0 Q2 := by
  have fr : Fr wX_strategy σ0 σ0 := Fr.rf
  unfold x_strategy at h ⊢
  exact fm_x_isHandle h (fun r_2 σ_1 f h0 => (have f0 : Fr wX_strategy σ0 σ_1 := (fr.trans (f.weak (by decide +kernel))); ite_m (fun _ h1 => kQ _ _ f0 h1) (fun _ h1 => fm_x_takeTape h1 (fun _ σ_5 f h2 => (have f2 : Fr wX_strategy σ0 σ_5 := (f0.trans (f.weak (by decide +kernel))); fm_x_begin h2 (fun _ σ_6 f h3 => (have f3 : Fr wX_strategy σ0 σ_6 := (f2.trans (f.weak (by decide +kernel))); fun σ_8 e4 => (have f4 : Fr wX_strategy σ0 σ_8 := Fr.putI f3 e4 rfl; fun σ_11 e5 => (have f5 : Fr wX_strategy σ0 σ_11 := Fr.putI f4 e5 rfl; fm_x_cutWords ((h3 σ_8 e4) σ_11 e5) (fun _ σ_13 f h6 => (have f6 : Fr wX_strategy σ0 σ_13 := (f5.trans (f.weak (by decide +kernel))); fun σ_14 e7 => (have f7 : Fr wX_strategy σ0 σ_14 := Fr.putI f6 e7 rfl; fm_x_readChoice (h6 σ_14 e7) (fun r_17 σ_16 f h8 => (have f8 : Fr wX_strategy σ0 σ_16 := (f7.trans (f.weak (by decide +kernel))); ⟨h8.1, ite_m (fun _ h10 => fm_x_bad h10 (fun r_24 σ_23 f h11 => (have f11 : Fr wX_strategy σ0 σ_23 := (f8.trans (f.weak (by decide +kernel))); fx_strategy_j72 f11 h11 kQ))) (fun _ h10 => fx_strategy_j72 f8 h10 kQ) h8.2⟩)))))))))))) h0))
theorem fx_hasRow_j59 {v1 : Int} {v2 : Int} {v3 : Int} {σ0 σ : S} {Q Q2 : Int → S → Prop} {X2 X22 : Int → S → Prop} (fr : Fr wX_hasRow σ0 σ) (h : x_hasRow_j59 v1 v2 v3 σ Q X2) (kQ : ∀ r s, Fr wX_hasRow σ0 s → Q r s → Q2 r s) (kX2 : ∀ a0 s, Fr wX_hasRow σ0 s → X2 a0 s → X22 a0 s) : x_hasRow_j59 v1 v2 v3 σ Q2 X22 := by
  unfold x_hasRow_j59 at h ⊢
  exact kX2 _ _ fr h
theorem fx_hasRow_L2_b {v1 : Int} {v2 : Int} {v3 : Int} {σ0 σ : S} {Q Q2 : Int → S → Prop} {X2 X22 : Int → S → Prop} (fr : Fr wX_hasRow σ0 σ) (h : (if v3 < gI σ 29 then inb v3 50 ∧ (if gA σ 41 v3 = v1 then x_isRowAbove v3 76 v2 0 σ (fun r_9 σ_8 => (if r_9 = 0 then inb v1 50 ∧ (if gA σ_8 53 v1 = 0 then x_hasRow_j59 v1 v2 v3 σ_8 Q X2 else x_isRowAbove v3 76 v2 1 σ_8 (fun r_17 σ_16 => (if r_17 = 0 then x_hasRow_j59 v1 v2 v3 σ_16 Q X2 else Q 1 σ_16))) else Q 1 σ_8)) else x_hasRow_j59 v1 v2 v3 σ Q X2) else Q 0 σ)) (kQ : ∀ r s, Fr wX_hasRow σ0 s → Q r s → Q2 r s) (kX2 : ∀ v3 s, Fr wX_hasRow σ0 s → X2 v3 s → X22 v3 s) : (if v3 < gI σ 29 then inb v3 50 ∧ (if gA σ 41 v3 = v1 then x_isRowAbove v3 76 v2 0 σ (fun r_9 σ_8 => (if r_9 = 0 then inb v1 50 ∧ (if gA σ_8 53 v1 = 0 then x_hasRow_j59 v1 v2 v3 σ_8 Q2 X22 else x_isRowAbove v3 76 v2 1 σ_8 (fun r_17 σ_16 => (if r_17 = 0 then x_hasRow_j59 v1 v2 v3 σ_16 Q2 X22 else Q2 1 σ_16))) else Q2 1 σ_8)) else x_hasRow_j59 v1 v2 v3 σ Q2 X22) else Q2 0 σ) :=
  ite_m (fun _ h0 => ⟨h0.1, ite_m (fun _ h2 => fm_x_isRowAbove h2 (fun r_9 σ_8 f h3 => (have f3 : Fr wX_hasRow σ0 σ_8 := (fr.trans (f.weak (by decide +kernel))); ite_m (fun _ h4 => ⟨h4.1, ite_m (fun _ h6 => fx_hasRow_j59 f3 h6 kQ kX2) (fun _ h6 => fm_x_isRowAbove h6 (fun r_17 σ_16 f h7 => (have f7 : Fr wX_hasRow σ0 σ_16 := (f3.trans (f.weak (by decide +kernel))); ite_m (fun _ h8 => fx_hasRow_j59 f7 h8 kQ kX2) (fun _ h8 => kQ _ _ f7 h8) h7))) h4.2⟩) (fun _ h4 => kQ _ _ f3 h4) h3))) (fun _ h2 => fx_hasRow_j59 fr h2 kQ kX2) h0.2⟩) (fun _ h0 => kQ _ _ fr h0) h
theorem fx_hasRow_L2 {v1 : Int} {v2 : Int} {v3 : Int} {σ0 σ : S} {Q Q2 : Int → S → Prop} (fr : Fr wX_hasRow σ0 σ) (h : x_hasRow_L2 v1 v2 v3 σ Q) (kQ : ∀ r s, Fr wX_hasRow σ0 s → Q r s → Q2 r s) : x_hasRow_L2 v1 v2 v3 σ Q2 := by
  unfold x_hasRow_L2 at h ⊢
  intro Y hY
  exact h (fun v3 s => Fr wX_hasRow σ0 s → Y v3 s) (fun v3 s h f => hY v3 s (fx_hasRow_L2_b (v1 := v1) (v2 := v2) (v3 := v3) (Q := Q) (Q2 := Q2) (X2 := fun v3 s => Fr wX_hasRow σ0 s → Y v3 s) (X22 := Y) f h kQ (fun v3 s f h => h f))) fr
theorem lx_hasRow_L2 {v1 : Int} {v2 : Int} {v3 : Int} {σ0 : S} {Q : Int → S → Prop} (I : Int → S → Prop) (me : Int → S → Nat) (h0 : I v3 σ0) (step : ∀ (v3 : Int) (s : S), Fr wX_hasRow σ0 s → I v3 s → (fun (Y0 : Int → S → Prop) => (if v3 < gI s 29 then inb v3 50 ∧ (if gA s 41 v3 = v1 then x_isRowAbove v3 76 v2 0 s (fun r_9 σ_8 => (if r_9 = 0 then inb v1 50 ∧ (if gA σ_8 53 v1 = 0 then x_hasRow_j59 v1 v2 v3 σ_8 Q Y0 else x_isRowAbove v3 76 v2 1 σ_8 (fun r_17 σ_16 => (if r_17 = 0 then x_hasRow_j59 v1 v2 v3 σ_16 Q Y0 else Q 1 σ_16))) else Q 1 σ_8)) else x_hasRow_j59 v1 v2 v3 s Q Y0) else Q 0 s)) (fun v3' s' => I v3' s' ∧ me v3' s' < me v3 s)) : x_hasRow_L2 v1 v2 v3 σ0 Q := by
  unfold x_hasRow_L2
  intro Y hY
  have key : ∀ (n : Nat) (v3 : Int) (s : S), me v3 s < n → Fr wX_hasRow σ0 s → I v3 s → Y v3 s := by
    intro n
    induction n with
    | zero => intro v3 s h; exact absurd h (Nat.not_lt_zero _)
    | succ n ih =>
      intro v3 s hm fr hi
      exact hY v3 s (fx_hasRow_L2_b (v1 := v1) (v2 := v2) (v3 := v3) (Q := Q) (Q2 := Q) (X2 := (fun v3' s' => I v3' s' ∧ me v3' s' < me v3 s)) (X22 := Y) fr (step v3 s fr hi) (fun _ _ _ h => h) (fun v3 s f h => ih v3 s (by omega) f h.1))
  exact key _ v3 σ0 (Nat.lt_succ_self _) Fr.rf h0
theorem fm_x_hasRow {v1 : Int} {v2 : Int} {σ0 : S} {Q Q2 : Int → S → Prop} (h : x_hasRow v1 v2 σ0 Q) (kQ : ∀ r s, Fr wX_hasRow σ0 s → Q r s → Q2 r s) : x_hasRow v1 v2 σ0 Q2 := by
  have fr : Fr wX_hasRow σ0 σ0 := Fr.rf
  unfold x_hasRow at h ⊢
  exact fx_hasRow_L2 fr h kQ
theorem fm_x_joined {v1 : Int} {v2 : Int} {v3 : Int} {σ0 : S} {Q Q2 : Int → S → Prop} (h : x_joined v1 v2 v3 σ0 Q) (kQ : ∀ r s, Fr wX_joined σ0 s → Q r s → Q2 r s) : x_joined v1 v2 v3 σ0 Q2 := by
  have fr : Fr wX_joined σ0 σ0 := Fr.rf
  unfold x_joined at h ⊢
  exact ⟨h.1, fun σ_1 e1 => (have f1 : Fr wX_joined σ0 σ_1 := Fr.putA fr e1 rfl; ⟨(h.2 σ_1 e1).1, fun σ_4 e3 => (have f3 : Fr wX_joined σ0 σ_4 := Fr.putA f1 e3 rfl; fm_x_leastBy ((h.2 σ_1 e1).2 σ_4 e3) (fun r_8 σ_7 f h4 => (have f4 : Fr wX_joined σ0 σ_7 := (f3.trans (f.weak (by decide +kernel))); kQ _ _ f4 h4)))⟩)⟩
theorem fx_isOneJoined_j169 {v1 : Int} {v2 : Int} {σ0 σ : S} {Q Q2 : Int → S → Prop} {X2 X22 : Int → S → Prop} (fr : Fr wX_isOneJoined σ0 σ) (h : x_isOneJoined_j169 v1 v2 σ Q X2) (kQ : ∀ r s, Fr wX_isOneJoined σ0 s → Q r s → Q2 r s) (kX2 : ∀ a0 s, Fr wX_isOneJoined σ0 s → X2 a0 s → X22 a0 s) : x_isOneJoined_j169 v1 v2 σ Q2 X22 := by
  unfold x_isOneJoined_j169 at h ⊢
  exact kX2 _ _ fr h
theorem fx_isOneJoined_j163 {v1 : Int} {v2 : Int} {v3 : Int} {σ0 σ : S} {Q Q2 : Int → S → Prop} {X2 X22 : Int → S → Prop} {X12 X122 : Int → S → Prop} (fr : Fr wX_isOneJoined σ0 σ) (h : x_isOneJoined_j163 v1 v2 v3 σ Q X2 X12) (kQ : ∀ r s, Fr wX_isOneJoined σ0 s → Q r s → Q2 r s) (kX2 : ∀ a0 s, Fr wX_isOneJoined σ0 s → X2 a0 s → X22 a0 s) (kX12 : ∀ a0 s, Fr wX_isOneJoined σ0 s → X12 a0 s → X122 a0 s) : x_isOneJoined_j163 v1 v2 v3 σ Q2 X22 X122 := by
  unfold x_isOneJoined_j163 at h ⊢
  exact kX12 _ _ fr h
theorem fx_isOneJoined_j157 {v1 : Int} {v2 : Int} {v3 : Int} {v4 : Int} {σ0 σ : S} {Q Q2 : Int → S → Prop} {X2 X22 : Int → S → Prop} {X12 X122 : Int → S → Prop} {X23 X232 : Int → S → Prop} (fr : Fr wX_isOneJoined σ0 σ) (h : x_isOneJoined_j157 v1 v2 v3 v4 σ Q X2 X12 X23) (kQ : ∀ r s, Fr wX_isOneJoined σ0 s → Q r s → Q2 r s) (kX2 : ∀ a0 s, Fr wX_isOneJoined σ0 s → X2 a0 s → X22 a0 s) (kX12 : ∀ a0 s, Fr wX_isOneJoined σ0 s → X12 a0 s → X122 a0 s) (kX23 : ∀ a0 s, Fr wX_isOneJoined σ0 s → X23 a0 s → X232 a0 s) : x_isOneJoined_j157 v1 v2 v3 v4 σ Q2 X22 X122 X232 := by
  unfold x_isOneJoined_j157 at h ⊢
  exact kX23 _ _ fr h
theorem fx_isOneJoined_j121 {v1 : Int} {v2 : Int} {v3 : Int} {v4 : Int} {σ0 σ : S} {Q Q2 : Int → S → Prop} (fr : Fr wX_isOneJoined σ0 σ) (h : x_isOneJoined_j121 v1 v2 v3 v4 σ Q) (kQ : ∀ r s, Fr wX_isOneJoined σ0 s → Q r s → Q2 r s) : x_isOneJoined_j121 v1 v2 v3 v4 σ Q2 := by
  unfold x_isOneJoined_j121 at h ⊢
  exact ⟨h.1, fun σ_37 e1 => (have f1 : Fr wX_isOneJoined σ0 σ_37 := Fr.putA fr e1 rfl; ⟨(h.2 σ_37 e1).1, fun σ_40 e3 => (have f3 : Fr wX_isOneJoined σ0 σ_40 := Fr.putA f1 e3 rfl; ⟨((h.2 σ_37 e1).2 σ_40 e3).1, fun σ_43 e5 => (have f5 : Fr wX_isOneJoined σ0 σ_43 := Fr.putA f3 e5 rfl; ⟨(((h.2 σ_37 e1).2 σ_40 e3).2 σ_43 e5).1, fun σ_46 e7 => (have f7 : Fr wX_isOneJoined σ0 σ_46 := Fr.putA f5 e7 rfl; fun σ_49 e8 => (have f8 : Fr wX_isOneJoined σ0 σ_49 := Fr.putI f7 e8 rfl; kQ _ _ f8 (((((h.2 σ_37 e1).2 σ_40 e3).2 σ_43 e5).2 σ_46 e7) σ_49 e8)))⟩)⟩)⟩)⟩
theorem fx_isOneJoined_L23_b {v1 : Int} {v2 : Int} {v3 : Int} {v4 : Int} {σ0 σ : S} {Q Q2 : Int → S → Prop} {X2 X22 : Int → S → Prop} {X12 X122 : Int → S → Prop} {X23 X232 : Int → S → Prop} (fr : Fr wX_isOneJoined σ0 σ) (h : (if v4 < gI σ 22 then inb v2 20 ∧ inb v1 50 ∧ ((gA σ 40 v2 = gA σ 55 v1) → (inb v3 20)) ∧ ((gA σ 40 v2 = gA σ 55 v1) → (inb v1 50)) ∧ ((gA σ 40 v2 = gA σ 55 v1) → (gA σ 40 v3 = gA σ 55 v1) → (inb v4 20)) ∧ ((gA σ 40 v2 = gA σ 55 v1) → (gA σ 40 v3 = gA σ 55 v1) → (inb v1 50)) ∧ (if bi ((gA σ 40 v2 = gA σ 55 v1) ∧ ((gA σ 40 v3 = gA σ 55 v1) ∧ (gA σ 40 v4 = gA σ 55 v1))) = 0 then x_isOneJoined_j157 v1 v2 v3 v4 σ Q X2 X12 X23 else x_joined v1 v2 v3 σ (fun r_28 σ_27 => x_joined v1 r_28 v4 σ_27 (fun r_30 σ_29 => x_joined v1 v3 v4 σ_29 (fun r_32 σ_31 => x_joined v1 v2 r_32 σ_31 (fun r_34 σ_33 => (if r_30 = r_34 then x_isOneJoined_j157 v1 v2 v3 v4 σ_33 Q X2 X12 X23 else x_isOneJoined_j121 v1 v2 v3 v4 σ_33 Q)))))) else x_isOneJoined_j163 v1 v2 v3 σ Q X2 X12)) (kQ : ∀ r s, Fr wX_isOneJoined σ0 s → Q r s → Q2 r s) (kX2 : ∀ a0 s, Fr wX_isOneJoined σ0 s → X2 a0 s → X22 a0 s) (kX12 : ∀ a0 s, Fr wX_isOneJoined σ0 s → X12 a0 s → X122 a0 s) (kX23 : ∀ v4 s, Fr wX_isOneJoined σ0 s → X23 v4 s → X232 v4 s) : (if v4 < gI σ 22 then inb v2 20 ∧ inb v1 50 ∧ ((gA σ 40 v2 = gA σ 55 v1) → (inb v3 20)) ∧ ((gA σ 40 v2 = gA σ 55 v1) → (inb v1 50)) ∧ ((gA σ 40 v2 = gA σ 55 v1) → (gA σ 40 v3 = gA σ 55 v1) → (inb v4 20)) ∧ ((gA σ 40 v2 = gA σ 55 v1) → (gA σ 40 v3 = gA σ 55 v1) → (inb v1 50)) ∧ (if bi ((gA σ 40 v2 = gA σ 55 v1) ∧ ((gA σ 40 v3 = gA σ 55 v1) ∧ (gA σ 40 v4 = gA σ 55 v1))) = 0 then x_isOneJoined_j157 v1 v2 v3 v4 σ Q2 X22 X122 X232 else x_joined v1 v2 v3 σ (fun r_28 σ_27 => x_joined v1 r_28 v4 σ_27 (fun r_30 σ_29 => x_joined v1 v3 v4 σ_29 (fun r_32 σ_31 => x_joined v1 v2 r_32 σ_31 (fun r_34 σ_33 => (if r_30 = r_34 then x_isOneJoined_j157 v1 v2 v3 v4 σ_33 Q2 X22 X122 X232 else x_isOneJoined_j121 v1 v2 v3 v4 σ_33 Q2)))))) else x_isOneJoined_j163 v1 v2 v3 σ Q2 X22 X122) :=
  ite_m (fun _ h0 => ⟨h0.1, ⟨h0.2.1, ⟨h0.2.2.1, ⟨h0.2.2.2.1, ⟨h0.2.2.2.2.1, ⟨h0.2.2.2.2.2.1, ite_m (fun _ h7 => fx_isOneJoined_j157 fr h7 kQ kX2 kX12 kX23) (fun _ h7 => fm_x_joined h7 (fun r_28 σ_27 f h8 => (have f8 : Fr wX_isOneJoined σ0 σ_27 := (fr.trans (f.weak (by decide +kernel))); fm_x_joined h8 (fun r_30 σ_29 f h9 => (have f9 : Fr wX_isOneJoined σ0 σ_29 := (f8.trans (f.weak (by decide +kernel))); fm_x_joined h9 (fun r_32 σ_31 f h10 => (have f10 : Fr wX_isOneJoined σ0 σ_31 := (f9.trans (f.weak (by decide +kernel))); fm_x_joined h10 (fun r_34 σ_33 f h11 => (have f11 : Fr wX_isOneJoined σ0 σ_33 := (f10.trans (f.weak (by decide +kernel))); ite_m (fun _ h12 => fx_isOneJoined_j157 f11 h12 kQ kX2 kX12 kX23) (fun _ h12 => fx_isOneJoined_j121 f11 h12 kQ) h11))))))))) h0.2.2.2.2.2.2⟩⟩⟩⟩⟩⟩) (fun _ h0 => fx_isOneJoined_j163 fr h0 kQ kX2 kX12) h
theorem fx_isOneJoined_L23 {v1 : Int} {v2 : Int} {v3 : Int} {v4 : Int} {σ0 σ : S} {Q Q2 : Int → S → Prop} {X2 X22 : Int → S → Prop} {X12 X122 : Int → S → Prop} (fr : Fr wX_isOneJoined σ0 σ) (h : x_isOneJoined_L23 v1 v2 v3 v4 σ Q X2 X12) (kQ : ∀ r s, Fr wX_isOneJoined σ0 s → Q r s → Q2 r s) (kX2 : ∀ a0 s, Fr wX_isOneJoined σ0 s → X2 a0 s → X22 a0 s) (kX12 : ∀ a0 s, Fr wX_isOneJoined σ0 s → X12 a0 s → X122 a0 s) : x_isOneJoined_L23 v1 v2 v3 v4 σ Q2 X22 X122 := by
  unfold x_isOneJoined_L23 at h ⊢
  intro Y hY
  exact h (fun v4 s => Fr wX_isOneJoined σ0 s → Y v4 s) (fun v4 s h f => hY v4 s (fx_isOneJoined_L23_b (v1 := v1) (v2 := v2) (v3 := v3) (v4 := v4) (Q := Q) (Q2 := Q2) (X2 := X2) (X22 := X22) (X12 := X12) (X122 := X122) (X23 := fun v4 s => Fr wX_isOneJoined σ0 s → Y v4 s) (X232 := Y) f h kQ kX2 kX12 (fun v4 s f h => h f))) fr
theorem lx_isOneJoined_L23 {v1 : Int} {v2 : Int} {v3 : Int} {v4 : Int} {σ0 : S} {Q : Int → S → Prop} {X2 : Int → S → Prop} {X12 : Int → S → Prop} (I : Int → S → Prop) (me : Int → S → Nat) (h0 : I v4 σ0) (step : ∀ (v4 : Int) (s : S), Fr wX_isOneJoined σ0 s → I v4 s → (fun (Y0 : Int → S → Prop) => (if v4 < gI s 22 then inb v2 20 ∧ inb v1 50 ∧ ((gA s 40 v2 = gA s 55 v1) → (inb v3 20)) ∧ ((gA s 40 v2 = gA s 55 v1) → (inb v1 50)) ∧ ((gA s 40 v2 = gA s 55 v1) → (gA s 40 v3 = gA s 55 v1) → (inb v4 20)) ∧ ((gA s 40 v2 = gA s 55 v1) → (gA s 40 v3 = gA s 55 v1) → (inb v1 50)) ∧ (if bi ((gA s 40 v2 = gA s 55 v1) ∧ ((gA s 40 v3 = gA s 55 v1) ∧ (gA s 40 v4 = gA s 55 v1))) = 0 then x_isOneJoined_j157 v1 v2 v3 v4 s Q X2 X12 Y0 else x_joined v1 v2 v3 s (fun r_28 σ_27 => x_joined v1 r_28 v4 σ_27 (fun r_30 σ_29 => x_joined v1 v3 v4 σ_29 (fun r_32 σ_31 => x_joined v1 v2 r_32 σ_31 (fun r_34 σ_33 => (if r_30 = r_34 then x_isOneJoined_j157 v1 v2 v3 v4 σ_33 Q X2 X12 Y0 else x_isOneJoined_j121 v1 v2 v3 v4 σ_33 Q)))))) else x_isOneJoined_j163 v1 v2 v3 s Q X2 X12)) (fun v4' s' => I v4' s' ∧ me v4' s' < me v4 s)) : x_isOneJoined_L23 v1 v2 v3 v4 σ0 Q X2 X12 := by
  unfold x_isOneJoined_L23
  intro Y hY
  have key : ∀ (n : Nat) (v4 : Int) (s : S), me v4 s < n → Fr wX_isOneJoined σ0 s → I v4 s → Y v4 s := by
    intro n
    induction n with
    | zero => intro v4 s h; exact absurd h (Nat.not_lt_zero _)
    | succ n ih =>
      intro v4 s hm fr hi
      exact hY v4 s (fx_isOneJoined_L23_b (v1 := v1) (v2 := v2) (v3 := v3) (v4 := v4) (Q := Q) (Q2 := Q) (X2 := X2) (X22 := X2) (X12 := X12) (X122 := X12) (X23 := (fun v4' s' => I v4' s' ∧ me v4' s' < me v4 s)) (X232 := Y) fr (step v4 s fr hi) (fun _ _ _ h => h) (fun _ _ _ h => h) (fun _ _ _ h => h) (fun v4 s f h => ih v4 s (by omega) f h.1))
  exact key _ v4 σ0 (Nat.lt_succ_self _) Fr.rf h0
theorem fx_isOneJoined_L12_b {v1 : Int} {v2 : Int} {v3 : Int} {σ0 σ : S} {Q Q2 : Int → S → Prop} {X2 X22 : Int → S → Prop} {X12 X122 : Int → S → Prop} (fr : Fr wX_isOneJoined σ0 σ) (h : (if v3 < gI σ 22 then x_isOneJoined_L23 v1 v2 v3 0 σ Q X2 X12 else x_isOneJoined_j169 v1 v2 σ Q X2)) (kQ : ∀ r s, Fr wX_isOneJoined σ0 s → Q r s → Q2 r s) (kX2 : ∀ a0 s, Fr wX_isOneJoined σ0 s → X2 a0 s → X22 a0 s) (kX12 : ∀ v3 s, Fr wX_isOneJoined σ0 s → X12 v3 s → X122 v3 s) : (if v3 < gI σ 22 then x_isOneJoined_L23 v1 v2 v3 0 σ Q2 X22 X122 else x_isOneJoined_j169 v1 v2 σ Q2 X22) :=
  ite_m (fun _ h0 => fx_isOneJoined_L23 fr h0 kQ kX2 kX12) (fun _ h0 => fx_isOneJoined_j169 fr h0 kQ kX2) h
theorem fx_isOneJoined_L12 {v1 : Int} {v2 : Int} {v3 : Int} {σ0 σ : S} {Q Q2 : Int → S → Prop} {X2 X22 : Int → S → Prop} (fr : Fr wX_isOneJoined σ0 σ) (h : x_isOneJoined_L12 v1 v2 v3 σ Q X2) (kQ : ∀ r s, Fr wX_isOneJoined σ0 s → Q r s → Q2 r s) (kX2 : ∀ a0 s, Fr wX_isOneJoined σ0 s → X2 a0 s → X22 a0 s) : x_isOneJoined_L12 v1 v2 v3 σ Q2 X22 := by
  unfold x_isOneJoined_L12 at h ⊢
  intro Y hY
  exact h (fun v3 s => Fr wX_isOneJoined σ0 s → Y v3 s) (fun v3 s h f => hY v3 s (fx_isOneJoined_L12_b (v1 := v1) (v2 := v2) (v3 := v3) (Q := Q) (Q2 := Q2) (X2 := X2) (X22 := X22) (X12 := fun v3 s => Fr wX_isOneJoined σ0 s → Y v3 s) (X122 := Y) f h kQ kX2 (fun v3 s f h => h f))) fr
theorem lx_isOneJoined_L12 {v1 : Int} {v2 : Int} {v3 : Int} {σ0 : S} {Q : Int → S → Prop} {X2 : Int → S → Prop} (I : Int → S → Prop) (me : Int → S → Nat) (h0 : I v3 σ0) (step : ∀ (v3 : Int) (s : S), Fr wX_isOneJoined σ0 s → I v3 s → (fun (Y0 : Int → S → Prop) => (if v3 < gI s 22 then x_isOneJoined_L23 v1 v2 v3 0 s Q X2 Y0 else x_isOneJoined_j169 v1 v2 s Q X2)) (fun v3' s' => I v3' s' ∧ me v3' s' < me v3 s)) : x_isOneJoined_L12 v1 v2 v3 σ0 Q X2 := by
  unfold x_isOneJoined_L12
  intro Y hY
  have key : ∀ (n : Nat) (v3 : Int) (s : S), me v3 s < n → Fr wX_isOneJoined σ0 s → I v3 s → Y v3 s := by
    intro n
    induction n with
    | zero => intro v3 s h; exact absurd h (Nat.not_lt_zero _)
    | succ n ih =>
      intro v3 s hm fr hi
      exact hY v3 s (fx_isOneJoined_L12_b (v1 := v1) (v2 := v2) (v3 := v3) (Q := Q) (Q2 := Q) (X2 := X2) (X22 := X2) (X12 := (fun v3' s' => I v3' s' ∧ me v3' s' < me v3 s)) (X122 := Y) fr (step v3 s fr hi) (fun _ _ _ h => h) (fun _ _ _ h => h) (fun v3 s f h => ih v3 s (by omega) f h.1))
  exact key _ v3 σ0 (Nat.lt_succ_self _) Fr.rf h0
theorem fx_isOneJoined_L2_b {v1 : Int} {v2 : Int} {σ0 σ : S} {Q Q2 : Int → S → Prop} {X2 X22 : Int → S → Prop} (fr : Fr wX_isOneJoined σ0 σ) (h : (if v2 < gI σ 22 then x_isOneJoined_L12 v1 v2 0 σ Q X2 else Q 1 σ)) (kQ : ∀ r s, Fr wX_isOneJoined σ0 s → Q r s → Q2 r s) (kX2 : ∀ v2 s, Fr wX_isOneJoined σ0 s → X2 v2 s → X22 v2 s) : (if v2 < gI σ 22 then x_isOneJoined_L12 v1 v2 0 σ Q2 X22 else Q2 1 σ) :=
  ite_m (fun _ h0 => fx_isOneJoined_L12 fr h0 kQ kX2) (fun _ h0 => kQ _ _ fr h0) h
theorem fx_isOneJoined_L2 {v1 : Int} {v2 : Int} {σ0 σ : S} {Q Q2 : Int → S → Prop} (fr : Fr wX_isOneJoined σ0 σ) (h : x_isOneJoined_L2 v1 v2 σ Q) (kQ : ∀ r s, Fr wX_isOneJoined σ0 s → Q r s → Q2 r s) : x_isOneJoined_L2 v1 v2 σ Q2 := by
  unfold x_isOneJoined_L2 at h ⊢
  intro Y hY
  exact h (fun v2 s => Fr wX_isOneJoined σ0 s → Y v2 s) (fun v2 s h f => hY v2 s (fx_isOneJoined_L2_b (v1 := v1) (v2 := v2) (Q := Q) (Q2 := Q2) (X2 := fun v2 s => Fr wX_isOneJoined σ0 s → Y v2 s) (X22 := Y) f h kQ (fun v2 s f h => h f))) fr
theorem lx_isOneJoined_L2 {v1 : Int} {v2 : Int} {σ0 : S} {Q : Int → S → Prop} (I : Int → S → Prop) (me : Int → S → Nat) (h0 : I v2 σ0) (step : ∀ (v2 : Int) (s : S), Fr wX_isOneJoined σ0 s → I v2 s → (fun (Y0 : Int → S → Prop) => (if v2 < gI s 22 then x_isOneJoined_L12 v1 v2 0 s Q Y0 else Q 1 s)) (fun v2' s' => I v2' s' ∧ me v2' s' < me v2 s)) : x_isOneJoined_L2 v1 v2 σ0 Q := by
  unfold x_isOneJoined_L2
  intro Y hY
  have key : ∀ (n : Nat) (v2 : Int) (s : S), me v2 s < n → Fr wX_isOneJoined σ0 s → I v2 s → Y v2 s := by
    intro n
    induction n with
    | zero => intro v2 s h; exact absurd h (Nat.not_lt_zero _)
    | succ n ih =>
      intro v2 s hm fr hi
      exact hY v2 s (fx_isOneJoined_L2_b (v1 := v1) (v2 := v2) (Q := Q) (Q2 := Q) (X2 := (fun v2' s' => I v2' s' ∧ me v2' s' < me v2 s)) (X22 := Y) fr (step v2 s fr hi) (fun _ _ _ h => h) (fun v2 s f h => ih v2 s (by omega) f h.1))
  exact key _ v2 σ0 (Nat.lt_succ_self _) Fr.rf h0
theorem fm_x_isOneJoined {v1 : Int} {σ0 : S} {Q Q2 : Int → S → Prop} (h : x_isOneJoined v1 σ0 Q) (kQ : ∀ r s, Fr wX_isOneJoined σ0 s → Q r s → Q2 r s) : x_isOneJoined v1 σ0 Q2 := by
  have fr : Fr wX_isOneJoined σ0 σ0 := Fr.rf
  unfold x_isOneJoined at h ⊢
  exact fx_isOneJoined_L2 fr h kQ
theorem fx_nextSort_L14_b {v2 : Int} {v3 : Int} {σ0 σ : S} {Q Q2 : Int → S → Prop} {X14 X142 : Int → S → Prop} (fr : Fr wX_nextSort σ0 σ) (h : (if v3 < gI σ 22 then inb v3 20 ∧ (if gA σ 40 v3 = v2 then Q v3 σ else X14 (w32 (v3 + 1)) σ) else Q (-2) σ)) (kQ : ∀ r s, Fr wX_nextSort σ0 s → Q r s → Q2 r s) (kX14 : ∀ v3 s, Fr wX_nextSort σ0 s → X14 v3 s → X142 v3 s) : (if v3 < gI σ 22 then inb v3 20 ∧ (if gA σ 40 v3 = v2 then Q2 v3 σ else X142 (w32 (v3 + 1)) σ) else Q2 (-2) σ) :=
  ite_m (fun _ h0 => ⟨h0.1, ite_m (fun _ h2 => kQ _ _ fr h2) (fun _ h2 => kX14 _ _ fr h2) h0.2⟩) (fun _ h0 => kQ _ _ fr h0) h
theorem fx_nextSort_L14 {v2 : Int} {v3 : Int} {σ0 σ : S} {Q Q2 : Int → S → Prop} (fr : Fr wX_nextSort σ0 σ) (h : x_nextSort_L14 v2 v3 σ Q) (kQ : ∀ r s, Fr wX_nextSort σ0 s → Q r s → Q2 r s) : x_nextSort_L14 v2 v3 σ Q2 := by
  unfold x_nextSort_L14 at h ⊢
  intro Y hY
  exact h (fun v3 s => Fr wX_nextSort σ0 s → Y v3 s) (fun v3 s h f => hY v3 s (fx_nextSort_L14_b (v2 := v2) (v3 := v3) (Q := Q) (Q2 := Q2) (X14 := fun v3 s => Fr wX_nextSort σ0 s → Y v3 s) (X142 := Y) f h kQ (fun v3 s f h => h f))) fr
theorem lx_nextSort_L14 {v2 : Int} {v3 : Int} {σ0 : S} {Q : Int → S → Prop} (I : Int → S → Prop) (me : Int → S → Nat) (h0 : I v3 σ0) (step : ∀ (v3 : Int) (s : S), Fr wX_nextSort σ0 s → I v3 s → (fun (Y0 : Int → S → Prop) => (if v3 < gI s 22 then inb v3 20 ∧ (if gA s 40 v3 = v2 then Q v3 s else Y0 (w32 (v3 + 1)) s) else Q (-2) s)) (fun v3' s' => I v3' s' ∧ me v3' s' < me v3 s)) : x_nextSort_L14 v2 v3 σ0 Q := by
  unfold x_nextSort_L14
  intro Y hY
  have key : ∀ (n : Nat) (v3 : Int) (s : S), me v3 s < n → Fr wX_nextSort σ0 s → I v3 s → Y v3 s := by
    intro n
    induction n with
    | zero => intro v3 s h; exact absurd h (Nat.not_lt_zero _)
    | succ n ih =>
      intro v3 s hm fr hi
      exact hY v3 s (fx_nextSort_L14_b (v2 := v2) (v3 := v3) (Q := Q) (Q2 := Q) (X14 := (fun v3' s' => I v3' s' ∧ me v3' s' < me v3 s)) (X142 := Y) fr (step v3 s fr hi) (fun _ _ _ h => h) (fun v3 s f h => ih v3 s (by omega) f h.1))
  exact key _ v3 σ0 (Nat.lt_succ_self _) Fr.rf h0
theorem fm_x_nextSort {v1 : Int} {v2 : Int} {σ0 : S} {Q Q2 : Int → S → Prop} (h : x_nextSort v1 v2 σ0 Q) (kQ : ∀ r s, Fr wX_nextSort σ0 s → Q r s → Q2 r s) : x_nextSort v1 v2 σ0 Q2 := by
  have fr : Fr wX_nextSort σ0 σ0 := Fr.rf
  unfold x_nextSort at h ⊢
  exact fx_nextSort_L14 fr h kQ
theorem fx_isOneLeast_j271 {σ0 σ : S} {Q Q2 : Int → S → Prop} (fr : Fr wX_isOneLeast σ0 σ) (h : x_isOneLeast_j271  σ Q) (kQ : ∀ r s, Fr wX_isOneLeast σ0 s → Q r s → Q2 r s) : x_isOneLeast_j271  σ Q2 := by
  unfold x_isOneLeast_j271 at h ⊢
  exact kQ _ _ fr h
theorem fx_isOneLeast_j254 {v1 : Int} {σ0 σ : S} {Q Q2 : Int → S → Prop} (fr : Fr wX_isOneLeast σ0 σ) (h : x_isOneLeast_j254 v1 σ Q) (kQ : ∀ r s, Fr wX_isOneLeast σ0 s → Q r s → Q2 r s) : x_isOneLeast_j254 v1 σ Q2 := by
  unfold x_isOneLeast_j254 at h ⊢
  exact ⟨h.1, ite_m (fun _ h1 => fx_isOneLeast_j271 fr h1 kQ) (fun _ h1 => fm_x_isOneJoined h1 (fun r_14 σ_13 f h2 => (have f2 : Fr wX_isOneLeast σ0 σ_13 := (fr.trans (f.weak (by decide +kernel))); ite_m (fun _ h3 => kQ _ _ f2 h3) (fun _ h3 => fx_isOneLeast_j271 f2 h3 kQ) h2))) h.2⟩
theorem fx_isOneLeast_j251 {v1 : Int} {v3 : Int} {v4 : Int} {σ0 σ : S} {Q Q2 : Int → S → Prop} {X61 X612 : Int → S → Prop} (fr : Fr wX_isOneLeast σ0 σ) (h : x_isOneLeast_j251 v1 v3 v4 σ Q X61) (kQ : ∀ r s, Fr wX_isOneLeast σ0 s → Q r s → Q2 r s) (kX61 : ∀ a0 s, Fr wX_isOneLeast σ0 s → X61 a0 s → X612 a0 s) : x_isOneLeast_j251 v1 v3 v4 σ Q2 X612 := by
  unfold x_isOneLeast_j251 at h ⊢
  exact kX61 _ _ fr h
theorem fx_isOneLeast_j204 {v1 : Int} {v3 : Int} {v5 : Int} {σ0 σ : S} {Q Q2 : Int → S → Prop} {X61 X612 : Int → S → Prop} (fr : Fr wX_isOneLeast σ0 σ) (h : x_isOneLeast_j204 v1 v3 v5 σ Q X61) (kQ : ∀ r s, Fr wX_isOneLeast σ0 s → Q r s → Q2 r s) (kX61 : ∀ a0 s, Fr wX_isOneLeast σ0 s → X61 a0 s → X612 a0 s) : x_isOneLeast_j204 v1 v3 v5 σ Q2 X612 := by
  unfold x_isOneLeast_j204 at h ⊢
  exact ite_m (fun _ h0 => fx_isOneLeast_j251 fr h0 kQ kX61) (fun _ h0 => ⟨h0.1, ⟨h0.2.1, ⟨h0.2.2.1, fm_x_nextSort h0.2.2.2 (fun r_33 σ_32 f h4 => (have f4 : Fr wX_isOneLeast σ0 σ_32 := (fr.trans (f.weak (by decide +kernel))); ⟨h4.1, fun σ_34 e6 => (have f6 : Fr wX_isOneLeast σ0 σ_34 := Fr.putA f4 e6 rfl; fx_isOneLeast_j251 f6 (h4.2 σ_34 e6) kQ kX61)⟩))⟩⟩⟩) h
theorem fx_isOneLeast_L140_b {v1 : Int} {v3 : Int} {v5 : Int} {σ0 σ : S} {Q Q2 : Int → S → Prop} {X61 X612 : Int → S → Prop} {X140 X1402 : Int → S → Prop} (fr : Fr wX_isOneLeast σ0 σ) (h : (if v5 < 0 then x_isOneLeast_j204 v1 v3 v5 σ Q X61 else inb v5 3 ∧ inb v5 3 ∧ inb (gA σ 76 v5) 20 ∧ x_nextSort (gA σ 76 v5) (gA σ 40 (gA σ 76 v5)) σ (fun r_46 σ_45 => (if r_46 = (-2) then inb v5 3 ∧ inb (gA σ_45 76 v5) 20 ∧ x_nextSort (-2) (gA σ_45 40 (gA σ_45 76 v5)) σ_45 (fun r_54 σ_53 => inb v5 3 ∧ ∀ σ_55, σ_55 = pA σ_53 76 v5 r_54 → X140 (w32 (v5 + (-1))) σ_55) else x_isOneLeast_j204 v1 v3 v5 σ_45 Q X61)))) (kQ : ∀ r s, Fr wX_isOneLeast σ0 s → Q r s → Q2 r s) (kX61 : ∀ a0 s, Fr wX_isOneLeast σ0 s → X61 a0 s → X612 a0 s) (kX140 : ∀ v5 s, Fr wX_isOneLeast σ0 s → X140 v5 s → X1402 v5 s) : (if v5 < 0 then x_isOneLeast_j204 v1 v3 v5 σ Q2 X612 else inb v5 3 ∧ inb v5 3 ∧ inb (gA σ 76 v5) 20 ∧ x_nextSort (gA σ 76 v5) (gA σ 40 (gA σ 76 v5)) σ (fun r_46 σ_45 => (if r_46 = (-2) then inb v5 3 ∧ inb (gA σ_45 76 v5) 20 ∧ x_nextSort (-2) (gA σ_45 40 (gA σ_45 76 v5)) σ_45 (fun r_54 σ_53 => inb v5 3 ∧ ∀ σ_55, σ_55 = pA σ_53 76 v5 r_54 → X1402 (w32 (v5 + (-1))) σ_55) else x_isOneLeast_j204 v1 v3 v5 σ_45 Q2 X612))) :=
  ite_m (fun _ h0 => fx_isOneLeast_j204 fr h0 kQ kX61) (fun _ h0 => ⟨h0.1, ⟨h0.2.1, ⟨h0.2.2.1, fm_x_nextSort h0.2.2.2 (fun r_46 σ_45 f h4 => (have f4 : Fr wX_isOneLeast σ0 σ_45 := (fr.trans (f.weak (by decide +kernel))); ite_m (fun _ h5 => ⟨h5.1, ⟨h5.2.1, fm_x_nextSort h5.2.2 (fun r_54 σ_53 f h8 => (have f8 : Fr wX_isOneLeast σ0 σ_53 := (f4.trans (f.weak (by decide +kernel))); ⟨h8.1, fun σ_55 e10 => (have f10 : Fr wX_isOneLeast σ0 σ_55 := Fr.putA f8 e10 rfl; kX140 _ _ f10 (h8.2 σ_55 e10))⟩))⟩⟩) (fun _ h5 => fx_isOneLeast_j204 f4 h5 kQ kX61) h4))⟩⟩⟩) h
theorem fx_isOneLeast_L140 {v1 : Int} {v3 : Int} {v5 : Int} {σ0 σ : S} {Q Q2 : Int → S → Prop} {X61 X612 : Int → S → Prop} (fr : Fr wX_isOneLeast σ0 σ) (h : x_isOneLeast_L140 v1 v3 v5 σ Q X61) (kQ : ∀ r s, Fr wX_isOneLeast σ0 s → Q r s → Q2 r s) (kX61 : ∀ a0 s, Fr wX_isOneLeast σ0 s → X61 a0 s → X612 a0 s) : x_isOneLeast_L140 v1 v3 v5 σ Q2 X612 := by
  unfold x_isOneLeast_L140 at h ⊢
  intro Y hY
  exact h (fun v5 s => Fr wX_isOneLeast σ0 s → Y v5 s) (fun v5 s h f => hY v5 s (fx_isOneLeast_L140_b (v1 := v1) (v3 := v3) (v5 := v5) (Q := Q) (Q2 := Q2) (X61 := X61) (X612 := X612) (X140 := fun v5 s => Fr wX_isOneLeast σ0 s → Y v5 s) (X1402 := Y) f h kQ kX61 (fun v5 s f h => h f))) fr
theorem lx_isOneLeast_L140 {v1 : Int} {v3 : Int} {v5 : Int} {σ0 : S} {Q : Int → S → Prop} {X61 : Int → S → Prop} (I : Int → S → Prop) (me : Int → S → Nat) (h0 : I v5 σ0) (step : ∀ (v5 : Int) (s : S), Fr wX_isOneLeast σ0 s → I v5 s → (fun (Y0 : Int → S → Prop) => (if v5 < 0 then x_isOneLeast_j204 v1 v3 v5 s Q X61 else inb v5 3 ∧ inb v5 3 ∧ inb (gA s 76 v5) 20 ∧ x_nextSort (gA s 76 v5) (gA s 40 (gA s 76 v5)) s (fun r_46 σ_45 => (if r_46 = (-2) then inb v5 3 ∧ inb (gA σ_45 76 v5) 20 ∧ x_nextSort (-2) (gA σ_45 40 (gA σ_45 76 v5)) σ_45 (fun r_54 σ_53 => inb v5 3 ∧ ∀ σ_55, σ_55 = pA σ_53 76 v5 r_54 → Y0 (w32 (v5 + (-1))) σ_55) else x_isOneLeast_j204 v1 v3 v5 σ_45 Q X61)))) (fun v5' s' => I v5' s' ∧ me v5' s' < me v5 s)) : x_isOneLeast_L140 v1 v3 v5 σ0 Q X61 := by
  unfold x_isOneLeast_L140
  intro Y hY
  have key : ∀ (n : Nat) (v5 : Int) (s : S), me v5 s < n → Fr wX_isOneLeast σ0 s → I v5 s → Y v5 s := by
    intro n
    induction n with
    | zero => intro v5 s h; exact absurd h (Nat.not_lt_zero _)
    | succ n ih =>
      intro v5 s hm fr hi
      exact hY v5 s (fx_isOneLeast_L140_b (v1 := v1) (v3 := v3) (v5 := v5) (Q := Q) (Q2 := Q) (X61 := X61) (X612 := X61) (X140 := (fun v5' s' => I v5' s' ∧ me v5' s' < me v5 s)) (X1402 := Y) fr (step v5 s fr hi) (fun _ _ _ h => h) (fun _ _ _ h => h) (fun v5 s f h => ih v5 s (by omega) f h.1))
  exact key _ v5 σ0 (Nat.lt_succ_self _) Fr.rf h0
theorem fx_isOneLeast_j135 {v1 : Int} {v3 : Int} {σ0 σ : S} {Q Q2 : Int → S → Prop} {X61 X612 : Int → S → Prop} (fr : Fr wX_isOneLeast σ0 σ) (h : x_isOneLeast_j135 v1 v3 σ Q X61) (kQ : ∀ r s, Fr wX_isOneLeast σ0 s → Q r s → Q2 r s) (kX61 : ∀ a0 s, Fr wX_isOneLeast σ0 s → X61 a0 s → X612 a0 s) : x_isOneLeast_j135 v1 v3 σ Q2 X612 := by
  unfold x_isOneLeast_j135 at h ⊢
  exact fx_isOneLeast_L140 fr h kQ kX61
theorem fx_isOneLeast_j128 {v3 : Int} {σ0 σ : S} {Q Q2 : Int → S → Prop} (fr : Fr wX_isOneLeast σ0 σ) (h : x_isOneLeast_j128 v3 σ Q) (kQ : ∀ r s, Fr wX_isOneLeast σ0 s → Q r s → Q2 r s) : x_isOneLeast_j128 v3 σ Q2 := by
  unfold x_isOneLeast_j128 at h ⊢
  exact fun σ_67 e0 => (have f0 : Fr wX_isOneLeast σ0 σ_67 := Fr.putI fr e0 rfl; kQ _ _ f0 (h σ_67 e0))
theorem fx_isOneLeast_L100_b {v3 : Int} {v5 : Int} {σ0 σ : S} {Q Q2 : Int → S → Prop} {X100 X1002 : Int → S → Prop} (fr : Fr wX_isOneLeast σ0 σ) (h : (if v5 < v3 then inb v5 3 ∧ inb (w32 (1 + v5)) 4 ∧ ∀ σ_71, σ_71 = pA σ 119 (w32 (1 + v5)) (gA σ 76 v5) → X100 (w32 (v5 + 1)) σ_71 else x_isOneLeast_j128 v3 σ Q)) (kQ : ∀ r s, Fr wX_isOneLeast σ0 s → Q r s → Q2 r s) (kX100 : ∀ v5 s, Fr wX_isOneLeast σ0 s → X100 v5 s → X1002 v5 s) : (if v5 < v3 then inb v5 3 ∧ inb (w32 (1 + v5)) 4 ∧ ∀ σ_71, σ_71 = pA σ 119 (w32 (1 + v5)) (gA σ 76 v5) → X1002 (w32 (v5 + 1)) σ_71 else x_isOneLeast_j128 v3 σ Q2) :=
  ite_m (fun _ h0 => ⟨h0.1, ⟨h0.2.1, fun σ_71 e3 => (have f3 : Fr wX_isOneLeast σ0 σ_71 := Fr.putA fr e3 rfl; kX100 _ _ f3 (h0.2.2 σ_71 e3))⟩⟩) (fun _ h0 => fx_isOneLeast_j128 fr h0 kQ) h
theorem fx_isOneLeast_L100 {v3 : Int} {v5 : Int} {σ0 σ : S} {Q Q2 : Int → S → Prop} (fr : Fr wX_isOneLeast σ0 σ) (h : x_isOneLeast_L100 v3 v5 σ Q) (kQ : ∀ r s, Fr wX_isOneLeast σ0 s → Q r s → Q2 r s) : x_isOneLeast_L100 v3 v5 σ Q2 := by
  unfold x_isOneLeast_L100 at h ⊢
  intro Y hY
  exact h (fun v5 s => Fr wX_isOneLeast σ0 s → Y v5 s) (fun v5 s h f => hY v5 s (fx_isOneLeast_L100_b (v3 := v3) (v5 := v5) (Q := Q) (Q2 := Q2) (X100 := fun v5 s => Fr wX_isOneLeast σ0 s → Y v5 s) (X1002 := Y) f h kQ (fun v5 s f h => h f))) fr
theorem lx_isOneLeast_L100 {v3 : Int} {v5 : Int} {σ0 : S} {Q : Int → S → Prop} (I : Int → S → Prop) (me : Int → S → Nat) (h0 : I v5 σ0) (step : ∀ (v5 : Int) (s : S), Fr wX_isOneLeast σ0 s → I v5 s → (fun (Y0 : Int → S → Prop) => (if v5 < v3 then inb v5 3 ∧ inb (w32 (1 + v5)) 4 ∧ ∀ σ_71, σ_71 = pA s 119 (w32 (1 + v5)) (gA s 76 v5) → Y0 (w32 (v5 + 1)) σ_71 else x_isOneLeast_j128 v3 s Q)) (fun v5' s' => I v5' s' ∧ me v5' s' < me v5 s)) : x_isOneLeast_L100 v3 v5 σ0 Q := by
  unfold x_isOneLeast_L100
  intro Y hY
  have key : ∀ (n : Nat) (v5 : Int) (s : S), me v5 s < n → Fr wX_isOneLeast σ0 s → I v5 s → Y v5 s := by
    intro n
    induction n with
    | zero => intro v5 s h; exact absurd h (Nat.not_lt_zero _)
    | succ n ih =>
      intro v5 s hm fr hi
      exact hY v5 s (fx_isOneLeast_L100_b (v3 := v3) (v5 := v5) (Q := Q) (Q2 := Q) (X100 := (fun v5' s' => I v5' s' ∧ me v5' s' < me v5 s)) (X1002 := Y) fr (step v5 s fr hi) (fun _ _ _ h => h) (fun v5 s f h => ih v5 s (by omega) f h.1))
  exact key _ v5 σ0 (Nat.lt_succ_self _) Fr.rf h0
theorem fx_isOneLeast_j90 {v1 : Int} {v3 : Int} {σ0 σ : S} {Q Q2 : Int → S → Prop} (fr : Fr wX_isOneLeast σ0 σ) (h : x_isOneLeast_j90 v1 v3 σ Q) (kQ : ∀ r s, Fr wX_isOneLeast σ0 s → Q r s → Q2 r s) : x_isOneLeast_j90 v1 v3 σ Q2 := by
  unfold x_isOneLeast_j90 at h ⊢
  exact ⟨h.1, fun σ_62 e1 => (have f1 : Fr wX_isOneLeast σ0 σ_62 := Fr.putA fr e1 rfl; fx_isOneLeast_L100 f1 (h.2 σ_62 e1) kQ)⟩
theorem fx_isOneLeast_L61_b {v1 : Int} {v3 : Int} {v4 : Int} {σ0 σ : S} {Q Q2 : Int → S → Prop} {X61 X612 : Int → S → Prop} (fr : Fr wX_isOneLeast σ0 σ) (h : (if v4 = 0 then x_isOneLeast_j254 v1 σ Q else x_hasRow v1 v3 σ (fun r_18 σ_17 => (if r_18 = 0 then x_isOneLeast_j135 v1 v3 σ_17 Q X61 else x_leastBy v1 76 v3 σ_17 (fun r_59 σ_58 => (if r_59 = (-2) then x_isOneLeast_j90 v1 v3 σ_58 Q else x_isOneLeast_j135 v1 v3 σ_58 Q X61)))))) (kQ : ∀ r s, Fr wX_isOneLeast σ0 s → Q r s → Q2 r s) (kX61 : ∀ v4 s, Fr wX_isOneLeast σ0 s → X61 v4 s → X612 v4 s) : (if v4 = 0 then x_isOneLeast_j254 v1 σ Q2 else x_hasRow v1 v3 σ (fun r_18 σ_17 => (if r_18 = 0 then x_isOneLeast_j135 v1 v3 σ_17 Q2 X612 else x_leastBy v1 76 v3 σ_17 (fun r_59 σ_58 => (if r_59 = (-2) then x_isOneLeast_j90 v1 v3 σ_58 Q2 else x_isOneLeast_j135 v1 v3 σ_58 Q2 X612))))) :=
  ite_m (fun _ h0 => fx_isOneLeast_j254 fr h0 kQ) (fun _ h0 => fm_x_hasRow h0 (fun r_18 σ_17 f h1 => (have f1 : Fr wX_isOneLeast σ0 σ_17 := (fr.trans (f.weak (by decide +kernel))); ite_m (fun _ h2 => fx_isOneLeast_j135 f1 h2 kQ kX61) (fun _ h2 => fm_x_leastBy h2 (fun r_59 σ_58 f h3 => (have f3 : Fr wX_isOneLeast σ0 σ_58 := (f1.trans (f.weak (by decide +kernel))); ite_m (fun _ h4 => fx_isOneLeast_j90 f3 h4 kQ) (fun _ h4 => fx_isOneLeast_j135 f3 h4 kQ kX61) h3))) h1))) h
theorem fx_isOneLeast_L61 {v1 : Int} {v3 : Int} {v4 : Int} {σ0 σ : S} {Q Q2 : Int → S → Prop} (fr : Fr wX_isOneLeast σ0 σ) (h : x_isOneLeast_L61 v1 v3 v4 σ Q) (kQ : ∀ r s, Fr wX_isOneLeast σ0 s → Q r s → Q2 r s) : x_isOneLeast_L61 v1 v3 v4 σ Q2 := by
  unfold x_isOneLeast_L61 at h ⊢
  intro Y hY
  exact h (fun v4 s => Fr wX_isOneLeast σ0 s → Y v4 s) (fun v4 s h f => hY v4 s (fx_isOneLeast_L61_b (v1 := v1) (v3 := v3) (v4 := v4) (Q := Q) (Q2 := Q2) (X61 := fun v4 s => Fr wX_isOneLeast σ0 s → Y v4 s) (X612 := Y) f h kQ (fun v4 s f h => h f))) fr
theorem lx_isOneLeast_L61 {v1 : Int} {v3 : Int} {v4 : Int} {σ0 : S} {Q : Int → S → Prop} (I : Int → S → Prop) (me : Int → S → Nat) (h0 : I v4 σ0) (step : ∀ (v4 : Int) (s : S), Fr wX_isOneLeast σ0 s → I v4 s → (fun (Y0 : Int → S → Prop) => (if v4 = 0 then x_isOneLeast_j254 v1 s Q else x_hasRow v1 v3 s (fun r_18 σ_17 => (if r_18 = 0 then x_isOneLeast_j135 v1 v3 σ_17 Q Y0 else x_leastBy v1 76 v3 σ_17 (fun r_59 σ_58 => (if r_59 = (-2) then x_isOneLeast_j90 v1 v3 σ_58 Q else x_isOneLeast_j135 v1 v3 σ_58 Q Y0)))))) (fun v4' s' => I v4' s' ∧ me v4' s' < me v4 s)) : x_isOneLeast_L61 v1 v3 v4 σ0 Q := by
  unfold x_isOneLeast_L61
  intro Y hY
  have key : ∀ (n : Nat) (v4 : Int) (s : S), me v4 s < n → Fr wX_isOneLeast σ0 s → I v4 s → Y v4 s := by
    intro n
    induction n with
    | zero => intro v4 s h; exact absurd h (Nat.not_lt_zero _)
    | succ n ih =>
      intro v4 s hm fr hi
      exact hY v4 s (fx_isOneLeast_L61_b (v1 := v1) (v3 := v3) (v4 := v4) (Q := Q) (Q2 := Q) (X61 := (fun v4' s' => I v4' s' ∧ me v4' s' < me v4 s)) (X612 := Y) fr (step v4 s fr hi) (fun _ _ _ h => h) (fun v4 s f h => ih v4 s (by omega) f h.1))
  exact key _ v4 σ0 (Nat.lt_succ_self _) Fr.rf h0
theorem fx_isOneLeast_j58 {v1 : Int} {v3 : Int} {σ0 σ : S} {Q Q2 : Int → S → Prop} (fr : Fr wX_isOneLeast σ0 σ) (h : x_isOneLeast_j58 v1 v3 σ Q) (kQ : ∀ r s, Fr wX_isOneLeast σ0 s → Q r s → Q2 r s) : x_isOneLeast_j58 v1 v3 σ Q2 := by
  unfold x_isOneLeast_j58 at h ⊢
  exact fx_isOneLeast_L61 fr h kQ
theorem fx_isOneLeast_L17_b {v1 : Int} {v2 : Int} {v3 : Int} {v4 : Int} {σ0 σ : S} {Q Q2 : Int → S → Prop} {X17 X172 : Int → S → Prop} (fr : Fr wX_isOneLeast σ0 σ) (h : (if v4 < v3 then inb (w32 (w32 (3 * v2) + v4)) 150 ∧ inb (gA σ 42 (w32 (w32 (3 * v2) + v4))) 20 ∧ x_nextSort (-2) (gA σ 40 (gA σ 42 (w32 (w32 (3 * v2) + v4)))) σ (fun r_79 σ_78 => inb v4 3 ∧ ∀ σ_80, σ_80 = pA σ_78 76 v4 r_79 → X17 (w32 (v4 + 1)) σ_80) else x_isOneLeast_j58 v1 v3 σ Q)) (kQ : ∀ r s, Fr wX_isOneLeast σ0 s → Q r s → Q2 r s) (kX17 : ∀ v4 s, Fr wX_isOneLeast σ0 s → X17 v4 s → X172 v4 s) : (if v4 < v3 then inb (w32 (w32 (3 * v2) + v4)) 150 ∧ inb (gA σ 42 (w32 (w32 (3 * v2) + v4))) 20 ∧ x_nextSort (-2) (gA σ 40 (gA σ 42 (w32 (w32 (3 * v2) + v4)))) σ (fun r_79 σ_78 => inb v4 3 ∧ ∀ σ_80, σ_80 = pA σ_78 76 v4 r_79 → X172 (w32 (v4 + 1)) σ_80) else x_isOneLeast_j58 v1 v3 σ Q2) :=
  ite_m (fun _ h0 => ⟨h0.1, ⟨h0.2.1, fm_x_nextSort h0.2.2 (fun r_79 σ_78 f h3 => (have f3 : Fr wX_isOneLeast σ0 σ_78 := (fr.trans (f.weak (by decide +kernel))); ⟨h3.1, fun σ_80 e5 => (have f5 : Fr wX_isOneLeast σ0 σ_80 := Fr.putA f3 e5 rfl; kX17 _ _ f5 (h3.2 σ_80 e5))⟩))⟩⟩) (fun _ h0 => fx_isOneLeast_j58 fr h0 kQ) h
theorem fx_isOneLeast_L17 {v1 : Int} {v2 : Int} {v3 : Int} {v4 : Int} {σ0 σ : S} {Q Q2 : Int → S → Prop} (fr : Fr wX_isOneLeast σ0 σ) (h : x_isOneLeast_L17 v1 v2 v3 v4 σ Q) (kQ : ∀ r s, Fr wX_isOneLeast σ0 s → Q r s → Q2 r s) : x_isOneLeast_L17 v1 v2 v3 v4 σ Q2 := by
  unfold x_isOneLeast_L17 at h ⊢
  intro Y hY
  exact h (fun v4 s => Fr wX_isOneLeast σ0 s → Y v4 s) (fun v4 s h f => hY v4 s (fx_isOneLeast_L17_b (v1 := v1) (v2 := v2) (v3 := v3) (v4 := v4) (Q := Q) (Q2 := Q2) (X17 := fun v4 s => Fr wX_isOneLeast σ0 s → Y v4 s) (X172 := Y) f h kQ (fun v4 s f h => h f))) fr
theorem lx_isOneLeast_L17 {v1 : Int} {v2 : Int} {v3 : Int} {v4 : Int} {σ0 : S} {Q : Int → S → Prop} (I : Int → S → Prop) (me : Int → S → Nat) (h0 : I v4 σ0) (step : ∀ (v4 : Int) (s : S), Fr wX_isOneLeast σ0 s → I v4 s → (fun (Y0 : Int → S → Prop) => (if v4 < v3 then inb (w32 (w32 (3 * v2) + v4)) 150 ∧ inb (gA s 42 (w32 (w32 (3 * v2) + v4))) 20 ∧ x_nextSort (-2) (gA s 40 (gA s 42 (w32 (w32 (3 * v2) + v4)))) s (fun r_79 σ_78 => inb v4 3 ∧ ∀ σ_80, σ_80 = pA σ_78 76 v4 r_79 → Y0 (w32 (v4 + 1)) σ_80) else x_isOneLeast_j58 v1 v3 s Q)) (fun v4' s' => I v4' s' ∧ me v4' s' < me v4 s)) : x_isOneLeast_L17 v1 v2 v3 v4 σ0 Q := by
  unfold x_isOneLeast_L17
  intro Y hY
  have key : ∀ (n : Nat) (v4 : Int) (s : S), me v4 s < n → Fr wX_isOneLeast σ0 s → I v4 s → Y v4 s := by
    intro n
    induction n with
    | zero => intro v4 s h; exact absurd h (Nat.not_lt_zero _)
    | succ n ih =>
      intro v4 s hm fr hi
      exact hY v4 s (fx_isOneLeast_L17_b (v1 := v1) (v2 := v2) (v3 := v3) (v4 := v4) (Q := Q) (Q2 := Q) (X17 := (fun v4' s' => I v4' s' ∧ me v4' s' < me v4 s)) (X172 := Y) fr (step v4 s fr hi) (fun _ _ _ h => h) (fun v4 s f h => ih v4 s (by omega) f h.1))
  exact key _ v4 σ0 (Nat.lt_succ_self _) Fr.rf h0
theorem fm_x_isOneLeast {v1 : Int} {σ0 : S} {Q Q2 : Int → S → Prop} (h : x_isOneLeast v1 σ0 Q) (kQ : ∀ r s, Fr wX_isOneLeast σ0 s → Q r s → Q2 r s) : x_isOneLeast v1 σ0 Q2 := by
  have fr : Fr wX_isOneLeast σ0 σ0 := Fr.rf
  unfold x_isOneLeast at h ⊢
  exact ⟨h.1, ⟨h.2.1, fx_isOneLeast_L17 fr h.2.2 kQ⟩⟩
theorem fx_allOneLeast_L2_b {v1 : Int} {σ0 σ : S} {Q Q2 : Int → S → Prop} {X2 X22 : Int → S → Prop} (fr : Fr wX_allOneLeast σ0 σ) (h : (if v1 < gI σ 63 then x_isOneLeast v1 σ (fun r_5 σ_4 => (if r_5 = 0 then Q 0 σ_4 else X2 (w32 (v1 + 1)) σ_4)) else Q 1 σ)) (kQ : ∀ r s, Fr wX_allOneLeast σ0 s → Q r s → Q2 r s) (kX2 : ∀ v1 s, Fr wX_allOneLeast σ0 s → X2 v1 s → X22 v1 s) : (if v1 < gI σ 63 then x_isOneLeast v1 σ (fun r_5 σ_4 => (if r_5 = 0 then Q2 0 σ_4 else X22 (w32 (v1 + 1)) σ_4)) else Q2 1 σ) :=
  ite_m (fun _ h0 => fm_x_isOneLeast h0 (fun r_5 σ_4 f h1 => (have f1 : Fr wX_allOneLeast σ0 σ_4 := (fr.trans (f.weak (by decide +kernel))); ite_m (fun _ h2 => kQ _ _ f1 h2) (fun _ h2 => kX2 _ _ f1 h2) h1))) (fun _ h0 => kQ _ _ fr h0) h
theorem fx_allOneLeast_L2 {v1 : Int} {σ0 σ : S} {Q Q2 : Int → S → Prop} (fr : Fr wX_allOneLeast σ0 σ) (h : x_allOneLeast_L2 v1 σ Q) (kQ : ∀ r s, Fr wX_allOneLeast σ0 s → Q r s → Q2 r s) : x_allOneLeast_L2 v1 σ Q2 := by
  unfold x_allOneLeast_L2 at h ⊢
  intro Y hY
  exact h (fun v1 s => Fr wX_allOneLeast σ0 s → Y v1 s) (fun v1 s h f => hY v1 s (fx_allOneLeast_L2_b (v1 := v1) (Q := Q) (Q2 := Q2) (X2 := fun v1 s => Fr wX_allOneLeast σ0 s → Y v1 s) (X22 := Y) f h kQ (fun v1 s f h => h f))) fr
theorem lx_allOneLeast_L2 {v1 : Int} {σ0 : S} {Q : Int → S → Prop} (I : Int → S → Prop) (me : Int → S → Nat) (h0 : I v1 σ0) (step : ∀ (v1 : Int) (s : S), Fr wX_allOneLeast σ0 s → I v1 s → (fun (Y0 : Int → S → Prop) => (if v1 < gI s 63 then x_isOneLeast v1 s (fun r_5 σ_4 => (if r_5 = 0 then Q 0 σ_4 else Y0 (w32 (v1 + 1)) σ_4)) else Q 1 s)) (fun v1' s' => I v1' s' ∧ me v1' s' < me v1 s)) : x_allOneLeast_L2 v1 σ0 Q := by
  unfold x_allOneLeast_L2
  intro Y hY
  have key : ∀ (n : Nat) (v1 : Int) (s : S), me v1 s < n → Fr wX_allOneLeast σ0 s → I v1 s → Y v1 s := by
    intro n
    induction n with
    | zero => intro v1 s h; exact absurd h (Nat.not_lt_zero _)
    | succ n ih =>
      intro v1 s hm fr hi
      exact hY v1 s (fx_allOneLeast_L2_b (v1 := v1) (Q := Q) (Q2 := Q) (X2 := (fun v1' s' => I v1' s' ∧ me v1' s' < me v1 s)) (X22 := Y) fr (step v1 s fr hi) (fun _ _ _ h => h) (fun v1 s f h => ih v1 s (by omega) f h.1))
  exact key _ v1 σ0 (Nat.lt_succ_self _) Fr.rf h0
theorem fm_x_allOneLeast {σ0 : S} {Q Q2 : Int → S → Prop} (h : x_allOneLeast  σ0 Q) (kQ : ∀ r s, Fr wX_allOneLeast σ0 s → Q r s → Q2 r s) : x_allOneLeast  σ0 Q2 := by
  have fr : Fr wX_allOneLeast σ0 σ0 := Fr.rf
  unfold x_allOneLeast at h ⊢
  exact fx_allOneLeast_L2 fr h kQ
theorem fx_countIn_L5_b {v1 : Int} {v2 : Int} {v3 : Int} {v4 : Int} {σ0 σ : S} {Q Q2 : Int → S → Prop} {X5 X52 : Int → Int → S → Prop} (fr : Fr wX_countIn σ0 σ) (h : inb v1 200000 ∧ (if v4 < gA σ 68 v1 then x_at v1 v4 σ (fun r_6 σ_5 => X5 (w32 (v3 + (bi (r_6 = v2)))) (w32 (v4 + 1)) σ_5) else Q v3 σ)) (kQ : ∀ r s, Fr wX_countIn σ0 s → Q r s → Q2 r s) (kX5 : ∀ v3 v4 s, Fr wX_countIn σ0 s → X5 v3 v4 s → X52 v3 v4 s) : inb v1 200000 ∧ (if v4 < gA σ 68 v1 then x_at v1 v4 σ (fun r_6 σ_5 => X52 (w32 (v3 + (bi (r_6 = v2)))) (w32 (v4 + 1)) σ_5) else Q2 v3 σ) :=
  ⟨h.1, ite_m (fun _ h1 => fm_x_at h1 (fun r_6 σ_5 f h2 => (have f2 : Fr wX_countIn σ0 σ_5 := (fr.trans (f.weak (by decide +kernel))); kX5 _ _ _ f2 h2))) (fun _ h1 => kQ _ _ fr h1) h.2⟩
theorem fx_countIn_L5 {v1 : Int} {v2 : Int} {v3 : Int} {v4 : Int} {σ0 σ : S} {Q Q2 : Int → S → Prop} (fr : Fr wX_countIn σ0 σ) (h : x_countIn_L5 v1 v2 v3 v4 σ Q) (kQ : ∀ r s, Fr wX_countIn σ0 s → Q r s → Q2 r s) : x_countIn_L5 v1 v2 v3 v4 σ Q2 := by
  unfold x_countIn_L5 at h ⊢
  intro Y hY
  exact h (fun v3 v4 s => Fr wX_countIn σ0 s → Y v3 v4 s) (fun v3 v4 s h f => hY v3 v4 s (fx_countIn_L5_b (v1 := v1) (v2 := v2) (v3 := v3) (v4 := v4) (Q := Q) (Q2 := Q2) (X5 := fun v3 v4 s => Fr wX_countIn σ0 s → Y v3 v4 s) (X52 := Y) f h kQ (fun v3 v4 s f h => h f))) fr
theorem lx_countIn_L5 {v1 : Int} {v2 : Int} {v3 : Int} {v4 : Int} {σ0 : S} {Q : Int → S → Prop} (I : Int → Int → S → Prop) (me : Int → Int → S → Nat) (h0 : I v3 v4 σ0) (step : ∀ (v3 : Int) (v4 : Int) (s : S), Fr wX_countIn σ0 s → I v3 v4 s → (fun (Y0 : Int → Int → S → Prop) => inb v1 200000 ∧ (if v4 < gA s 68 v1 then x_at v1 v4 s (fun r_6 σ_5 => Y0 (w32 (v3 + (bi (r_6 = v2)))) (w32 (v4 + 1)) σ_5) else Q v3 s)) (fun v3' v4' s' => I v3' v4' s' ∧ me v3' v4' s' < me v3 v4 s)) : x_countIn_L5 v1 v2 v3 v4 σ0 Q := by
  unfold x_countIn_L5
  intro Y hY
  have key : ∀ (n : Nat) (v3 : Int) (v4 : Int) (s : S), me v3 v4 s < n → Fr wX_countIn σ0 s → I v3 v4 s → Y v3 v4 s := by
    intro n
    induction n with
    | zero => intro v3 v4 s h; exact absurd h (Nat.not_lt_zero _)
    | succ n ih =>
      intro v3 v4 s hm fr hi
      exact hY v3 v4 s (fx_countIn_L5_b (v1 := v1) (v2 := v2) (v3 := v3) (v4 := v4) (Q := Q) (Q2 := Q) (X5 := (fun v3' v4' s' => I v3' v4' s' ∧ me v3' v4' s' < me v3 v4 s)) (X52 := Y) fr (step v3 v4 s fr hi) (fun _ _ _ h => h) (fun v3 v4 s f h => ih v3 v4 s (by omega) f h.1))
  exact key _ v3 v4 σ0 (Nat.lt_succ_self _) Fr.rf h0
theorem fm_x_countIn {v1 : Int} {v2 : Int} {σ0 : S} {Q Q2 : Int → S → Prop} (h : x_countIn v1 v2 σ0 Q) (kQ : ∀ r s, Fr wX_countIn σ0 s → Q r s → Q2 r s) : x_countIn v1 v2 σ0 Q2 := by
  have fr : Fr wX_countIn σ0 σ0 := Fr.rf
  unfold x_countIn at h ⊢
  exact fx_countIn_L5 fr h kQ
theorem fx_isLeft_j44 {v1 : Int} {v2 : Int} {v3 : Int} {v4 : Int} {σ0 σ : S} {Q Q2 : Int → S → Prop} (fr : Fr wX_isLeft σ0 σ) (h : x_isLeft_j44 v1 v2 v3 v4 σ Q) (kQ : ∀ r s, Fr wX_isLeft σ0 s → Q r s → Q2 r s) : x_isLeft_j44 v1 v2 v3 v4 σ Q2 := by
  unfold x_isLeft_j44 at h ⊢
  exact fm_x_at h (fun r_4 σ_3 f h0 => (have f0 : Fr wX_isLeft σ0 σ_3 := (fr.trans (f.weak (by decide +kernel))); fm_x_countIn h0 (fun r_6 σ_5 f h1 => (have f1 : Fr wX_isLeft σ0 σ_5 := (f0.trans (f.weak (by decide +kernel))); kQ _ _ f1 h1))))
theorem fx_isLeft_L6_b {v1 : Int} {v2 : Int} {v3 : Int} {v4 : Int} {v5 : Int} {σ0 σ : S} {Q Q2 : Int → S → Prop} {X6 X62 : Int → Int → S → Prop} (fr : Fr wX_isLeft σ0 σ) (h : (if v5 ≤ v2 then x_at v1 v5 σ (fun r_11 σ_10 => x_at v1 v2 σ_10 (fun r_13 σ_12 => X6 (w32 (v4 + (bi (r_11 = r_13)))) (w32 (v5 + 1)) σ_12)) else x_isLeft_j44 v1 v2 v3 v4 σ Q)) (kQ : ∀ r s, Fr wX_isLeft σ0 s → Q r s → Q2 r s) (kX6 : ∀ v4 v5 s, Fr wX_isLeft σ0 s → X6 v4 v5 s → X62 v4 v5 s) : (if v5 ≤ v2 then x_at v1 v5 σ (fun r_11 σ_10 => x_at v1 v2 σ_10 (fun r_13 σ_12 => X62 (w32 (v4 + (bi (r_11 = r_13)))) (w32 (v5 + 1)) σ_12)) else x_isLeft_j44 v1 v2 v3 v4 σ Q2) :=
  ite_m (fun _ h0 => fm_x_at h0 (fun r_11 σ_10 f h1 => (have f1 : Fr wX_isLeft σ0 σ_10 := (fr.trans (f.weak (by decide +kernel))); fm_x_at h1 (fun r_13 σ_12 f h2 => (have f2 : Fr wX_isLeft σ0 σ_12 := (f1.trans (f.weak (by decide +kernel))); kX6 _ _ _ f2 h2))))) (fun _ h0 => fx_isLeft_j44 fr h0 kQ) h
theorem fx_isLeft_L6 {v1 : Int} {v2 : Int} {v3 : Int} {v4 : Int} {v5 : Int} {σ0 σ : S} {Q Q2 : Int → S → Prop} (fr : Fr wX_isLeft σ0 σ) (h : x_isLeft_L6 v1 v2 v3 v4 v5 σ Q) (kQ : ∀ r s, Fr wX_isLeft σ0 s → Q r s → Q2 r s) : x_isLeft_L6 v1 v2 v3 v4 v5 σ Q2 := by
  unfold x_isLeft_L6 at h ⊢
  intro Y hY
  exact h (fun v4 v5 s => Fr wX_isLeft σ0 s → Y v4 v5 s) (fun v4 v5 s h f => hY v4 v5 s (fx_isLeft_L6_b (v1 := v1) (v2 := v2) (v3 := v3) (v4 := v4) (v5 := v5) (Q := Q) (Q2 := Q2) (X6 := fun v4 v5 s => Fr wX_isLeft σ0 s → Y v4 v5 s) (X62 := Y) f h kQ (fun v4 v5 s f h => h f))) fr
theorem lx_isLeft_L6 {v1 : Int} {v2 : Int} {v3 : Int} {v4 : Int} {v5 : Int} {σ0 : S} {Q : Int → S → Prop} (I : Int → Int → S → Prop) (me : Int → Int → S → Nat) (h0 : I v4 v5 σ0) (step : ∀ (v4 : Int) (v5 : Int) (s : S), Fr wX_isLeft σ0 s → I v4 v5 s → (fun (Y0 : Int → Int → S → Prop) => (if v5 ≤ v2 then x_at v1 v5 s (fun r_11 σ_10 => x_at v1 v2 σ_10 (fun r_13 σ_12 => Y0 (w32 (v4 + (bi (r_11 = r_13)))) (w32 (v5 + 1)) σ_12)) else x_isLeft_j44 v1 v2 v3 v4 s Q)) (fun v4' v5' s' => I v4' v5' s' ∧ me v4' v5' s' < me v4 v5 s)) : x_isLeft_L6 v1 v2 v3 v4 v5 σ0 Q := by
  unfold x_isLeft_L6
  intro Y hY
  have key : ∀ (n : Nat) (v4 : Int) (v5 : Int) (s : S), me v4 v5 s < n → Fr wX_isLeft σ0 s → I v4 v5 s → Y v4 v5 s := by
    intro n
    induction n with
    | zero => intro v4 v5 s h; exact absurd h (Nat.not_lt_zero _)
    | succ n ih =>
      intro v4 v5 s hm fr hi
      exact hY v4 v5 s (fx_isLeft_L6_b (v1 := v1) (v2 := v2) (v3 := v3) (v4 := v4) (v5 := v5) (Q := Q) (Q2 := Q) (X6 := (fun v4' v5' s' => I v4' v5' s' ∧ me v4' v5' s' < me v4 v5 s)) (X62 := Y) fr (step v4 v5 s fr hi) (fun _ _ _ h => h) (fun v4 v5 s f h => ih v4 v5 s (by omega) f h.1))
  exact key _ v4 v5 σ0 (Nat.lt_succ_self _) Fr.rf h0
theorem fm_x_isLeft {v1 : Int} {v2 : Int} {v3 : Int} {σ0 : S} {Q Q2 : Int → S → Prop} (h : x_isLeft v1 v2 v3 σ0 Q) (kQ : ∀ r s, Fr wX_isLeft σ0 s → Q r s → Q2 r s) : x_isLeft v1 v2 v3 σ0 Q2 := by
  have fr : Fr wX_isLeft σ0 σ0 := Fr.rf
  unfold x_isLeft at h ⊢
  exact fx_isLeft_L6 fr h kQ
theorem fx_isAbove_j114 {v1 : Int} {v2 : Int} {v4 : Int} {s0 : Int} {σ0 σ : S} {Q Q2 : Int → S → Prop} {X68 X682 : Int → Int → S → Prop} {G : Orc} (hG : FrO wX_isAbove G) (fr : Fr wX_isAbove σ0 σ) (h : x_isAbove_j114 G v1 v2 v4 s0 σ Q X68) (kQ : ∀ r s, Fr wX_isAbove σ0 s → Q r s → Q2 r s) (kX68 : ∀ a0 a1 s, Fr wX_isAbove σ0 s → X68 a0 a1 s → X682 a0 a1 s) : x_isAbove_j114 G v1 v2 v4 s0 σ Q2 X682 := by
  unfold x_isAbove_j114 at h ⊢
  exact kX68 _ _ _ fr h
theorem fx_isAbove_j109 {v1 : Int} {v2 : Int} {v4 : Int} {σ0 σ : S} {Q Q2 : Int → S → Prop} {X68 X682 : Int → Int → S → Prop} {G : Orc} (hG : FrO wX_isAbove G) (fr : Fr wX_isAbove σ0 σ) (h : x_isAbove_j109 G v1 v2 v4 σ Q X68) (kQ : ∀ r s, Fr wX_isAbove σ0 s → Q r s → Q2 r s) (kX68 : ∀ a0 a1 s, Fr wX_isAbove σ0 s → X68 a0 a1 s → X682 a0 a1 s) : x_isAbove_j109 G v1 v2 v4 σ Q2 X682 := by
  unfold x_isAbove_j109 at h ⊢
  exact fx_isAbove_j114 hG fr h kQ kX68
theorem fx_isAbove_j148 {v1 : Int} {v2 : Int} {s0 : Int} {σ0 σ : S} {Q Q2 : Int → S → Prop} {G : Orc} (hG : FrO wX_isAbove G) (fr : Fr wX_isAbove σ0 σ) (h : x_isAbove_j148 G v1 v2 s0 σ Q) (kQ : ∀ r s, Fr wX_isAbove σ0 s → Q r s → Q2 r s) : x_isAbove_j148 G v1 v2 s0 σ Q2 := by
  unfold x_isAbove_j148 at h ⊢
  exact ite_m (fun _ h0 => ⟨h0.1, fun σ_28 e2 => (have f2 : Fr wX_isAbove σ0 σ_28 := Fr.putA fr e2 rfl; ⟨(h0.2 σ_28 e2).1, fun σ_32 e4 => (have f4 : Fr wX_isAbove σ0 σ_32 := Fr.putA f2 e4 rfl; fun σ_36 e5 => (have f5 : Fr wX_isAbove σ0 σ_36 := Fr.putI f4 e5 rfl; ⟨(((h0.2 σ_28 e2).2 σ_32 e4) σ_36 e5).1, fun σ_39 e7 => (have f7 : Fr wX_isAbove σ0 σ_39 := Fr.putA f5 e7 rfl; kQ _ _ f7 ((((h0.2 σ_28 e2).2 σ_32 e4) σ_36 e5).2 σ_39 e7))⟩))⟩)⟩) (fun _ h0 => kQ _ _ fr h0) h
theorem fx_isAbove_j143 {v1 : Int} {v2 : Int} {σ0 σ : S} {Q Q2 : Int → S → Prop} {G : Orc} (hG : FrO wX_isAbove G) (fr : Fr wX_isAbove σ0 σ) (h : x_isAbove_j143 G v1 v2 σ Q) (kQ : ∀ r s, Fr wX_isAbove σ0 s → Q r s → Q2 r s) : x_isAbove_j143 G v1 v2 σ Q2 := by
  unfold x_isAbove_j143 at h ⊢
  exact fx_isAbove_j148 hG fr h kQ
theorem fx_isAbove_j147 {v1 : Int} {v2 : Int} {σ0 σ : S} {Q Q2 : Int → S → Prop} {G : Orc} (hG : FrO wX_isAbove G) (fr : Fr wX_isAbove σ0 σ) (h : x_isAbove_j147 G v1 v2 σ Q) (kQ : ∀ r s, Fr wX_isAbove σ0 s → Q r s → Q2 r s) : x_isAbove_j147 G v1 v2 σ Q2 := by
  unfold x_isAbove_j147 at h ⊢
  exact fx_isAbove_j148 hG fr h kQ
theorem fx_isAbove_j121 {v1 : Int} {v2 : Int} {v3 : Int} {σ0 σ : S} {Q Q2 : Int → S → Prop} {G : Orc} (hG : FrO wX_isAbove G) (fr : Fr wX_isAbove σ0 σ) (h : x_isAbove_j121 G v1 v2 v3 σ Q) (kQ : ∀ r s, Fr wX_isAbove σ0 s → Q r s → Q2 r s) : x_isAbove_j121 G v1 v2 v3 σ Q2 := by
  unfold x_isAbove_j121 at h ⊢
  exact ite_m (fun _ h0 => ⟨h0.1, ite_m (fun _ h2 => fx_isAbove_j147 hG fr h2 kQ) (fun _ h2 => hG _ _ _ _ _ _ _ h2 (fun r_49 σ_48 f h3 => (have f3 : Fr wX_isAbove σ0 σ_48 := (fr.trans f); ite_m (fun _ h4 => fx_isAbove_j147 hG f3 h4 kQ) (fun _ h4 => fx_isAbove_j143 hG f3 h4 kQ) h3)) (fun _ _ h => h)) h0.2⟩) (fun _ h0 => fx_isAbove_j143 hG fr h0 kQ) h
theorem fx_isAbove_L68_b {v1 : Int} {v2 : Int} {v3 : Int} {v4 : Int} {σ0 σ : S} {Q Q2 : Int → S → Prop} {X68 X682 : Int → Int → S → Prop} {G : Orc} (hG : FrO wX_isAbove G) (fr : Fr wX_isAbove σ0 σ) (h : inb v1 200000 ∧ (if (v4 < gA σ 68 v1) ∧ (v3 = 0) then x_at v1 v4 σ (fun r_13 σ_12 => (if r_13 = v2 then x_isAbove_j109 G v1 v2 v4 σ_12 Q X68 else x_at v1 v4 σ_12 (fun r_17 σ_16 => G 0 [r_17, v2] σ_16 (fun r_19 σ_18 => (if r_19 = 0 then x_isAbove_j114 G v1 v2 v4 0 σ_18 Q X68 else x_isAbove_j109 G v1 v2 v4 σ_18 Q X68)) (fun _ => False)))) else x_isAbove_j121 G v1 v2 v3 σ Q)) (kQ : ∀ r s, Fr wX_isAbove σ0 s → Q r s → Q2 r s) (kX68 : ∀ v3 v4 s, Fr wX_isAbove σ0 s → X68 v3 v4 s → X682 v3 v4 s) : inb v1 200000 ∧ (if (v4 < gA σ 68 v1) ∧ (v3 = 0) then x_at v1 v4 σ (fun r_13 σ_12 => (if r_13 = v2 then x_isAbove_j109 G v1 v2 v4 σ_12 Q2 X682 else x_at v1 v4 σ_12 (fun r_17 σ_16 => G 0 [r_17, v2] σ_16 (fun r_19 σ_18 => (if r_19 = 0 then x_isAbove_j114 G v1 v2 v4 0 σ_18 Q2 X682 else x_isAbove_j109 G v1 v2 v4 σ_18 Q2 X682)) (fun _ => False)))) else x_isAbove_j121 G v1 v2 v3 σ Q2) :=
  ⟨h.1, ite_m (fun _ h1 => fm_x_at h1 (fun r_13 σ_12 f h2 => (have f2 : Fr wX_isAbove σ0 σ_12 := (fr.trans (f.weak (by decide +kernel))); ite_m (fun _ h3 => fx_isAbove_j109 hG f2 h3 kQ kX68) (fun _ h3 => fm_x_at h3 (fun r_17 σ_16 f h4 => (have f4 : Fr wX_isAbove σ0 σ_16 := (f2.trans (f.weak (by decide +kernel))); hG _ _ _ _ _ _ _ h4 (fun r_19 σ_18 f h5 => (have f5 : Fr wX_isAbove σ0 σ_18 := (f4.trans f); ite_m (fun _ h6 => fx_isAbove_j114 hG f5 h6 kQ kX68) (fun _ h6 => fx_isAbove_j109 hG f5 h6 kQ kX68) h5)) (fun _ _ h => h)))) h2))) (fun _ h1 => fx_isAbove_j121 hG fr h1 kQ) h.2⟩
theorem fx_isAbove_L68 {v1 : Int} {v2 : Int} {v3 : Int} {v4 : Int} {σ0 σ : S} {Q Q2 : Int → S → Prop} {G : Orc} (hG : FrO wX_isAbove G) (fr : Fr wX_isAbove σ0 σ) (h : x_isAbove_L68 G v1 v2 v3 v4 σ Q) (kQ : ∀ r s, Fr wX_isAbove σ0 s → Q r s → Q2 r s) : x_isAbove_L68 G v1 v2 v3 v4 σ Q2 := by
  unfold x_isAbove_L68 at h ⊢
  intro Y hY
  exact h (fun v3 v4 s => Fr wX_isAbove σ0 s → Y v3 v4 s) (fun v3 v4 s h f => hY v3 v4 s (fx_isAbove_L68_b (v1 := v1) (v2 := v2) (v3 := v3) (v4 := v4) (Q := Q) (Q2 := Q2) (X68 := fun v3 v4 s => Fr wX_isAbove σ0 s → Y v3 v4 s) (X682 := Y) hG f h kQ (fun v3 v4 s f h => h f))) fr
theorem lx_isAbove_L68 {v1 : Int} {v2 : Int} {v3 : Int} {v4 : Int} {σ0 : S} {Q : Int → S → Prop} {G : Orc} (hG : FrO wX_isAbove G) (I : Int → Int → S → Prop) (me : Int → Int → S → Nat) (h0 : I v3 v4 σ0) (step : ∀ (v3 : Int) (v4 : Int) (s : S), Fr wX_isAbove σ0 s → I v3 v4 s → (fun (Y0 : Int → Int → S → Prop) => inb v1 200000 ∧ (if (v4 < gA s 68 v1) ∧ (v3 = 0) then x_at v1 v4 s (fun r_13 σ_12 => (if r_13 = v2 then x_isAbove_j109 G v1 v2 v4 σ_12 Q Y0 else x_at v1 v4 σ_12 (fun r_17 σ_16 => G 0 [r_17, v2] σ_16 (fun r_19 σ_18 => (if r_19 = 0 then x_isAbove_j114 G v1 v2 v4 0 σ_18 Q Y0 else x_isAbove_j109 G v1 v2 v4 σ_18 Q Y0)) (fun _ => False)))) else x_isAbove_j121 G v1 v2 v3 s Q)) (fun v3' v4' s' => I v3' v4' s' ∧ me v3' v4' s' < me v3 v4 s)) : x_isAbove_L68 G v1 v2 v3 v4 σ0 Q := by
  unfold x_isAbove_L68
  intro Y hY
  have key : ∀ (n : Nat) (v3 : Int) (v4 : Int) (s : S), me v3 v4 s < n → Fr wX_isAbove σ0 s → I v3 v4 s → Y v3 v4 s := by
    intro n
    induction n with
    | zero => intro v3 v4 s h; exact absurd h (Nat.not_lt_zero _)
    | succ n ih =>
      intro v3 v4 s hm fr hi
      exact hY v3 v4 s (fx_isAbove_L68_b (v1 := v1) (v2 := v2) (v3 := v3) (v4 := v4) (Q := Q) (Q2 := Q) (X68 := (fun v3' v4' s' => I v3' v4' s' ∧ me v3' v4' s' < me v3 v4 s)) (X682 := Y) hG fr (step v3 v4 s fr hi) (fun _ _ _ h => h) (fun v3 v4 s f h => ih v3 v4 s (by omega) f h.1))
  exact key _ v3 v4 σ0 (Nat.lt_succ_self _) Fr.rf h0
theorem fx_isAbove_j63 {v1 : Int} {v2 : Int} {σ0 σ : S} {Q Q2 : Int → S → Prop} {G : Orc} (hG : FrO wX_isAbove G) (fr : Fr wX_isAbove σ0 σ) (h : x_isAbove_j63 G v1 v2 σ Q) (kQ : ∀ r s, Fr wX_isAbove σ0 s → Q r s → Q2 r s) : x_isAbove_j63 G v1 v2 σ Q2 := by
  unfold x_isAbove_j63 at h ⊢
  exact fx_isAbove_L68 hG fr h kQ
theorem fx_isAbove_j41 {v3 : Int} {σ0 σ : S} {Q Q2 : Int → S → Prop} {G : Orc} (hG : FrO wX_isAbove G) (fr : Fr wX_isAbove σ0 σ) (h : x_isAbove_j41 G v3 σ Q) (kQ : ∀ r s, Fr wX_isAbove σ0 s → Q r s → Q2 r s) : x_isAbove_j41 G v3 σ Q2 := by
  unfold x_isAbove_j41 at h ⊢
  exact ⟨h.1, kQ _ _ fr h.2⟩
theorem fx_isAbove_L13_b {v1 : Int} {v2 : Int} {v3 : Int} {σ0 σ : S} {Q Q2 : Int → S → Prop} {X13 X132 : Int → S → Prop} {G : Orc} (hG : FrO wX_isAbove G) (fr : Fr wX_isAbove σ0 σ) (h : (if v3 < gI σ 188 then inb v3 1600 ∧ ((gA σ 120 v3 = v1) → (inb v3 1600)) ∧ (if (gA σ 120 v3 = v1) ∧ (gA σ 121 v3 = v2) then x_isAbove_j41 G v3 σ Q else X13 (w32 (v3 + 1)) σ) else x_isAbove_j63 G v1 v2 σ Q)) (kQ : ∀ r s, Fr wX_isAbove σ0 s → Q r s → Q2 r s) (kX13 : ∀ v3 s, Fr wX_isAbove σ0 s → X13 v3 s → X132 v3 s) : (if v3 < gI σ 188 then inb v3 1600 ∧ ((gA σ 120 v3 = v1) → (inb v3 1600)) ∧ (if (gA σ 120 v3 = v1) ∧ (gA σ 121 v3 = v2) then x_isAbove_j41 G v3 σ Q2 else X132 (w32 (v3 + 1)) σ) else x_isAbove_j63 G v1 v2 σ Q2) :=
  ite_m (fun _ h0 => ⟨h0.1, ⟨h0.2.1, ite_m (fun _ h3 => fx_isAbove_j41 hG fr h3 kQ) (fun _ h3 => kX13 _ _ fr h3) h0.2.2⟩⟩) (fun _ h0 => fx_isAbove_j63 hG fr h0 kQ) h
theorem fx_isAbove_L13 {v1 : Int} {v2 : Int} {v3 : Int} {σ0 σ : S} {Q Q2 : Int → S → Prop} {G : Orc} (hG : FrO wX_isAbove G) (fr : Fr wX_isAbove σ0 σ) (h : x_isAbove_L13 G v1 v2 v3 σ Q) (kQ : ∀ r s, Fr wX_isAbove σ0 s → Q r s → Q2 r s) : x_isAbove_L13 G v1 v2 v3 σ Q2 := by
  unfold x_isAbove_L13 at h ⊢
  intro Y hY
  exact h (fun v3 s => Fr wX_isAbove σ0 s → Y v3 s) (fun v3 s h f => hY v3 s (fx_isAbove_L13_b (v1 := v1) (v2 := v2) (v3 := v3) (Q := Q) (Q2 := Q2) (X13 := fun v3 s => Fr wX_isAbove σ0 s → Y v3 s) (X132 := Y) hG f h kQ (fun v3 s f h => h f))) fr
theorem lx_isAbove_L13 {v1 : Int} {v2 : Int} {v3 : Int} {σ0 : S} {Q : Int → S → Prop} {G : Orc} (hG : FrO wX_isAbove G) (I : Int → S → Prop) (me : Int → S → Nat) (h0 : I v3 σ0) (step : ∀ (v3 : Int) (s : S), Fr wX_isAbove σ0 s → I v3 s → (fun (Y0 : Int → S → Prop) => (if v3 < gI s 188 then inb v3 1600 ∧ ((gA s 120 v3 = v1) → (inb v3 1600)) ∧ (if (gA s 120 v3 = v1) ∧ (gA s 121 v3 = v2) then x_isAbove_j41 G v3 s Q else Y0 (w32 (v3 + 1)) s) else x_isAbove_j63 G v1 v2 s Q)) (fun v3' s' => I v3' s' ∧ me v3' s' < me v3 s)) : x_isAbove_L13 G v1 v2 v3 σ0 Q := by
  unfold x_isAbove_L13
  intro Y hY
  have key : ∀ (n : Nat) (v3 : Int) (s : S), me v3 s < n → Fr wX_isAbove σ0 s → I v3 s → Y v3 s := by
    intro n
    induction n with
    | zero => intro v3 s h; exact absurd h (Nat.not_lt_zero _)
    | succ n ih =>
      intro v3 s hm fr hi
      exact hY v3 s (fx_isAbove_L13_b (v1 := v1) (v2 := v2) (v3 := v3) (Q := Q) (Q2 := Q) (X13 := (fun v3' s' => I v3' s' ∧ me v3' s' < me v3 s)) (X132 := Y) hG fr (step v3 s fr hi) (fun _ _ _ h => h) (fun v3 s f h => ih v3 s (by omega) f h.1))
  exact key _ v3 σ0 (Nat.lt_succ_self _) Fr.rf h0
theorem fx_isAbove_F {v1 : Int} {v2 : Int} {σ0 : S} {Q Q2 : Int → S → Prop} {G : Orc} (hG : FrO wX_isAbove G) (h : x_isAbove_F G v1 v2 σ0 Q) (kQ : ∀ r s, Fr wX_isAbove σ0 s → Q r s → Q2 r s) : x_isAbove_F G v1 v2 σ0 Q2 := by
  have fr : Fr wX_isAbove σ0 σ0 := Fr.rf
  unfold x_isAbove_F at h ⊢
  exact ⟨h.1, ite_m (fun _ h1 => kQ _ _ fr h1) (fun _ h1 => fx_isAbove_L13 hG fr h1 kQ) h.2⟩
theorem fx_isAboveRow_j123 {v1 : Int} {v2 : Int} {v4 : Int} {σ0 σ : S} {Q Q2 : Int → S → Prop} {G : Orc} (hG : FrO wX_isAboveRow G) (fr : Fr wX_isAboveRow σ0 σ) (h : x_isAboveRow_j123 G v1 v2 v4 σ Q) (kQ : ∀ r s, Fr wX_isAboveRow σ0 s → Q r s → Q2 r s) : x_isAboveRow_j123 G v1 v2 v4 σ Q2 := by
  unfold x_isAboveRow_j123 at h ⊢
  exact fm_x_at h (fun r_30 σ_29 f h0 => (have f0 : Fr wX_isAboveRow σ0 σ_29 := (fr.trans (f.weak (by decide +kernel))); fm_x_at h0 (fun r_32 σ_31 f h1 => (have f1 : Fr wX_isAboveRow σ0 σ_31 := (f0.trans (f.weak (by decide +kernel))); hG _ _ _ _ _ _ _ h1 (fun r_34 σ_33 f h2 => (have f2 : Fr wX_isAboveRow σ0 σ_33 := (f1.trans f); kQ _ _ f2 h2)) (fun _ _ h => h)))))
theorem fx_isAboveRow_L95_b {v1 : Int} {v2 : Int} {v4 : Int} {σ0 σ : S} {Q Q2 : Int → S → Prop} {X95 X952 : Int → S → Prop} {G : Orc} (hG : FrO wX_isAboveRow G) (fr : Fr wX_isAboveRow σ0 σ) (h : inb v1 200000 ∧ (if v4 < gA σ 68 v1 then x_at v1 v4 σ (fun r_24 σ_23 => x_at v2 v4 σ_23 (fun r_26 σ_25 => (if r_24 = r_26 then X95 (w32 (v4 + 1)) σ_25 else x_isAboveRow_j123 G v1 v2 v4 σ_25 Q))) else Q 0 σ)) (kQ : ∀ r s, Fr wX_isAboveRow σ0 s → Q r s → Q2 r s) (kX95 : ∀ v4 s, Fr wX_isAboveRow σ0 s → X95 v4 s → X952 v4 s) : inb v1 200000 ∧ (if v4 < gA σ 68 v1 then x_at v1 v4 σ (fun r_24 σ_23 => x_at v2 v4 σ_23 (fun r_26 σ_25 => (if r_24 = r_26 then X952 (w32 (v4 + 1)) σ_25 else x_isAboveRow_j123 G v1 v2 v4 σ_25 Q2))) else Q2 0 σ) :=
  ⟨h.1, ite_m (fun _ h1 => fm_x_at h1 (fun r_24 σ_23 f h2 => (have f2 : Fr wX_isAboveRow σ0 σ_23 := (fr.trans (f.weak (by decide +kernel))); fm_x_at h2 (fun r_26 σ_25 f h3 => (have f3 : Fr wX_isAboveRow σ0 σ_25 := (f2.trans (f.weak (by decide +kernel))); ite_m (fun _ h4 => kX95 _ _ f3 h4) (fun _ h4 => fx_isAboveRow_j123 hG f3 h4 kQ) h3))))) (fun _ h1 => kQ _ _ fr h1) h.2⟩
theorem fx_isAboveRow_L95 {v1 : Int} {v2 : Int} {v4 : Int} {σ0 σ : S} {Q Q2 : Int → S → Prop} {G : Orc} (hG : FrO wX_isAboveRow G) (fr : Fr wX_isAboveRow σ0 σ) (h : x_isAboveRow_L95 G v1 v2 v4 σ Q) (kQ : ∀ r s, Fr wX_isAboveRow σ0 s → Q r s → Q2 r s) : x_isAboveRow_L95 G v1 v2 v4 σ Q2 := by
  unfold x_isAboveRow_L95 at h ⊢
  intro Y hY
  exact h (fun v4 s => Fr wX_isAboveRow σ0 s → Y v4 s) (fun v4 s h f => hY v4 s (fx_isAboveRow_L95_b (v1 := v1) (v2 := v2) (v4 := v4) (Q := Q) (Q2 := Q2) (X95 := fun v4 s => Fr wX_isAboveRow σ0 s → Y v4 s) (X952 := Y) hG f h kQ (fun v4 s f h => h f))) fr
theorem lx_isAboveRow_L95 {v1 : Int} {v2 : Int} {v4 : Int} {σ0 : S} {Q : Int → S → Prop} {G : Orc} (hG : FrO wX_isAboveRow G) (I : Int → S → Prop) (me : Int → S → Nat) (h0 : I v4 σ0) (step : ∀ (v4 : Int) (s : S), Fr wX_isAboveRow σ0 s → I v4 s → (fun (Y0 : Int → S → Prop) => inb v1 200000 ∧ (if v4 < gA s 68 v1 then x_at v1 v4 s (fun r_24 σ_23 => x_at v2 v4 σ_23 (fun r_26 σ_25 => (if r_24 = r_26 then Y0 (w32 (v4 + 1)) σ_25 else x_isAboveRow_j123 G v1 v2 v4 σ_25 Q))) else Q 0 s)) (fun v4' s' => I v4' s' ∧ me v4' s' < me v4 s)) : x_isAboveRow_L95 G v1 v2 v4 σ0 Q := by
  unfold x_isAboveRow_L95
  intro Y hY
  have key : ∀ (n : Nat) (v4 : Int) (s : S), me v4 s < n → Fr wX_isAboveRow σ0 s → I v4 s → Y v4 s := by
    intro n
    induction n with
    | zero => intro v4 s h; exact absurd h (Nat.not_lt_zero _)
    | succ n ih =>
      intro v4 s hm fr hi
      exact hY v4 s (fx_isAboveRow_L95_b (v1 := v1) (v2 := v2) (v4 := v4) (Q := Q) (Q2 := Q) (X95 := (fun v4' s' => I v4' s' ∧ me v4' s' < me v4 s)) (X952 := Y) hG fr (step v4 s fr hi) (fun _ _ _ h => h) (fun v4 s f h => ih v4 s (by omega) f h.1))
  exact key _ v4 σ0 (Nat.lt_succ_self _) Fr.rf h0
theorem fx_isAboveRow_j34 {v1 : Int} {v2 : Int} {σ0 σ : S} {Q Q2 : Int → S → Prop} {G : Orc} (hG : FrO wX_isAboveRow G) (fr : Fr wX_isAboveRow σ0 σ) (h : x_isAboveRow_j34 G v1 v2 σ Q) (kQ : ∀ r s, Fr wX_isAboveRow σ0 s → Q r s → Q2 r s) : x_isAboveRow_j34 G v1 v2 σ Q2 := by
  unfold x_isAboveRow_j34 at h ⊢
  exact ⟨h.1, ⟨h.2.1, ite_m (fun _ h2 => ⟨h2.1, ⟨h2.2.1, ite_m (fun _ h5 => hG _ _ _ _ _ _ _ h5 (fun r_18 σ_17 f h6 => (have f6 : Fr wX_isAboveRow σ0 σ_17 := (fr.trans f); kQ _ _ f6 h6)) (fun _ _ h => h)) (fun _ h5 => fx_isAboveRow_L95 hG fr h5 kQ) h2.2.2⟩⟩) (fun _ h2 => ⟨h2.1, kQ _ _ fr h2.2⟩) h.2.2⟩⟩
theorem fx_isAboveRow_L2_b {v1 : Int} {v2 : Int} {v3 : Int} {σ0 σ : S} {Q Q2 : Int → S → Prop} {X2 X22 : Int → S → Prop} {G : Orc} (hG : FrO wX_isAboveRow G) (fr : Fr wX_isAboveRow σ0 σ) (h : inb v2 200000 ∧ (if v3 < gA σ 68 v2 then x_at v2 v3 σ (fun r_44 σ_43 => G 0 [v1, r_44] σ_43 (fun r_46 σ_45 => (if r_46 = 0 then Q 0 σ_45 else X2 (w32 (v3 + 1)) σ_45)) (fun _ => False)) else x_isAboveRow_j34 G v1 v2 σ Q)) (kQ : ∀ r s, Fr wX_isAboveRow σ0 s → Q r s → Q2 r s) (kX2 : ∀ v3 s, Fr wX_isAboveRow σ0 s → X2 v3 s → X22 v3 s) : inb v2 200000 ∧ (if v3 < gA σ 68 v2 then x_at v2 v3 σ (fun r_44 σ_43 => G 0 [v1, r_44] σ_43 (fun r_46 σ_45 => (if r_46 = 0 then Q2 0 σ_45 else X22 (w32 (v3 + 1)) σ_45)) (fun _ => False)) else x_isAboveRow_j34 G v1 v2 σ Q2) :=
  ⟨h.1, ite_m (fun _ h1 => fm_x_at h1 (fun r_44 σ_43 f h2 => (have f2 : Fr wX_isAboveRow σ0 σ_43 := (fr.trans (f.weak (by decide +kernel))); hG _ _ _ _ _ _ _ h2 (fun r_46 σ_45 f h3 => (have f3 : Fr wX_isAboveRow σ0 σ_45 := (f2.trans f); ite_m (fun _ h4 => kQ _ _ f3 h4) (fun _ h4 => kX2 _ _ f3 h4) h3)) (fun _ _ h => h)))) (fun _ h1 => fx_isAboveRow_j34 hG fr h1 kQ) h.2⟩
theorem fx_isAboveRow_L2 {v1 : Int} {v2 : Int} {v3 : Int} {σ0 σ : S} {Q Q2 : Int → S → Prop} {G : Orc} (hG : FrO wX_isAboveRow G) (fr : Fr wX_isAboveRow σ0 σ) (h : x_isAboveRow_L2 G v1 v2 v3 σ Q) (kQ : ∀ r s, Fr wX_isAboveRow σ0 s → Q r s → Q2 r s) : x_isAboveRow_L2 G v1 v2 v3 σ Q2 := by
  unfold x_isAboveRow_L2 at h ⊢
  intro Y hY
  exact h (fun v3 s => Fr wX_isAboveRow σ0 s → Y v3 s) (fun v3 s h f => hY v3 s (fx_isAboveRow_L2_b (v1 := v1) (v2 := v2) (v3 := v3) (Q := Q) (Q2 := Q2) (X2 := fun v3 s => Fr wX_isAboveRow σ0 s → Y v3 s) (X22 := Y) hG f h kQ (fun v3 s f h => h f))) fr
theorem lx_isAboveRow_L2 {v1 : Int} {v2 : Int} {v3 : Int} {σ0 : S} {Q : Int → S → Prop} {G : Orc} (hG : FrO wX_isAboveRow G) (I : Int → S → Prop) (me : Int → S → Nat) (h0 : I v3 σ0) (step : ∀ (v3 : Int) (s : S), Fr wX_isAboveRow σ0 s → I v3 s → (fun (Y0 : Int → S → Prop) => inb v2 200000 ∧ (if v3 < gA s 68 v2 then x_at v2 v3 s (fun r_44 σ_43 => G 0 [v1, r_44] σ_43 (fun r_46 σ_45 => (if r_46 = 0 then Q 0 σ_45 else Y0 (w32 (v3 + 1)) σ_45)) (fun _ => False)) else x_isAboveRow_j34 G v1 v2 s Q)) (fun v3' s' => I v3' s' ∧ me v3' s' < me v3 s)) : x_isAboveRow_L2 G v1 v2 v3 σ0 Q := by
  unfold x_isAboveRow_L2
  intro Y hY
  have key : ∀ (n : Nat) (v3 : Int) (s : S), me v3 s < n → Fr wX_isAboveRow σ0 s → I v3 s → Y v3 s := by
    intro n
    induction n with
    | zero => intro v3 s h; exact absurd h (Nat.not_lt_zero _)
    | succ n ih =>
      intro v3 s hm fr hi
      exact hY v3 s (fx_isAboveRow_L2_b (v1 := v1) (v2 := v2) (v3 := v3) (Q := Q) (Q2 := Q) (X2 := (fun v3' s' => I v3' s' ∧ me v3' s' < me v3 s)) (X22 := Y) hG fr (step v3 s fr hi) (fun _ _ _ h => h) (fun v3 s f h => ih v3 s (by omega) f h.1))
  exact key _ v3 σ0 (Nat.lt_succ_self _) Fr.rf h0
theorem fx_isAboveRow_F {v1 : Int} {v2 : Int} {σ0 : S} {Q Q2 : Int → S → Prop} {G : Orc} (hG : FrO wX_isAboveRow G) (h : x_isAboveRow_F G v1 v2 σ0 Q) (kQ : ∀ r s, Fr wX_isAboveRow σ0 s → Q r s → Q2 r s) : x_isAboveRow_F G v1 v2 σ0 Q2 := by
  have fr : Fr wX_isAboveRow σ0 σ0 := Fr.rf
  unfold x_isAboveRow_F at h ⊢
  exact fx_isAboveRow_L2 hG fr h kQ
theorem fx_isAboveBag_j137 {v1 : Int} {v2 : Int} {v4 : Int} {v5 : Int} {σ0 σ : S} {Q Q2 : Int → S → Prop} {X39 X392 : Int → Int → S → Prop} {G : Orc} (hG : FrO wX_isAboveBag G) (fr : Fr wX_isAboveBag σ0 σ) (h : x_isAboveBag_j137 G v1 v2 v4 v5 σ Q X39) (kQ : ∀ r s, Fr wX_isAboveBag σ0 s → Q r s → Q2 r s) (kX39 : ∀ a0 a1 s, Fr wX_isAboveBag σ0 s → X39 a0 a1 s → X392 a0 a1 s) : x_isAboveBag_j137 G v1 v2 v4 v5 σ Q2 X392 := by
  unfold x_isAboveBag_j137 at h ⊢
  exact kX39 _ _ _ fr h
theorem fx_isAboveBag_j125 {v1 : Int} {v2 : Int} {v5 : Int} {v7 : Int} {s0 : Int} {σ0 σ : S} {Q Q2 : Int → S → Prop} {X39 X392 : Int → Int → S → Prop} {X72 X722 : Int → Int → S → Prop} {G : Orc} (hG : FrO wX_isAboveBag G) (fr : Fr wX_isAboveBag σ0 σ) (h : x_isAboveBag_j125 G v1 v2 v5 v7 s0 σ Q X39 X72) (kQ : ∀ r s, Fr wX_isAboveBag σ0 s → Q r s → Q2 r s) (kX39 : ∀ a0 a1 s, Fr wX_isAboveBag σ0 s → X39 a0 a1 s → X392 a0 a1 s) (kX72 : ∀ a0 a1 s, Fr wX_isAboveBag σ0 s → X72 a0 a1 s → X722 a0 a1 s) : x_isAboveBag_j125 G v1 v2 v5 v7 s0 σ Q2 X392 X722 := by
  unfold x_isAboveBag_j125 at h ⊢
  exact kX72 _ _ _ fr h
theorem fx_isAboveBag_j124 {v1 : Int} {v2 : Int} {v5 : Int} {v7 : Int} {σ0 σ : S} {Q Q2 : Int → S → Prop} {X39 X392 : Int → Int → S → Prop} {X72 X722 : Int → Int → S → Prop} {G : Orc} (hG : FrO wX_isAboveBag G) (fr : Fr wX_isAboveBag σ0 σ) (h : x_isAboveBag_j124 G v1 v2 v5 v7 σ Q X39 X72) (kQ : ∀ r s, Fr wX_isAboveBag σ0 s → Q r s → Q2 r s) (kX39 : ∀ a0 a1 s, Fr wX_isAboveBag σ0 s → X39 a0 a1 s → X392 a0 a1 s) (kX72 : ∀ a0 a1 s, Fr wX_isAboveBag σ0 s → X72 a0 a1 s → X722 a0 a1 s) : x_isAboveBag_j124 G v1 v2 v5 v7 σ Q2 X392 X722 := by
  unfold x_isAboveBag_j124 at h ⊢
  exact fx_isAboveBag_j125 hG fr h kQ kX39 kX72
theorem fx_isAboveBag_j133 {v1 : Int} {v2 : Int} {v5 : Int} {v6 : Int} {σ0 σ : S} {Q Q2 : Int → S → Prop} {X39 X392 : Int → Int → S → Prop} {G : Orc} (hG : FrO wX_isAboveBag G) (fr : Fr wX_isAboveBag σ0 σ) (h : x_isAboveBag_j133 G v1 v2 v5 v6 σ Q X39) (kQ : ∀ r s, Fr wX_isAboveBag σ0 s → Q r s → Q2 r s) (kX39 : ∀ a0 a1 s, Fr wX_isAboveBag σ0 s → X39 a0 a1 s → X392 a0 a1 s) : x_isAboveBag_j133 G v1 v2 v5 v6 σ Q2 X392 := by
  unfold x_isAboveBag_j133 at h ⊢
  exact fx_isAboveBag_j137 hG fr h kQ kX39
theorem fx_isAboveBag_L72_b {v1 : Int} {v2 : Int} {v5 : Int} {v6 : Int} {v7 : Int} {σ0 σ : S} {Q Q2 : Int → S → Prop} {X39 X392 : Int → Int → S → Prop} {X72 X722 : Int → Int → S → Prop} {G : Orc} (hG : FrO wX_isAboveBag G) (fr : Fr wX_isAboveBag σ0 σ) (h : inb v1 200000 ∧ (if (v7 < gA σ 68 v1) ∧ (v6 = 0) then x_isLeft v1 v7 v2 σ (fun r_18 σ_17 => (if r_18 = 0 then x_isAboveBag_j124 G v1 v2 v5 v7 σ_17 Q X39 X72 else x_at v1 v7 σ_17 (fun r_22 σ_21 => x_at v2 v5 σ_21 (fun r_24 σ_23 => G 0 [r_22, r_24] σ_23 (fun r_26 σ_25 => (if r_26 = 0 then x_isAboveBag_j124 G v1 v2 v5 v7 σ_25 Q X39 X72 else x_isAboveBag_j125 G v1 v2 v5 v7 1 σ_25 Q X39 X72)) (fun _ => False))))) else x_isAboveBag_j133 G v1 v2 v5 v6 σ Q X39)) (kQ : ∀ r s, Fr wX_isAboveBag σ0 s → Q r s → Q2 r s) (kX39 : ∀ a0 a1 s, Fr wX_isAboveBag σ0 s → X39 a0 a1 s → X392 a0 a1 s) (kX72 : ∀ v6 v7 s, Fr wX_isAboveBag σ0 s → X72 v6 v7 s → X722 v6 v7 s) : inb v1 200000 ∧ (if (v7 < gA σ 68 v1) ∧ (v6 = 0) then x_isLeft v1 v7 v2 σ (fun r_18 σ_17 => (if r_18 = 0 then x_isAboveBag_j124 G v1 v2 v5 v7 σ_17 Q2 X392 X722 else x_at v1 v7 σ_17 (fun r_22 σ_21 => x_at v2 v5 σ_21 (fun r_24 σ_23 => G 0 [r_22, r_24] σ_23 (fun r_26 σ_25 => (if r_26 = 0 then x_isAboveBag_j124 G v1 v2 v5 v7 σ_25 Q2 X392 X722 else x_isAboveBag_j125 G v1 v2 v5 v7 1 σ_25 Q2 X392 X722)) (fun _ => False))))) else x_isAboveBag_j133 G v1 v2 v5 v6 σ Q2 X392) :=
  ⟨h.1, ite_m (fun _ h1 => fm_x_isLeft h1 (fun r_18 σ_17 f h2 => (have f2 : Fr wX_isAboveBag σ0 σ_17 := (fr.trans (f.weak (by decide +kernel))); ite_m (fun _ h3 => fx_isAboveBag_j124 hG f2 h3 kQ kX39 kX72) (fun _ h3 => fm_x_at h3 (fun r_22 σ_21 f h4 => (have f4 : Fr wX_isAboveBag σ0 σ_21 := (f2.trans (f.weak (by decide +kernel))); fm_x_at h4 (fun r_24 σ_23 f h5 => (have f5 : Fr wX_isAboveBag σ0 σ_23 := (f4.trans (f.weak (by decide +kernel))); hG _ _ _ _ _ _ _ h5 (fun r_26 σ_25 f h6 => (have f6 : Fr wX_isAboveBag σ0 σ_25 := (f5.trans f); ite_m (fun _ h7 => fx_isAboveBag_j124 hG f6 h7 kQ kX39 kX72) (fun _ h7 => fx_isAboveBag_j125 hG f6 h7 kQ kX39 kX72) h6)) (fun _ _ h => h)))))) h2))) (fun _ h1 => fx_isAboveBag_j133 hG fr h1 kQ kX39) h.2⟩
theorem fx_isAboveBag_L72 {v1 : Int} {v2 : Int} {v5 : Int} {v6 : Int} {v7 : Int} {σ0 σ : S} {Q Q2 : Int → S → Prop} {X39 X392 : Int → Int → S → Prop} {G : Orc} (hG : FrO wX_isAboveBag G) (fr : Fr wX_isAboveBag σ0 σ) (h : x_isAboveBag_L72 G v1 v2 v5 v6 v7 σ Q X39) (kQ : ∀ r s, Fr wX_isAboveBag σ0 s → Q r s → Q2 r s) (kX39 : ∀ a0 a1 s, Fr wX_isAboveBag σ0 s → X39 a0 a1 s → X392 a0 a1 s) : x_isAboveBag_L72 G v1 v2 v5 v6 v7 σ Q2 X392 := by
  unfold x_isAboveBag_L72 at h ⊢
  intro Y hY
  exact h (fun v6 v7 s => Fr wX_isAboveBag σ0 s → Y v6 v7 s) (fun v6 v7 s h f => hY v6 v7 s (fx_isAboveBag_L72_b (v1 := v1) (v2 := v2) (v5 := v5) (v6 := v6) (v7 := v7) (Q := Q) (Q2 := Q2) (X39 := X39) (X392 := X392) (X72 := fun v6 v7 s => Fr wX_isAboveBag σ0 s → Y v6 v7 s) (X722 := Y) hG f h kQ kX39 (fun v6 v7 s f h => h f))) fr
theorem lx_isAboveBag_L72 {v1 : Int} {v2 : Int} {v5 : Int} {v6 : Int} {v7 : Int} {σ0 : S} {Q : Int → S → Prop} {X39 : Int → Int → S → Prop} {G : Orc} (hG : FrO wX_isAboveBag G) (I : Int → Int → S → Prop) (me : Int → Int → S → Nat) (h0 : I v6 v7 σ0) (step : ∀ (v6 : Int) (v7 : Int) (s : S), Fr wX_isAboveBag σ0 s → I v6 v7 s → (fun (Y0 : Int → Int → S → Prop) => inb v1 200000 ∧ (if (v7 < gA s 68 v1) ∧ (v6 = 0) then x_isLeft v1 v7 v2 s (fun r_18 σ_17 => (if r_18 = 0 then x_isAboveBag_j124 G v1 v2 v5 v7 σ_17 Q X39 Y0 else x_at v1 v7 σ_17 (fun r_22 σ_21 => x_at v2 v5 σ_21 (fun r_24 σ_23 => G 0 [r_22, r_24] σ_23 (fun r_26 σ_25 => (if r_26 = 0 then x_isAboveBag_j124 G v1 v2 v5 v7 σ_25 Q X39 Y0 else x_isAboveBag_j125 G v1 v2 v5 v7 1 σ_25 Q X39 Y0)) (fun _ => False))))) else x_isAboveBag_j133 G v1 v2 v5 v6 s Q X39)) (fun v6' v7' s' => I v6' v7' s' ∧ me v6' v7' s' < me v6 v7 s)) : x_isAboveBag_L72 G v1 v2 v5 v6 v7 σ0 Q X39 := by
  unfold x_isAboveBag_L72
  intro Y hY
  have key : ∀ (n : Nat) (v6 : Int) (v7 : Int) (s : S), me v6 v7 s < n → Fr wX_isAboveBag σ0 s → I v6 v7 s → Y v6 v7 s := by
    intro n
    induction n with
    | zero => intro v6 v7 s h; exact absurd h (Nat.not_lt_zero _)
    | succ n ih =>
      intro v6 v7 s hm fr hi
      exact hY v6 v7 s (fx_isAboveBag_L72_b (v1 := v1) (v2 := v2) (v5 := v5) (v6 := v6) (v7 := v7) (Q := Q) (Q2 := Q) (X39 := X39) (X392 := X39) (X72 := (fun v6' v7' s' => I v6' v7' s' ∧ me v6' v7' s' < me v6 v7 s)) (X722 := Y) hG fr (step v6 v7 s fr hi) (fun _ _ _ h => h) (fun _ _ _ _ h => h) (fun v6 v7 s f h => ih v6 v7 s (by omega) f h.1))
  exact key _ v6 v7 σ0 (Nat.lt_succ_self _) Fr.rf h0
theorem fx_isAboveBag_L39_b {v1 : Int} {v2 : Int} {v4 : Int} {v5 : Int} {σ0 σ : S} {Q Q2 : Int → S → Prop} {X39 X392 : Int → Int → S → Prop} {G : Orc} (hG : FrO wX_isAboveBag G) (fr : Fr wX_isAboveBag σ0 σ) (h : inb v2 200000 ∧ (if (v5 < gA σ 68 v2) ∧ (¬ (v4 = 0)) then x_isLeft v2 v5 v1 σ (fun r_10 σ_9 => (if r_10 = 0 then x_isAboveBag_j137 G v1 v2 v4 v5 σ_9 Q X39 else x_isAboveBag_L72 G v1 v2 v5 0 0 σ_9 Q X39)) else Q v4 σ)) (kQ : ∀ r s, Fr wX_isAboveBag σ0 s → Q r s → Q2 r s) (kX39 : ∀ v4 v5 s, Fr wX_isAboveBag σ0 s → X39 v4 v5 s → X392 v4 v5 s) : inb v2 200000 ∧ (if (v5 < gA σ 68 v2) ∧ (¬ (v4 = 0)) then x_isLeft v2 v5 v1 σ (fun r_10 σ_9 => (if r_10 = 0 then x_isAboveBag_j137 G v1 v2 v4 v5 σ_9 Q2 X392 else x_isAboveBag_L72 G v1 v2 v5 0 0 σ_9 Q2 X392)) else Q2 v4 σ) :=
  ⟨h.1, ite_m (fun _ h1 => fm_x_isLeft h1 (fun r_10 σ_9 f h2 => (have f2 : Fr wX_isAboveBag σ0 σ_9 := (fr.trans (f.weak (by decide +kernel))); ite_m (fun _ h3 => fx_isAboveBag_j137 hG f2 h3 kQ kX39) (fun _ h3 => fx_isAboveBag_L72 hG f2 h3 kQ kX39) h2))) (fun _ h1 => kQ _ _ fr h1) h.2⟩
theorem fx_isAboveBag_L39 {v1 : Int} {v2 : Int} {v4 : Int} {v5 : Int} {σ0 σ : S} {Q Q2 : Int → S → Prop} {G : Orc} (hG : FrO wX_isAboveBag G) (fr : Fr wX_isAboveBag σ0 σ) (h : x_isAboveBag_L39 G v1 v2 v4 v5 σ Q) (kQ : ∀ r s, Fr wX_isAboveBag σ0 s → Q r s → Q2 r s) : x_isAboveBag_L39 G v1 v2 v4 v5 σ Q2 := by
  unfold x_isAboveBag_L39 at h ⊢
  intro Y hY
  exact h (fun v4 v5 s => Fr wX_isAboveBag σ0 s → Y v4 v5 s) (fun v4 v5 s h f => hY v4 v5 s (fx_isAboveBag_L39_b (v1 := v1) (v2 := v2) (v4 := v4) (v5 := v5) (Q := Q) (Q2 := Q2) (X39 := fun v4 v5 s => Fr wX_isAboveBag σ0 s → Y v4 v5 s) (X392 := Y) hG f h kQ (fun v4 v5 s f h => h f))) fr
theorem lx_isAboveBag_L39 {v1 : Int} {v2 : Int} {v4 : Int} {v5 : Int} {σ0 : S} {Q : Int → S → Prop} {G : Orc} (hG : FrO wX_isAboveBag G) (I : Int → Int → S → Prop) (me : Int → Int → S → Nat) (h0 : I v4 v5 σ0) (step : ∀ (v4 : Int) (v5 : Int) (s : S), Fr wX_isAboveBag σ0 s → I v4 v5 s → (fun (Y0 : Int → Int → S → Prop) => inb v2 200000 ∧ (if (v5 < gA s 68 v2) ∧ (¬ (v4 = 0)) then x_isLeft v2 v5 v1 s (fun r_10 σ_9 => (if r_10 = 0 then x_isAboveBag_j137 G v1 v2 v4 v5 σ_9 Q Y0 else x_isAboveBag_L72 G v1 v2 v5 0 0 σ_9 Q Y0)) else Q v4 s)) (fun v4' v5' s' => I v4' v5' s' ∧ me v4' v5' s' < me v4 v5 s)) : x_isAboveBag_L39 G v1 v2 v4 v5 σ0 Q := by
  unfold x_isAboveBag_L39
  intro Y hY
  have key : ∀ (n : Nat) (v4 : Int) (v5 : Int) (s : S), me v4 v5 s < n → Fr wX_isAboveBag σ0 s → I v4 v5 s → Y v4 v5 s := by
    intro n
    induction n with
    | zero => intro v4 v5 s h; exact absurd h (Nat.not_lt_zero _)
    | succ n ih =>
      intro v4 v5 s hm fr hi
      exact hY v4 v5 s (fx_isAboveBag_L39_b (v1 := v1) (v2 := v2) (v4 := v4) (v5 := v5) (Q := Q) (Q2 := Q) (X39 := (fun v4' v5' s' => I v4' v5' s' ∧ me v4' v5' s' < me v4 v5 s)) (X392 := Y) hG fr (step v4 v5 s fr hi) (fun _ _ _ h => h) (fun v4 v5 s f h => ih v4 v5 s (by omega) f h.1))
  exact key _ v4 v5 σ0 (Nat.lt_succ_self _) Fr.rf h0
theorem fx_isAboveBag_j33 {v1 : Int} {v2 : Int} {v3 : Int} {σ0 σ : S} {Q Q2 : Int → S → Prop} {G : Orc} (hG : FrO wX_isAboveBag G) (fr : Fr wX_isAboveBag σ0 σ) (h : x_isAboveBag_j33 G v1 v2 v3 σ Q) (kQ : ∀ r s, Fr wX_isAboveBag σ0 s → Q r s → Q2 r s) : x_isAboveBag_j33 G v1 v2 v3 σ Q2 := by
  unfold x_isAboveBag_j33 at h ⊢
  exact fx_isAboveBag_L39 hG fr h kQ
theorem fx_isAboveBag_L5_b {v1 : Int} {v2 : Int} {v3 : Int} {v4 : Int} {σ0 σ : S} {Q Q2 : Int → S → Prop} {X5 X52 : Int → Int → S → Prop} {G : Orc} (hG : FrO wX_isAboveBag G) (fr : Fr wX_isAboveBag σ0 σ) (h : inb v1 200000 ∧ (if v4 < gA σ 68 v1 then x_isLeft v1 v4 v2 σ (fun r_36 σ_35 => X5 (bOr v3 r_36) (w32 (v4 + 1)) σ_35) else x_isAboveBag_j33 G v1 v2 v3 σ Q)) (kQ : ∀ r s, Fr wX_isAboveBag σ0 s → Q r s → Q2 r s) (kX5 : ∀ v3 v4 s, Fr wX_isAboveBag σ0 s → X5 v3 v4 s → X52 v3 v4 s) : inb v1 200000 ∧ (if v4 < gA σ 68 v1 then x_isLeft v1 v4 v2 σ (fun r_36 σ_35 => X52 (bOr v3 r_36) (w32 (v4 + 1)) σ_35) else x_isAboveBag_j33 G v1 v2 v3 σ Q2) :=
  ⟨h.1, ite_m (fun _ h1 => fm_x_isLeft h1 (fun r_36 σ_35 f h2 => (have f2 : Fr wX_isAboveBag σ0 σ_35 := (fr.trans (f.weak (by decide +kernel))); kX5 _ _ _ f2 h2))) (fun _ h1 => fx_isAboveBag_j33 hG fr h1 kQ) h.2⟩
theorem fx_isAboveBag_L5 {v1 : Int} {v2 : Int} {v3 : Int} {v4 : Int} {σ0 σ : S} {Q Q2 : Int → S → Prop} {G : Orc} (hG : FrO wX_isAboveBag G) (fr : Fr wX_isAboveBag σ0 σ) (h : x_isAboveBag_L5 G v1 v2 v3 v4 σ Q) (kQ : ∀ r s, Fr wX_isAboveBag σ0 s → Q r s → Q2 r s) : x_isAboveBag_L5 G v1 v2 v3 v4 σ Q2 := by
  unfold x_isAboveBag_L5 at h ⊢
  intro Y hY
  exact h (fun v3 v4 s => Fr wX_isAboveBag σ0 s → Y v3 v4 s) (fun v3 v4 s h f => hY v3 v4 s (fx_isAboveBag_L5_b (v1 := v1) (v2 := v2) (v3 := v3) (v4 := v4) (Q := Q) (Q2 := Q2) (X5 := fun v3 v4 s => Fr wX_isAboveBag σ0 s → Y v3 v4 s) (X52 := Y) hG f h kQ (fun v3 v4 s f h => h f))) fr
theorem lx_isAboveBag_L5 {v1 : Int} {v2 : Int} {v3 : Int} {v4 : Int} {σ0 : S} {Q : Int → S → Prop} {G : Orc} (hG : FrO wX_isAboveBag G) (I : Int → Int → S → Prop) (me : Int → Int → S → Nat) (h0 : I v3 v4 σ0) (step : ∀ (v3 : Int) (v4 : Int) (s : S), Fr wX_isAboveBag σ0 s → I v3 v4 s → (fun (Y0 : Int → Int → S → Prop) => inb v1 200000 ∧ (if v4 < gA s 68 v1 then x_isLeft v1 v4 v2 s (fun r_36 σ_35 => Y0 (bOr v3 r_36) (w32 (v4 + 1)) σ_35) else x_isAboveBag_j33 G v1 v2 v3 s Q)) (fun v3' v4' s' => I v3' v4' s' ∧ me v3' v4' s' < me v3 v4 s)) : x_isAboveBag_L5 G v1 v2 v3 v4 σ0 Q := by
  unfold x_isAboveBag_L5
  intro Y hY
  have key : ∀ (n : Nat) (v3 : Int) (v4 : Int) (s : S), me v3 v4 s < n → Fr wX_isAboveBag σ0 s → I v3 v4 s → Y v3 v4 s := by
    intro n
    induction n with
    | zero => intro v3 v4 s h; exact absurd h (Nat.not_lt_zero _)
    | succ n ih =>
      intro v3 v4 s hm fr hi
      exact hY v3 v4 s (fx_isAboveBag_L5_b (v1 := v1) (v2 := v2) (v3 := v3) (v4 := v4) (Q := Q) (Q2 := Q) (X5 := (fun v3' v4' s' => I v3' v4' s' ∧ me v3' v4' s' < me v3 v4 s)) (X52 := Y) hG fr (step v3 v4 s fr hi) (fun _ _ _ h => h) (fun v3 v4 s f h => ih v3 v4 s (by omega) f h.1))
  exact key _ v3 v4 σ0 (Nat.lt_succ_self _) Fr.rf h0
theorem fx_isAboveBag_F {v1 : Int} {v2 : Int} {σ0 : S} {Q Q2 : Int → S → Prop} {G : Orc} (hG : FrO wX_isAboveBag G) (h : x_isAboveBag_F G v1 v2 σ0 Q) (kQ : ∀ r s, Fr wX_isAboveBag σ0 s → Q r s → Q2 r s) : x_isAboveBag_F G v1 v2 σ0 Q2 := by
  have fr : Fr wX_isAboveBag σ0 σ0 := Fr.rf
  unfold x_isAboveBag_F at h ⊢
  exact fx_isAboveBag_L5 hG fr h kQ
theorem fo_x_S_isAbove : ∀ n, FrO wX_isAbove (x_S_isAbove n)
  | 0 => fun _ _ _ _ _ _ _ h _ _ => h.elim
  | n + 1 => fun i a σ Q Q2 E E2 h kQ kE => by
    unfold x_S_isAbove at h ⊢
    split at h
    · exact fx_isAbove_F (fo_x_S_isAbove n) h kQ
    · exact fx_isAboveRow_F (fo_x_S_isAbove n) h kQ
    · exact fx_isAboveBag_F (fo_x_S_isAbove n) h kQ
    · exact h.elim
theorem fm_x_isAbove {v1 : Int} {v2 : Int} {σ0 : S} {Q Q2 : Int → S → Prop} (h : x_isAbove v1 v2 σ0 Q) (kQ : ∀ r s, Fr wX_isAbove σ0 s → Q r s → Q2 r s) : x_isAbove v1 v2 σ0 Q2 := fo_x_S_isAbove 260 _ _ _ _ _ _ _ h kQ (fun _ _ h => h)
theorem fm_x_isAboveRow {v1 : Int} {v2 : Int} {σ0 : S} {Q Q2 : Int → S → Prop} (h : x_isAboveRow v1 v2 σ0 Q) (kQ : ∀ r s, Fr wX_isAboveRow σ0 s → Q r s → Q2 r s) : x_isAboveRow v1 v2 σ0 Q2 := fo_x_S_isAbove 260 _ _ _ _ _ _ _ h kQ (fun _ _ h => h)
theorem fm_x_isAboveBag {v1 : Int} {v2 : Int} {σ0 : S} {Q Q2 : Int → S → Prop} (h : x_isAboveBag v1 v2 σ0 Q) (kQ : ∀ r s, Fr wX_isAboveBag σ0 s → Q r s → Q2 r s) : x_isAboveBag v1 v2 σ0 Q2 := fo_x_S_isAbove 260 _ _ _ _ _ _ _ h kQ (fun _ _ h => h)
theorem fm_x_isAboveAnew {v1 : Int} {v2 : Int} {σ0 : S} {Q Q2 : Int → S → Prop} (h : x_isAboveAnew v1 v2 σ0 Q) (kQ : ∀ r s, Fr wX_isAboveAnew σ0 s → Q r s → Q2 r s) : x_isAboveAnew v1 v2 σ0 Q2 := by
  have fr : Fr wX_isAboveAnew σ0 σ0 := Fr.rf
  unfold x_isAboveAnew at h ⊢
  exact fun σ_1 e0 => (have f0 : Fr wX_isAboveAnew σ0 σ_1 := Fr.putI fr e0 rfl; fm_x_isAbove (h σ_1 e0) (fun r_4 σ_3 f h1 => (have f1 : Fr wX_isAboveAnew σ0 σ_3 := (f0.trans (f.weak (by decide +kernel))); kQ _ _ f1 h1)))
theorem fx_falls_j94 {v1 : Int} {v3 : Int} {s0 : Int} {σ0 σ : S} {Q Q2 : Int → S → Prop} {X22 X222 : Int → Int → S → Prop} (fr : Fr wX_falls σ0 σ) (h : x_falls_j94 v1 v3 s0 σ Q X22) (kQ : ∀ r s, Fr wX_falls σ0 s → Q r s → Q2 r s) (kX22 : ∀ a0 a1 s, Fr wX_falls σ0 s → X22 a0 a1 s → X222 a0 a1 s) : x_falls_j94 v1 v3 s0 σ Q2 X222 := by
  unfold x_falls_j94 at h ⊢
  exact kX22 _ _ _ fr h
theorem fx_falls_j93 {v1 : Int} {v3 : Int} {σ0 σ : S} {Q Q2 : Int → S → Prop} {X22 X222 : Int → Int → S → Prop} (fr : Fr wX_falls σ0 σ) (h : x_falls_j93 v1 v3 σ Q X22) (kQ : ∀ r s, Fr wX_falls σ0 s → Q r s → Q2 r s) (kX22 : ∀ a0 a1 s, Fr wX_falls σ0 s → X22 a0 a1 s → X222 a0 a1 s) : x_falls_j93 v1 v3 σ Q2 X222 := by
  unfold x_falls_j93 at h ⊢
  exact fx_falls_j94 fr h kQ kX22
theorem fx_falls_j89 {v1 : Int} {v3 : Int} {σ0 σ : S} {Q Q2 : Int → S → Prop} {X22 X222 : Int → Int → S → Prop} (fr : Fr wX_falls σ0 σ) (h : x_falls_j89 v1 v3 σ Q X22) (kQ : ∀ r s, Fr wX_falls σ0 s → Q r s → Q2 r s) (kX22 : ∀ a0 a1 s, Fr wX_falls σ0 s → X22 a0 a1 s → X222 a0 a1 s) : x_falls_j89 v1 v3 σ Q2 X222 := by
  unfold x_falls_j89 at h ⊢
  exact fx_falls_j94 fr h kQ kX22
theorem fx_falls_L22_b {v1 : Int} {v2 : Int} {v3 : Int} {σ0 σ : S} {Q Q2 : Int → S → Prop} {X22 X222 : Int → Int → S → Prop} (fr : Fr wX_falls σ0 σ) (h : inb v1 70 ∧ (if (v3 < w32 (w32 (6 * v1) + (gA σ 32 v1))) ∧ (¬ (v2 = 0)) then inb v1 70 ∧ inb v3 420 ∧ x_isAboveAnew (gA σ 78 v1) (gA σ 80 v3) σ (fun r_16 σ_15 => (if r_16 = 0 then x_falls_j93 v1 v3 σ_15 Q X22 else inb v3 420 ∧ (if gA σ_15 33 v3 = 2 then x_falls_j89 v1 v3 σ_15 Q X22 else inb v1 70 ∧ inb v3 420 ∧ x_isAboveAnew (gA σ_15 78 v1) (gA σ_15 81 v3) σ_15 (fun r_28 σ_27 => (if r_28 = 0 then x_falls_j93 v1 v3 σ_27 Q X22 else x_falls_j89 v1 v3 σ_27 Q X22))))) else Q v2 σ)) (kQ : ∀ r s, Fr wX_falls σ0 s → Q r s → Q2 r s) (kX22 : ∀ v2 v3 s, Fr wX_falls σ0 s → X22 v2 v3 s → X222 v2 v3 s) : inb v1 70 ∧ (if (v3 < w32 (w32 (6 * v1) + (gA σ 32 v1))) ∧ (¬ (v2 = 0)) then inb v1 70 ∧ inb v3 420 ∧ x_isAboveAnew (gA σ 78 v1) (gA σ 80 v3) σ (fun r_16 σ_15 => (if r_16 = 0 then x_falls_j93 v1 v3 σ_15 Q2 X222 else inb v3 420 ∧ (if gA σ_15 33 v3 = 2 then x_falls_j89 v1 v3 σ_15 Q2 X222 else inb v1 70 ∧ inb v3 420 ∧ x_isAboveAnew (gA σ_15 78 v1) (gA σ_15 81 v3) σ_15 (fun r_28 σ_27 => (if r_28 = 0 then x_falls_j93 v1 v3 σ_27 Q2 X222 else x_falls_j89 v1 v3 σ_27 Q2 X222))))) else Q2 v2 σ) :=
  ⟨h.1, ite_m (fun _ h1 => ⟨h1.1, ⟨h1.2.1, fm_x_isAboveAnew h1.2.2 (fun r_16 σ_15 f h4 => (have f4 : Fr wX_falls σ0 σ_15 := (fr.trans (f.weak (by decide +kernel))); ite_m (fun _ h5 => fx_falls_j93 f4 h5 kQ kX22) (fun _ h5 => ⟨h5.1, ite_m (fun _ h7 => fx_falls_j89 f4 h7 kQ kX22) (fun _ h7 => ⟨h7.1, ⟨h7.2.1, fm_x_isAboveAnew h7.2.2 (fun r_28 σ_27 f h10 => (have f10 : Fr wX_falls σ0 σ_27 := (f4.trans (f.weak (by decide +kernel))); ite_m (fun _ h11 => fx_falls_j93 f10 h11 kQ kX22) (fun _ h11 => fx_falls_j89 f10 h11 kQ kX22) h10))⟩⟩) h5.2⟩) h4))⟩⟩) (fun _ h1 => kQ _ _ fr h1) h.2⟩
theorem fx_falls_L22 {v1 : Int} {v2 : Int} {v3 : Int} {σ0 σ : S} {Q Q2 : Int → S → Prop} (fr : Fr wX_falls σ0 σ) (h : x_falls_L22 v1 v2 v3 σ Q) (kQ : ∀ r s, Fr wX_falls σ0 s → Q r s → Q2 r s) : x_falls_L22 v1 v2 v3 σ Q2 := by
  unfold x_falls_L22 at h ⊢
  intro Y hY
  exact h (fun v2 v3 s => Fr wX_falls σ0 s → Y v2 v3 s) (fun v2 v3 s h f => hY v2 v3 s (fx_falls_L22_b (v1 := v1) (v2 := v2) (v3 := v3) (Q := Q) (Q2 := Q2) (X22 := fun v2 v3 s => Fr wX_falls σ0 s → Y v2 v3 s) (X222 := Y) f h kQ (fun v2 v3 s f h => h f))) fr
theorem lx_falls_L22 {v1 : Int} {v2 : Int} {v3 : Int} {σ0 : S} {Q : Int → S → Prop} (I : Int → Int → S → Prop) (me : Int → Int → S → Nat) (h0 : I v2 v3 σ0) (step : ∀ (v2 : Int) (v3 : Int) (s : S), Fr wX_falls σ0 s → I v2 v3 s → (fun (Y0 : Int → Int → S → Prop) => inb v1 70 ∧ (if (v3 < w32 (w32 (6 * v1) + (gA s 32 v1))) ∧ (¬ (v2 = 0)) then inb v1 70 ∧ inb v3 420 ∧ x_isAboveAnew (gA s 78 v1) (gA s 80 v3) s (fun r_16 σ_15 => (if r_16 = 0 then x_falls_j93 v1 v3 σ_15 Q Y0 else inb v3 420 ∧ (if gA σ_15 33 v3 = 2 then x_falls_j89 v1 v3 σ_15 Q Y0 else inb v1 70 ∧ inb v3 420 ∧ x_isAboveAnew (gA σ_15 78 v1) (gA σ_15 81 v3) σ_15 (fun r_28 σ_27 => (if r_28 = 0 then x_falls_j93 v1 v3 σ_27 Q Y0 else x_falls_j89 v1 v3 σ_27 Q Y0))))) else Q v2 s)) (fun v2' v3' s' => I v2' v3' s' ∧ me v2' v3' s' < me v2 v3 s)) : x_falls_L22 v1 v2 v3 σ0 Q := by
  unfold x_falls_L22
  intro Y hY
  have key : ∀ (n : Nat) (v2 : Int) (v3 : Int) (s : S), me v2 v3 s < n → Fr wX_falls σ0 s → I v2 v3 s → Y v2 v3 s := by
    intro n
    induction n with
    | zero => intro v2 v3 s h; exact absurd h (Nat.not_lt_zero _)
    | succ n ih =>
      intro v2 v3 s hm fr hi
      exact hY v2 v3 s (fx_falls_L22_b (v1 := v1) (v2 := v2) (v3 := v3) (Q := Q) (Q2 := Q) (X22 := (fun v2' v3' s' => I v2' v3' s' ∧ me v2' v3' s' < me v2 v3 s)) (X222 := Y) fr (step v2 v3 s fr hi) (fun _ _ _ h => h) (fun v2 v3 s f h => ih v2 v3 s (by omega) f h.1))
  exact key _ v2 v3 σ0 (Nat.lt_succ_self _) Fr.rf h0
theorem fm_x_falls {v1 : Int} {σ0 : S} {Q Q2 : Int → S → Prop} (h : x_falls v1 σ0 Q) (kQ : ∀ r s, Fr wX_falls σ0 s → Q r s → Q2 r s) : x_falls v1 σ0 Q2 := by
  have fr : Fr wX_falls σ0 σ0 := Fr.rf
  unfold x_falls at h ⊢
  exact ⟨h.1, ⟨h.2.1, fm_x_isAboveAnew h.2.2 (fun r_6 σ_5 f h2 => (have f2 : Fr wX_falls σ0 σ_5 := (fr.trans (f.weak (by decide +kernel))); fx_falls_L22 f2 h2 kQ))⟩⟩
theorem fx_firstNotFalling_L2_b {v1 : Int} {σ0 σ : S} {Q Q2 : Int → S → Prop} {X2 X22 : Int → S → Prop} (fr : Fr wX_firstNotFalling σ0 σ) (h : (if v1 < gI σ 42 then x_falls v1 σ (fun r_5 σ_4 => (if r_5 = 0 then Q v1 σ_4 else X2 (w32 (v1 + 1)) σ_4)) else Q (-2) σ)) (kQ : ∀ r s, Fr wX_firstNotFalling σ0 s → Q r s → Q2 r s) (kX2 : ∀ v1 s, Fr wX_firstNotFalling σ0 s → X2 v1 s → X22 v1 s) : (if v1 < gI σ 42 then x_falls v1 σ (fun r_5 σ_4 => (if r_5 = 0 then Q2 v1 σ_4 else X22 (w32 (v1 + 1)) σ_4)) else Q2 (-2) σ) :=
  ite_m (fun _ h0 => fm_x_falls h0 (fun r_5 σ_4 f h1 => (have f1 : Fr wX_firstNotFalling σ0 σ_4 := (fr.trans (f.weak (by decide +kernel))); ite_m (fun _ h2 => kQ _ _ f1 h2) (fun _ h2 => kX2 _ _ f1 h2) h1))) (fun _ h0 => kQ _ _ fr h0) h
theorem fx_firstNotFalling_L2 {v1 : Int} {σ0 σ : S} {Q Q2 : Int → S → Prop} (fr : Fr wX_firstNotFalling σ0 σ) (h : x_firstNotFalling_L2 v1 σ Q) (kQ : ∀ r s, Fr wX_firstNotFalling σ0 s → Q r s → Q2 r s) : x_firstNotFalling_L2 v1 σ Q2 := by
  unfold x_firstNotFalling_L2 at h ⊢
  intro Y hY
  exact h (fun v1 s => Fr wX_firstNotFalling σ0 s → Y v1 s) (fun v1 s h f => hY v1 s (fx_firstNotFalling_L2_b (v1 := v1) (Q := Q) (Q2 := Q2) (X2 := fun v1 s => Fr wX_firstNotFalling σ0 s → Y v1 s) (X22 := Y) f h kQ (fun v1 s f h => h f))) fr
theorem lx_firstNotFalling_L2 {v1 : Int} {σ0 : S} {Q : Int → S → Prop} (I : Int → S → Prop) (me : Int → S → Nat) (h0 : I v1 σ0) (step : ∀ (v1 : Int) (s : S), Fr wX_firstNotFalling σ0 s → I v1 s → (fun (Y0 : Int → S → Prop) => (if v1 < gI s 42 then x_falls v1 s (fun r_5 σ_4 => (if r_5 = 0 then Q v1 σ_4 else Y0 (w32 (v1 + 1)) σ_4)) else Q (-2) s)) (fun v1' s' => I v1' s' ∧ me v1' s' < me v1 s)) : x_firstNotFalling_L2 v1 σ0 Q := by
  unfold x_firstNotFalling_L2
  intro Y hY
  have key : ∀ (n : Nat) (v1 : Int) (s : S), me v1 s < n → Fr wX_firstNotFalling σ0 s → I v1 s → Y v1 s := by
    intro n
    induction n with
    | zero => intro v1 s h; exact absurd h (Nat.not_lt_zero _)
    | succ n ih =>
      intro v1 s hm fr hi
      exact hY v1 s (fx_firstNotFalling_L2_b (v1 := v1) (Q := Q) (Q2 := Q) (X2 := (fun v1' s' => I v1' s' ∧ me v1' s' < me v1 s)) (X22 := Y) fr (step v1 s fr hi) (fun _ _ _ h => h) (fun v1 s f h => ih v1 s (by omega) f h.1))
  exact key _ v1 σ0 (Nat.lt_succ_self _) Fr.rf h0
theorem fm_x_firstNotFalling {σ0 : S} {Q Q2 : Int → S → Prop} (h : x_firstNotFalling  σ0 Q) (kQ : ∀ r s, Fr wX_firstNotFalling σ0 s → Q r s → Q2 r s) : x_firstNotFalling  σ0 Q2 := by
  have fr : Fr wX_firstNotFalling σ0 σ0 := Fr.rf
  unfold x_firstNotFalling at h ⊢
  exact fx_firstNotFalling_L2 fr h kQ
theorem fm_x_check {v1 : Int} {σ0 : S} {Q Q2 : Int → S → Prop} (h : x_check v1 σ0 Q) (kQ : ∀ r s, Fr wX_check σ0 s → Q r s → Q2 r s) : x_check v1 σ0 Q2 := by
  have fr : Fr wX_check σ0 σ0 := Fr.rf
  unfold x_check at h ⊢
  exact fm_x_within h (fun r_2 σ_1 f h0 => (have f0 : Fr wX_check σ0 σ_1 := (fr.trans (f.weak (by decide +kernel))); ite_m (fun _ h1 => kQ _ _ f0 h1) (fun _ h1 => fm_x_begin h1 (fun _ σ_5 f h2 => (have f2 : Fr wX_check σ0 σ_5 := (f0.trans (f.weak (by decide +kernel))); ite_m (fun _ h3 => fm_x_allOneLeast h3 (fun r_14 σ_13 f h4 => (have f4 : Fr wX_check σ0 σ_13 := (f2.trans (f.weak (by decide +kernel))); kQ _ _ f4 h4))) (fun _ h3 => fm_x_firstNotFalling h3 (fun r_9 σ_8 f h4 => (have f4 : Fr wX_check σ0 σ_8 := (f2.trans (f.weak (by decide +kernel))); kQ _ _ f4 h4))) h2))) h0))
theorem fm_x_witness {v1 : Int} {v2 : Int} {σ0 : S} {Q Q2 : Int → S → Prop} (h : x_witness v1 v2 σ0 Q) (kQ : ∀ r s, Fr wX_witness σ0 s → Q r s → Q2 r s) : x_witness v1 v2 σ0 Q2 := by
  have fr : Fr wX_witness σ0 σ0 := Fr.rf
  unfold x_witness at h ⊢
  exact fm_x_within h (fun r_2 σ_1 f h0 => (have f0 : Fr wX_witness σ0 σ_1 := (fr.trans (f.weak (by decide +kernel))); ite_m (fun _ h1 => kQ _ _ f0 h1) (fun _ h1 => fm_x_begin h1 (fun _ σ_7 f h2 => (have f2 : Fr wX_witness σ0 σ_7 := (f0.trans (f.weak (by decide +kernel))); ite_m (fun _ h3 => fm_x_firstNotFalling h3 (fun r_22 σ_21 f h4 => (have f4 : Fr wX_witness σ0 σ_21 := (f2.trans (f.weak (by decide +kernel))); kQ _ _ f4 h4))) (fun _ h3 => fm_x_allOneLeast h3 (fun r_11 σ_10 f h4 => (have f4 : Fr wX_witness σ0 σ_10 := (f2.trans (f.weak (by decide +kernel))); ite_m (fun _ h5 => ⟨h5.1, kQ _ _ f4 h5.2⟩) (fun _ h5 => kQ _ _ f4 h5) h4))) h2))) h0))
theorem fm_x_countWay {σ0 : S} {Q Q2 : Int → S → Prop} {E E2 : S → Prop} (h : x_countWay  σ0 Q E) (kQ : ∀ r s, Fr wX_countWay σ0 s → Q r s → Q2 r s) (kE : ∀ s, Fr wX_countWay σ0 s → E s → E2 s) : x_countWay  σ0 Q2 E2 := by
  have fr : Fr wX_countWay σ0 σ0 := Fr.rf
  unfold x_countWay at h ⊢
  exact ite_m (fun _ h0 => fm_x_stop h0 (fun _ σ_5 f h1 => (have f1 : Fr wX_countWay σ0 σ_5 := (fr.trans (f.weak (by decide +kernel))); kE _ f1 h1))) (fun _ h0 => kQ _ _ fr h0) h
theorem fm_x_open {σ0 : S} {Q Q2 : Int → S → Prop} {E E2 : S → Prop} (h : x_open  σ0 Q E) (kQ : ∀ r s, Fr wX_open σ0 s → Q r s → Q2 r s) (kE : ∀ s, Fr wX_open σ0 s → E s → E2 s) : x_open  σ0 Q2 E2 := by
  have fr : Fr wX_open σ0 σ0 := Fr.rf
  unfold x_open at h ⊢
  exact fm_x_countWay h (fun _ σ_1 f h0 => (have f0 : Fr wX_open σ0 σ_1 := (fr.trans (f.weak (by decide +kernel))); fun σ_4 e1 => (have f1 : Fr wX_open σ0 σ_4 := Fr.putI f0 e1 rfl; kQ _ _ f1 (h0 σ_4 e1)))) (fun s f h => kE _ (fr.trans (f.weak (by decide +kernel))) h)
theorem fx_dropTo_j95 {v1 : Int} {v2 : Int} {σ0 σ : S} {Q Q2 : Int → S → Prop} (fr : Fr wX_dropTo σ0 σ) (h : x_dropTo_j95 v1 v2 σ Q) (kQ : ∀ r s, Fr wX_dropTo σ0 s → Q r s → Q2 r s) : x_dropTo_j95 v1 v2 σ Q2 := by
  unfold x_dropTo_j95 at h ⊢
  exact fun σ_4 e0 => (have f0 : Fr wX_dropTo σ0 σ_4 := Fr.putI fr e0 rfl; fun σ_6 e1 => (have f1 : Fr wX_dropTo σ0 σ_6 := Fr.putI f0 e1 rfl; kQ _ _ f1 ((h σ_4 e0) σ_6 e1)))
theorem fx_dropTo_j62 {v1 : Int} {v2 : Int} {v3 : Int} {v4 : Int} {σ0 σ : S} {Q Q2 : Int → S → Prop} {X7 X72 : Int → S → Prop} (fr : Fr wX_dropTo σ0 σ) (h : x_dropTo_j62 v1 v2 v3 v4 σ Q X7) (kQ : ∀ r s, Fr wX_dropTo σ0 s → Q r s → Q2 r s) (kX7 : ∀ a0 s, Fr wX_dropTo σ0 s → X7 a0 s → X72 a0 s) : x_dropTo_j62 v1 v2 v3 v4 σ Q2 X72 := by
  unfold x_dropTo_j62 at h ⊢
  exact ⟨h.1, fm_x_slotOf h.2 (fun r_16 σ_15 f h1 => (have f1 : Fr wX_dropTo σ0 σ_15 := (fr.trans (f.weak (by decide +kernel))); ⟨h1.1, ⟨h1.2.1, fun σ_19 e4 => (have f4 : Fr wX_dropTo σ0 σ_19 := Fr.putA f1 e4 rfl; kX7 _ _ f4 (h1.2.2 σ_19 e4))⟩⟩))⟩
theorem fx_dropTo_L23_b {v1 : Int} {v2 : Int} {v3 : Int} {v4 : Int} {v5 : Int} {σ0 σ : S} {Q Q2 : Int → S → Prop} {X7 X72 : Int → S → Prop} {X23 X232 : Int → S → Prop} (fr : Fr wX_dropTo σ0 σ) (h : (if v5 < v4 then inb v3 200000 ∧ inb (w32 (gA σ 67 v3 + v5)) 600000 ∧ inb (w32 (gI σ 106 + v5)) 20000 ∧ ∀ σ_27, σ_27 = pA σ 74 (w32 (gI σ 106 + v5)) (gA σ 73 (w32 (gA σ 67 v3 + v5))) → X23 (w32 (v5 + 1)) σ_27 else x_dropTo_j62 v1 v2 v3 v4 σ Q X7)) (kQ : ∀ r s, Fr wX_dropTo σ0 s → Q r s → Q2 r s) (kX7 : ∀ a0 s, Fr wX_dropTo σ0 s → X7 a0 s → X72 a0 s) (kX23 : ∀ v5 s, Fr wX_dropTo σ0 s → X23 v5 s → X232 v5 s) : (if v5 < v4 then inb v3 200000 ∧ inb (w32 (gA σ 67 v3 + v5)) 600000 ∧ inb (w32 (gI σ 106 + v5)) 20000 ∧ ∀ σ_27, σ_27 = pA σ 74 (w32 (gI σ 106 + v5)) (gA σ 73 (w32 (gA σ 67 v3 + v5))) → X232 (w32 (v5 + 1)) σ_27 else x_dropTo_j62 v1 v2 v3 v4 σ Q2 X72) :=
  ite_m (fun _ h0 => ⟨h0.1, ⟨h0.2.1, ⟨h0.2.2.1, fun σ_27 e4 => (have f4 : Fr wX_dropTo σ0 σ_27 := Fr.putA fr e4 rfl; kX23 _ _ f4 (h0.2.2.2 σ_27 e4))⟩⟩⟩) (fun _ h0 => fx_dropTo_j62 fr h0 kQ kX7) h
theorem fx_dropTo_L23 {v1 : Int} {v2 : Int} {v3 : Int} {v4 : Int} {v5 : Int} {σ0 σ : S} {Q Q2 : Int → S → Prop} {X7 X72 : Int → S → Prop} (fr : Fr wX_dropTo σ0 σ) (h : x_dropTo_L23 v1 v2 v3 v4 v5 σ Q X7) (kQ : ∀ r s, Fr wX_dropTo σ0 s → Q r s → Q2 r s) (kX7 : ∀ a0 s, Fr wX_dropTo σ0 s → X7 a0 s → X72 a0 s) : x_dropTo_L23 v1 v2 v3 v4 v5 σ Q2 X72 := by
  unfold x_dropTo_L23 at h ⊢
  intro Y hY
  exact h (fun v5 s => Fr wX_dropTo σ0 s → Y v5 s) (fun v5 s h f => hY v5 s (fx_dropTo_L23_b (v1 := v1) (v2 := v2) (v3 := v3) (v4 := v4) (v5 := v5) (Q := Q) (Q2 := Q2) (X7 := X7) (X72 := X72) (X23 := fun v5 s => Fr wX_dropTo σ0 s → Y v5 s) (X232 := Y) f h kQ kX7 (fun v5 s f h => h f))) fr
theorem lx_dropTo_L23 {v1 : Int} {v2 : Int} {v3 : Int} {v4 : Int} {v5 : Int} {σ0 : S} {Q : Int → S → Prop} {X7 : Int → S → Prop} (I : Int → S → Prop) (me : Int → S → Nat) (h0 : I v5 σ0) (step : ∀ (v5 : Int) (s : S), Fr wX_dropTo σ0 s → I v5 s → (fun (Y0 : Int → S → Prop) => (if v5 < v4 then inb v3 200000 ∧ inb (w32 (gA s 67 v3 + v5)) 600000 ∧ inb (w32 (gI s 106 + v5)) 20000 ∧ ∀ σ_27, σ_27 = pA s 74 (w32 (gI s 106 + v5)) (gA s 73 (w32 (gA s 67 v3 + v5))) → Y0 (w32 (v5 + 1)) σ_27 else x_dropTo_j62 v1 v2 v3 v4 s Q X7)) (fun v5' s' => I v5' s' ∧ me v5' s' < me v5 s)) : x_dropTo_L23 v1 v2 v3 v4 v5 σ0 Q X7 := by
  unfold x_dropTo_L23
  intro Y hY
  have key : ∀ (n : Nat) (v5 : Int) (s : S), me v5 s < n → Fr wX_dropTo σ0 s → I v5 s → Y v5 s := by
    intro n
    induction n with
    | zero => intro v5 s h; exact absurd h (Nat.not_lt_zero _)
    | succ n ih =>
      intro v5 s hm fr hi
      exact hY v5 s (fx_dropTo_L23_b (v1 := v1) (v2 := v2) (v3 := v3) (v4 := v4) (v5 := v5) (Q := Q) (Q2 := Q) (X7 := X7) (X72 := X7) (X23 := (fun v5' s' => I v5' s' ∧ me v5' s' < me v5 s)) (X232 := Y) fr (step v5 s fr hi) (fun _ _ _ h => h) (fun _ _ _ h => h) (fun v5 s f h => ih v5 s (by omega) f h.1))
  exact key _ v5 σ0 (Nat.lt_succ_self _) Fr.rf h0
theorem fx_dropTo_L7_b {v1 : Int} {v2 : Int} {v3 : Int} {σ0 σ : S} {Q Q2 : Int → S → Prop} {X7 X72 : Int → S → Prop} (fr : Fr wX_dropTo σ0 σ) (h : (if v3 < v1 then x_dropTo_j95 v1 v2 σ Q else inb v3 200000 ∧ x_dropTo_L23 v1 v2 v3 (gA σ 68 v3) 0 σ Q X7)) (kQ : ∀ r s, Fr wX_dropTo σ0 s → Q r s → Q2 r s) (kX7 : ∀ v3 s, Fr wX_dropTo σ0 s → X7 v3 s → X72 v3 s) : (if v3 < v1 then x_dropTo_j95 v1 v2 σ Q2 else inb v3 200000 ∧ x_dropTo_L23 v1 v2 v3 (gA σ 68 v3) 0 σ Q2 X72) :=
  ite_m (fun _ h0 => fx_dropTo_j95 fr h0 kQ) (fun _ h0 => ⟨h0.1, fx_dropTo_L23 fr h0.2 kQ kX7⟩) h
theorem fx_dropTo_L7 {v1 : Int} {v2 : Int} {v3 : Int} {σ0 σ : S} {Q Q2 : Int → S → Prop} (fr : Fr wX_dropTo σ0 σ) (h : x_dropTo_L7 v1 v2 v3 σ Q) (kQ : ∀ r s, Fr wX_dropTo σ0 s → Q r s → Q2 r s) : x_dropTo_L7 v1 v2 v3 σ Q2 := by
  unfold x_dropTo_L7 at h ⊢
  intro Y hY
  exact h (fun v3 s => Fr wX_dropTo σ0 s → Y v3 s) (fun v3 s h f => hY v3 s (fx_dropTo_L7_b (v1 := v1) (v2 := v2) (v3 := v3) (Q := Q) (Q2 := Q2) (X7 := fun v3 s => Fr wX_dropTo σ0 s → Y v3 s) (X72 := Y) f h kQ (fun v3 s f h => h f))) fr
theorem lx_dropTo_L7 {v1 : Int} {v2 : Int} {v3 : Int} {σ0 : S} {Q : Int → S → Prop} (I : Int → S → Prop) (me : Int → S → Nat) (h0 : I v3 σ0) (step : ∀ (v3 : Int) (s : S), Fr wX_dropTo σ0 s → I v3 s → (fun (Y0 : Int → S → Prop) => (if v3 < v1 then x_dropTo_j95 v1 v2 s Q else inb v3 200000 ∧ x_dropTo_L23 v1 v2 v3 (gA s 68 v3) 0 s Q Y0)) (fun v3' s' => I v3' s' ∧ me v3' s' < me v3 s)) : x_dropTo_L7 v1 v2 v3 σ0 Q := by
  unfold x_dropTo_L7
  intro Y hY
  have key : ∀ (n : Nat) (v3 : Int) (s : S), me v3 s < n → Fr wX_dropTo σ0 s → I v3 s → Y v3 s := by
    intro n
    induction n with
    | zero => intro v3 s h; exact absurd h (Nat.not_lt_zero _)
    | succ n ih =>
      intro v3 s hm fr hi
      exact hY v3 s (fx_dropTo_L7_b (v1 := v1) (v2 := v2) (v3 := v3) (Q := Q) (Q2 := Q) (X7 := (fun v3' s' => I v3' s' ∧ me v3' s' < me v3 s)) (X72 := Y) fr (step v3 s fr hi) (fun _ _ _ h => h) (fun v3 s f h => ih v3 s (by omega) f h.1))
  exact key _ v3 σ0 (Nat.lt_succ_self _) Fr.rf h0
theorem fm_x_dropTo {v1 : Int} {v2 : Int} {σ0 : S} {Q Q2 : Int → S → Prop} (h : x_dropTo v1 v2 σ0 Q) (kQ : ∀ r s, Fr wX_dropTo σ0 s → Q r s → Q2 r s) : x_dropTo v1 v2 σ0 Q2 := by
  have fr : Fr wX_dropTo σ0 σ0 := Fr.rf
  unfold x_dropTo at h ⊢
  exact fx_dropTo_L7 fr h kQ
theorem fx_apart_j64 {v1 : Int} {v2 : Int} {σ0 σ : S} {Q Q2 : Int → S → Prop} {E E2 : S → Prop} {G : Orc} (hG : FrO wX_apart G) (fr : Fr wX_apart σ0 σ) (h : x_apart_j64 G v1 v2 σ Q E) (kQ : ∀ r s, Fr wX_apart σ0 s → Q r s → Q2 r s) (kE : ∀ s, Fr wX_apart σ0 s → E s → E2 s) : x_apart_j64 G v1 v2 σ Q2 E2 := by
  unfold x_apart_j64 at h ⊢
  exact ⟨h.1, fm_x_make h.2 (fun r_13 σ_12 f h1 => (have f1 : Fr wX_apart σ0 σ_12 := (fr.trans (f.weak (by decide +kernel))); kQ _ _ f1 h1)) (fun s f h => kE _ (fr.trans (f.weak (by decide +kernel))) h)⟩
theorem fx_apart_L30_b {v1 : Int} {v2 : Int} {v3 : Int} {σ0 σ : S} {Q Q2 : Int → S → Prop} {E E2 : S → Prop} {X30 X302 : Int → S → Prop} {G : Orc} (hG : FrO wX_apart G) (fr : Fr wX_apart σ0 σ) (h : inb v1 200000 ∧ (if v3 < gA σ 68 v1 then x_at v1 v3 σ (fun r_16 σ_15 => G 0 [r_16] σ_15 (fun r_18 σ_17 => x_push r_18 σ_17 (fun _ σ_20 => X30 (w32 (v3 + 1)) σ_20)) E) else x_apart_j64 G v1 v2 σ Q E)) (kQ : ∀ r s, Fr wX_apart σ0 s → Q r s → Q2 r s) (kE : ∀ s, Fr wX_apart σ0 s → E s → E2 s) (kX30 : ∀ v3 s, Fr wX_apart σ0 s → X30 v3 s → X302 v3 s) : inb v1 200000 ∧ (if v3 < gA σ 68 v1 then x_at v1 v3 σ (fun r_16 σ_15 => G 0 [r_16] σ_15 (fun r_18 σ_17 => x_push r_18 σ_17 (fun _ σ_20 => X302 (w32 (v3 + 1)) σ_20)) E2) else x_apart_j64 G v1 v2 σ Q2 E2) :=
  ⟨h.1, ite_m (fun _ h1 => fm_x_at h1 (fun r_16 σ_15 f h2 => (have f2 : Fr wX_apart σ0 σ_15 := (fr.trans (f.weak (by decide +kernel))); hG _ _ _ _ _ _ _ h2 (fun r_18 σ_17 f h3 => (have f3 : Fr wX_apart σ0 σ_17 := (f2.trans f); fm_x_push h3 (fun _ σ_20 f h4 => (have f4 : Fr wX_apart σ0 σ_20 := (f3.trans (f.weak (by decide +kernel))); kX30 _ _ f4 h4)))) (fun s f h => kE _ (f2.trans f) h)))) (fun _ h1 => fx_apart_j64 hG fr h1 kQ kE) h.2⟩
theorem fx_apart_L30 {v1 : Int} {v2 : Int} {v3 : Int} {σ0 σ : S} {Q Q2 : Int → S → Prop} {E E2 : S → Prop} {G : Orc} (hG : FrO wX_apart G) (fr : Fr wX_apart σ0 σ) (h : x_apart_L30 G v1 v2 v3 σ Q E) (kQ : ∀ r s, Fr wX_apart σ0 s → Q r s → Q2 r s) (kE : ∀ s, Fr wX_apart σ0 s → E s → E2 s) : x_apart_L30 G v1 v2 v3 σ Q2 E2 := by
  unfold x_apart_L30 at h ⊢
  intro Y hY
  exact h (fun v3 s => Fr wX_apart σ0 s → Y v3 s) (fun v3 s h f => hY v3 s (fx_apart_L30_b (v1 := v1) (v2 := v2) (v3 := v3) (Q := Q) (Q2 := Q2) (E := E) (E2 := E2) (X30 := fun v3 s => Fr wX_apart σ0 s → Y v3 s) (X302 := Y) hG f h kQ kE (fun v3 s f h => h f))) fr
theorem lx_apart_L30 {v1 : Int} {v2 : Int} {v3 : Int} {σ0 : S} {Q : Int → S → Prop} {E : S → Prop} {G : Orc} (hG : FrO wX_apart G) (I : Int → S → Prop) (me : Int → S → Nat) (h0 : I v3 σ0) (step : ∀ (v3 : Int) (s : S), Fr wX_apart σ0 s → I v3 s → (fun (Y0 : Int → S → Prop) => inb v1 200000 ∧ (if v3 < gA s 68 v1 then x_at v1 v3 s (fun r_16 σ_15 => G 0 [r_16] σ_15 (fun r_18 σ_17 => x_push r_18 σ_17 (fun _ σ_20 => Y0 (w32 (v3 + 1)) σ_20)) E) else x_apart_j64 G v1 v2 s Q E)) (fun v3' s' => I v3' s' ∧ me v3' s' < me v3 s)) : x_apart_L30 G v1 v2 v3 σ0 Q E := by
  unfold x_apart_L30
  intro Y hY
  have key : ∀ (n : Nat) (v3 : Int) (s : S), me v3 s < n → Fr wX_apart σ0 s → I v3 s → Y v3 s := by
    intro n
    induction n with
    | zero => intro v3 s h; exact absurd h (Nat.not_lt_zero _)
    | succ n ih =>
      intro v3 s hm fr hi
      exact hY v3 s (fx_apart_L30_b (v1 := v1) (v2 := v2) (v3 := v3) (Q := Q) (Q2 := Q) (E := E) (E2 := E) (X30 := (fun v3' s' => I v3' s' ∧ me v3' s' < me v3 s)) (X302 := Y) hG fr (step v3 s fr hi) (fun _ _ _ h => h) (fun _ _ h => h) (fun v3 s f h => ih v3 s (by omega) f h.1))
  exact key _ v3 σ0 (Nat.lt_succ_self _) Fr.rf h0
theorem fx_apart_F {v1 : Int} {σ0 : S} {Q Q2 : Int → S → Prop} {E E2 : S → Prop} {G : Orc} (hG : FrO wX_apart G) (h : x_apart_F G v1 σ0 Q E) (kQ : ∀ r s, Fr wX_apart σ0 s → Q r s → Q2 r s) (kE : ∀ s, Fr wX_apart σ0 s → E s → E2 s) : x_apart_F G v1 σ0 Q2 E2 := by
  have fr : Fr wX_apart σ0 σ0 := Fr.rf
  unfold x_apart_F at h ⊢
  exact ⟨h.1, ite_m (fun _ h1 => ⟨h1.1, fm_x_variableNode h1.2 (fun r_24 σ_23 f h3 => (have f3 : Fr wX_apart σ0 σ_23 := (fr.trans (f.weak (by decide +kernel))); kQ _ _ f3 h3)) (fun s f h => kE _ (fr.trans (f.weak (by decide +kernel))) h)⟩) (fun _ h1 => fx_apart_L30 hG fr h1 kQ kE) h.2⟩
theorem fo_x_S_apart : ∀ n, FrO wX_apart (x_S_apart n)
  | 0 => fun _ _ _ _ _ _ _ h _ _ => h.elim
  | n + 1 => fun i a σ Q Q2 E E2 h kQ kE => by
    unfold x_S_apart at h ⊢
    split at h
    · exact fx_apart_F (fo_x_S_apart n) h kQ kE
    · exact h.elim
theorem fm_x_apart {v1 : Int} {σ0 : S} {Q Q2 : Int → S → Prop} {E E2 : S → Prop} (h : x_apart v1 σ0 Q E) (kQ : ∀ r s, Fr wX_apart σ0 s → Q r s → Q2 r s) (kE : ∀ s, Fr wX_apart σ0 s → E s → E2 s) : x_apart v1 σ0 Q2 E2 := fo_x_S_apart 44 _ _ _ _ _ _ _ h kQ kE
theorem fx_walk_L2_b {v2 : Int} {σ0 σ : S} {Q Q2 : Int → S → Prop} {X2 X22 : Int → S → Prop} (fr : Fr wX_walk σ0 σ) (h : inb v2 200000 ∧ ((gA σ 66 v2 < 0) → (inb v2 200000)) ∧ ((gA σ 66 v2 < 0) → (inb (w32 ((-1) - (gA σ 66 v2))) 60)) ∧ (if (gA σ 66 v2 < 0) ∧ (¬ (gA σ 123 (w32 ((-1) - (gA σ 66 v2))) = 0)) then inb v2 200000 ∧ inb (w32 ((-1) - (gA σ 66 v2))) 60 ∧ X2 (gA σ 123 (w32 ((-1) - (gA σ 66 v2)))) σ else Q v2 σ)) (kQ : ∀ r s, Fr wX_walk σ0 s → Q r s → Q2 r s) (kX2 : ∀ v2 s, Fr wX_walk σ0 s → X2 v2 s → X22 v2 s) : inb v2 200000 ∧ ((gA σ 66 v2 < 0) → (inb v2 200000)) ∧ ((gA σ 66 v2 < 0) → (inb (w32 ((-1) - (gA σ 66 v2))) 60)) ∧ (if (gA σ 66 v2 < 0) ∧ (¬ (gA σ 123 (w32 ((-1) - (gA σ 66 v2))) = 0)) then inb v2 200000 ∧ inb (w32 ((-1) - (gA σ 66 v2))) 60 ∧ X22 (gA σ 123 (w32 ((-1) - (gA σ 66 v2)))) σ else Q2 v2 σ) :=
  ⟨h.1, ⟨h.2.1, ⟨h.2.2.1, ite_m (fun _ h3 => ⟨h3.1, ⟨h3.2.1, kX2 _ _ fr h3.2.2⟩⟩) (fun _ h3 => kQ _ _ fr h3) h.2.2.2⟩⟩⟩
theorem fx_walk_L2 {v2 : Int} {σ0 σ : S} {Q Q2 : Int → S → Prop} (fr : Fr wX_walk σ0 σ) (h : x_walk_L2 v2 σ Q) (kQ : ∀ r s, Fr wX_walk σ0 s → Q r s → Q2 r s) : x_walk_L2 v2 σ Q2 := by
  unfold x_walk_L2 at h ⊢
  intro Y hY
  exact h (fun v2 s => Fr wX_walk σ0 s → Y v2 s) (fun v2 s h f => hY v2 s (fx_walk_L2_b (v2 := v2) (Q := Q) (Q2 := Q2) (X2 := fun v2 s => Fr wX_walk σ0 s → Y v2 s) (X22 := Y) f h kQ (fun v2 s f h => h f))) fr
theorem lx_walk_L2 {v2 : Int} {σ0 : S} {Q : Int → S → Prop} (I : Int → S → Prop) (me : Int → S → Nat) (h0 : I v2 σ0) (step : ∀ (v2 : Int) (s : S), Fr wX_walk σ0 s → I v2 s → (fun (Y0 : Int → S → Prop) => inb v2 200000 ∧ ((gA s 66 v2 < 0) → (inb v2 200000)) ∧ ((gA s 66 v2 < 0) → (inb (w32 ((-1) - (gA s 66 v2))) 60)) ∧ (if (gA s 66 v2 < 0) ∧ (¬ (gA s 123 (w32 ((-1) - (gA s 66 v2))) = 0)) then inb v2 200000 ∧ inb (w32 ((-1) - (gA s 66 v2))) 60 ∧ Y0 (gA s 123 (w32 ((-1) - (gA s 66 v2)))) s else Q v2 s)) (fun v2' s' => I v2' s' ∧ me v2' s' < me v2 s)) : x_walk_L2 v2 σ0 Q := by
  unfold x_walk_L2
  intro Y hY
  have key : ∀ (n : Nat) (v2 : Int) (s : S), me v2 s < n → Fr wX_walk σ0 s → I v2 s → Y v2 s := by
    intro n
    induction n with
    | zero => intro v2 s h; exact absurd h (Nat.not_lt_zero _)
    | succ n ih =>
      intro v2 s hm fr hi
      exact hY v2 s (fx_walk_L2_b (v2 := v2) (Q := Q) (Q2 := Q) (X2 := (fun v2' s' => I v2' s' ∧ me v2' s' < me v2 s)) (X22 := Y) fr (step v2 s fr hi) (fun _ _ _ h => h) (fun v2 s f h => ih v2 s (by omega) f h.1))
  exact key _ v2 σ0 (Nat.lt_succ_self _) Fr.rf h0
theorem fm_x_walk {v1 : Int} {σ0 : S} {Q Q2 : Int → S → Prop} (h : x_walk v1 σ0 Q) (kQ : ∀ r s, Fr wX_walk σ0 s → Q r s → Q2 r s) : x_walk v1 σ0 Q2 := by
  have fr : Fr wX_walk σ0 σ0 := Fr.rf
  unfold x_walk at h ⊢
  exact fx_walk_L2 fr h kQ
theorem fx_given_j61 {v2 : Int} {v3 : Int} {σ0 σ : S} {Q Q2 : Int → S → Prop} {E E2 : S → Prop} {G : Orc} (hG : FrO wX_given G) (fr : Fr wX_given σ0 σ) (h : x_given_j61 G v2 v3 σ Q E) (kQ : ∀ r s, Fr wX_given σ0 s → Q r s → Q2 r s) (kE : ∀ s, Fr wX_given σ0 s → E s → E2 s) : x_given_j61 G v2 v3 σ Q2 E2 := by
  unfold x_given_j61 at h ⊢
  exact ⟨h.1, fm_x_make h.2 (fun r_15 σ_14 f h1 => (have f1 : Fr wX_given σ0 σ_14 := (fr.trans (f.weak (by decide +kernel))); kQ _ _ f1 h1)) (fun s f h => kE _ (fr.trans (f.weak (by decide +kernel))) h)⟩
theorem fx_given_L25_b {v2 : Int} {v3 : Int} {v4 : Int} {σ0 σ : S} {Q Q2 : Int → S → Prop} {E E2 : S → Prop} {X25 X252 : Int → S → Prop} {G : Orc} (hG : FrO wX_given G) (fr : Fr wX_given σ0 σ) (h : inb v2 200000 ∧ (if v4 < gA σ 68 v2 then x_at v2 v4 σ (fun r_18 σ_17 => G 0 [r_18] σ_17 (fun r_20 σ_19 => x_push r_20 σ_19 (fun _ σ_22 => X25 (w32 (v4 + 1)) σ_22)) E) else x_given_j61 G v2 v3 σ Q E)) (kQ : ∀ r s, Fr wX_given σ0 s → Q r s → Q2 r s) (kE : ∀ s, Fr wX_given σ0 s → E s → E2 s) (kX25 : ∀ v4 s, Fr wX_given σ0 s → X25 v4 s → X252 v4 s) : inb v2 200000 ∧ (if v4 < gA σ 68 v2 then x_at v2 v4 σ (fun r_18 σ_17 => G 0 [r_18] σ_17 (fun r_20 σ_19 => x_push r_20 σ_19 (fun _ σ_22 => X252 (w32 (v4 + 1)) σ_22)) E2) else x_given_j61 G v2 v3 σ Q2 E2) :=
  ⟨h.1, ite_m (fun _ h1 => fm_x_at h1 (fun r_18 σ_17 f h2 => (have f2 : Fr wX_given σ0 σ_17 := (fr.trans (f.weak (by decide +kernel))); hG _ _ _ _ _ _ _ h2 (fun r_20 σ_19 f h3 => (have f3 : Fr wX_given σ0 σ_19 := (f2.trans f); fm_x_push h3 (fun _ σ_22 f h4 => (have f4 : Fr wX_given σ0 σ_22 := (f3.trans (f.weak (by decide +kernel))); kX25 _ _ f4 h4)))) (fun s f h => kE _ (f2.trans f) h)))) (fun _ h1 => fx_given_j61 hG fr h1 kQ kE) h.2⟩
theorem fx_given_L25 {v2 : Int} {v3 : Int} {v4 : Int} {σ0 σ : S} {Q Q2 : Int → S → Prop} {E E2 : S → Prop} {G : Orc} (hG : FrO wX_given G) (fr : Fr wX_given σ0 σ) (h : x_given_L25 G v2 v3 v4 σ Q E) (kQ : ∀ r s, Fr wX_given σ0 s → Q r s → Q2 r s) (kE : ∀ s, Fr wX_given σ0 s → E s → E2 s) : x_given_L25 G v2 v3 v4 σ Q2 E2 := by
  unfold x_given_L25 at h ⊢
  intro Y hY
  exact h (fun v4 s => Fr wX_given σ0 s → Y v4 s) (fun v4 s h f => hY v4 s (fx_given_L25_b (v2 := v2) (v3 := v3) (v4 := v4) (Q := Q) (Q2 := Q2) (E := E) (E2 := E2) (X25 := fun v4 s => Fr wX_given σ0 s → Y v4 s) (X252 := Y) hG f h kQ kE (fun v4 s f h => h f))) fr
theorem lx_given_L25 {v2 : Int} {v3 : Int} {v4 : Int} {σ0 : S} {Q : Int → S → Prop} {E : S → Prop} {G : Orc} (hG : FrO wX_given G) (I : Int → S → Prop) (me : Int → S → Nat) (h0 : I v4 σ0) (step : ∀ (v4 : Int) (s : S), Fr wX_given σ0 s → I v4 s → (fun (Y0 : Int → S → Prop) => inb v2 200000 ∧ (if v4 < gA s 68 v2 then x_at v2 v4 s (fun r_18 σ_17 => G 0 [r_18] σ_17 (fun r_20 σ_19 => x_push r_20 σ_19 (fun _ σ_22 => Y0 (w32 (v4 + 1)) σ_22)) E) else x_given_j61 G v2 v3 s Q E)) (fun v4' s' => I v4' s' ∧ me v4' s' < me v4 s)) : x_given_L25 G v2 v3 v4 σ0 Q E := by
  unfold x_given_L25
  intro Y hY
  have key : ∀ (n : Nat) (v4 : Int) (s : S), me v4 s < n → Fr wX_given σ0 s → I v4 s → Y v4 s := by
    intro n
    induction n with
    | zero => intro v4 s h; exact absurd h (Nat.not_lt_zero _)
    | succ n ih =>
      intro v4 s hm fr hi
      exact hY v4 s (fx_given_L25_b (v2 := v2) (v3 := v3) (v4 := v4) (Q := Q) (Q2 := Q) (E := E) (E2 := E) (X25 := (fun v4' s' => I v4' s' ∧ me v4' s' < me v4 s)) (X252 := Y) hG fr (step v4 s fr hi) (fun _ _ _ h => h) (fun _ _ h => h) (fun v4 s f h => ih v4 s (by omega) f h.1))
  exact key _ v4 σ0 (Nat.lt_succ_self _) Fr.rf h0
theorem fx_given_F {v1 : Int} {σ0 : S} {Q Q2 : Int → S → Prop} {E E2 : S → Prop} {G : Orc} (hG : FrO wX_given G) (h : x_given_F G v1 σ0 Q E) (kQ : ∀ r s, Fr wX_given σ0 s → Q r s → Q2 r s) (kE : ∀ s, Fr wX_given σ0 s → E s → E2 s) : x_given_F G v1 σ0 Q2 E2 := by
  have fr : Fr wX_given σ0 σ0 := Fr.rf
  unfold x_given_F at h ⊢
  exact fm_x_walk h (fun r_2 σ_1 f h0 => (have f0 : Fr wX_given σ0 σ_1 := (fr.trans (f.weak (by decide +kernel))); ⟨h0.1, ite_m (fun _ h2 => kQ _ _ f0 h2) (fun _ h2 => fx_given_L25 hG f0 h2 kQ kE) h0.2⟩))
theorem fo_x_S_given : ∀ n, FrO wX_given (x_S_given n)
  | 0 => fun _ _ _ _ _ _ _ h _ _ => h.elim
  | n + 1 => fun i a σ Q Q2 E E2 h kQ kE => by
    unfold x_S_given at h ⊢
    split at h
    · exact fx_given_F (fo_x_S_given n) h kQ kE
    · exact h.elim
theorem fm_x_given {v1 : Int} {σ0 : S} {Q Q2 : Int → S → Prop} {E E2 : S → Prop} (h : x_given v1 σ0 Q E) (kQ : ∀ r s, Fr wX_given σ0 s → Q r s → Q2 r s) (kE : ∀ s, Fr wX_given σ0 s → E s → E2 s) : x_given v1 σ0 Q2 E2 := fo_x_S_given 90 _ _ _ _ _ _ _ h kQ kE
theorem fx_occurs_L19_b {v1 : Int} {v2 : Int} {v3 : Int} {v4 : Int} {σ0 σ : S} {Q Q2 : Int → S → Prop} {X19 X192 : Int → Int → S → Prop} {G : Orc} (hG : FrO wX_occurs G) (fr : Fr wX_occurs σ0 σ) (h : inb v2 200000 ∧ (if (v4 < gA σ 68 v2) ∧ (v3 = 0) then x_at v2 v4 σ (fun r_9 σ_8 => G 0 [v1, r_9] σ_8 (fun r_11 σ_10 => X19 r_11 (w32 (v4 + 1)) σ_10) (fun _ => False)) else Q v3 σ)) (kQ : ∀ r s, Fr wX_occurs σ0 s → Q r s → Q2 r s) (kX19 : ∀ v3 v4 s, Fr wX_occurs σ0 s → X19 v3 v4 s → X192 v3 v4 s) : inb v2 200000 ∧ (if (v4 < gA σ 68 v2) ∧ (v3 = 0) then x_at v2 v4 σ (fun r_9 σ_8 => G 0 [v1, r_9] σ_8 (fun r_11 σ_10 => X192 r_11 (w32 (v4 + 1)) σ_10) (fun _ => False)) else Q2 v3 σ) :=
  ⟨h.1, ite_m (fun _ h1 => fm_x_at h1 (fun r_9 σ_8 f h2 => (have f2 : Fr wX_occurs σ0 σ_8 := (fr.trans (f.weak (by decide +kernel))); hG _ _ _ _ _ _ _ h2 (fun r_11 σ_10 f h3 => (have f3 : Fr wX_occurs σ0 σ_10 := (f2.trans f); kX19 _ _ _ f3 h3)) (fun _ _ h => h)))) (fun _ h1 => kQ _ _ fr h1) h.2⟩
theorem fx_occurs_L19 {v1 : Int} {v2 : Int} {v3 : Int} {v4 : Int} {σ0 σ : S} {Q Q2 : Int → S → Prop} {G : Orc} (hG : FrO wX_occurs G) (fr : Fr wX_occurs σ0 σ) (h : x_occurs_L19 G v1 v2 v3 v4 σ Q) (kQ : ∀ r s, Fr wX_occurs σ0 s → Q r s → Q2 r s) : x_occurs_L19 G v1 v2 v3 v4 σ Q2 := by
  unfold x_occurs_L19 at h ⊢
  intro Y hY
  exact h (fun v3 v4 s => Fr wX_occurs σ0 s → Y v3 v4 s) (fun v3 v4 s h f => hY v3 v4 s (fx_occurs_L19_b (v1 := v1) (v2 := v2) (v3 := v3) (v4 := v4) (Q := Q) (Q2 := Q2) (X19 := fun v3 v4 s => Fr wX_occurs σ0 s → Y v3 v4 s) (X192 := Y) hG f h kQ (fun v3 v4 s f h => h f))) fr
theorem lx_occurs_L19 {v1 : Int} {v2 : Int} {v3 : Int} {v4 : Int} {σ0 : S} {Q : Int → S → Prop} {G : Orc} (hG : FrO wX_occurs G) (I : Int → Int → S → Prop) (me : Int → Int → S → Nat) (h0 : I v3 v4 σ0) (step : ∀ (v3 : Int) (v4 : Int) (s : S), Fr wX_occurs σ0 s → I v3 v4 s → (fun (Y0 : Int → Int → S → Prop) => inb v2 200000 ∧ (if (v4 < gA s 68 v2) ∧ (v3 = 0) then x_at v2 v4 s (fun r_9 σ_8 => G 0 [v1, r_9] σ_8 (fun r_11 σ_10 => Y0 r_11 (w32 (v4 + 1)) σ_10) (fun _ => False)) else Q v3 s)) (fun v3' v4' s' => I v3' v4' s' ∧ me v3' v4' s' < me v3 v4 s)) : x_occurs_L19 G v1 v2 v3 v4 σ0 Q := by
  unfold x_occurs_L19
  intro Y hY
  have key : ∀ (n : Nat) (v3 : Int) (v4 : Int) (s : S), me v3 v4 s < n → Fr wX_occurs σ0 s → I v3 v4 s → Y v3 v4 s := by
    intro n
    induction n with
    | zero => intro v3 v4 s h; exact absurd h (Nat.not_lt_zero _)
    | succ n ih =>
      intro v3 v4 s hm fr hi
      exact hY v3 v4 s (fx_occurs_L19_b (v1 := v1) (v2 := v2) (v3 := v3) (v4 := v4) (Q := Q) (Q2 := Q) (X19 := (fun v3' v4' s' => I v3' v4' s' ∧ me v3' v4' s' < me v3 v4 s)) (X192 := Y) hG fr (step v3 v4 s fr hi) (fun _ _ _ h => h) (fun v3 v4 s f h => ih v3 v4 s (by omega) f h.1))
  exact key _ v3 v4 σ0 (Nat.lt_succ_self _) Fr.rf h0
theorem fx_occurs_F {v1 : Int} {v2 : Int} {σ0 : S} {Q Q2 : Int → S → Prop} {G : Orc} (hG : FrO wX_occurs G) (h : x_occurs_F G v1 v2 σ0 Q) (kQ : ∀ r s, Fr wX_occurs σ0 s → Q r s → Q2 r s) : x_occurs_F G v1 v2 σ0 Q2 := by
  have fr : Fr wX_occurs σ0 σ0 := Fr.rf
  unfold x_occurs_F at h ⊢
  exact ⟨h.1, fx_occurs_L19 hG fr h.2 kQ⟩
theorem fo_x_S_occurs : ∀ n, FrO wX_occurs (x_S_occurs n)
  | 0 => fun _ _ _ _ _ _ _ h _ _ => h.elim
  | n + 1 => fun i a σ Q Q2 E E2 h kQ kE => by
    unfold x_S_occurs at h ⊢
    split at h
    · exact fx_occurs_F (fo_x_S_occurs n) h kQ
    · exact h.elim
theorem fm_x_occurs {v1 : Int} {v2 : Int} {σ0 : S} {Q Q2 : Int → S → Prop} (h : x_occurs v1 v2 σ0 Q) (kQ : ∀ r s, Fr wX_occurs σ0 s → Q r s → Q2 r s) : x_occurs v1 v2 σ0 Q2 := fo_x_S_occurs 44 _ _ _ _ _ _ _ h kQ (fun _ _ h => h)
theorem fx_hasRowBelow_j36 {v1 : Int} {v2 : Int} {v3 : Int} {σ0 σ : S} {Q Q2 : Int → S → Prop} {X2 X22 : Int → S → Prop} (fr : Fr wX_hasRowBelow σ0 σ) (h : x_hasRowBelow_j36 v1 v2 v3 σ Q X2) (kQ : ∀ r s, Fr wX_hasRowBelow σ0 s → Q r s → Q2 r s) (kX2 : ∀ a0 s, Fr wX_hasRowBelow σ0 s → X2 a0 s → X22 a0 s) : x_hasRowBelow_j36 v1 v2 v3 σ Q2 X22 := by
  unfold x_hasRowBelow_j36 at h ⊢
  exact kX2 _ _ fr h
theorem fx_hasRowBelow_L2_b {v1 : Int} {v2 : Int} {v3 : Int} {σ0 σ : S} {Q Q2 : Int → S → Prop} {X2 X22 : Int → S → Prop} (fr : Fr wX_hasRowBelow σ0 σ) (h : (if v3 < gI σ 29 then inb v3 50 ∧ (if gA σ 41 v3 = v1 then inb v3 50 ∧ x_isBelow (gA σ 44 v3) v2 σ (fun r_11 σ_10 => (if r_11 = 0 then x_hasRowBelow_j36 v1 v2 v3 σ_10 Q X2 else Q 1 σ_10)) else x_hasRowBelow_j36 v1 v2 v3 σ Q X2) else Q 0 σ)) (kQ : ∀ r s, Fr wX_hasRowBelow σ0 s → Q r s → Q2 r s) (kX2 : ∀ v3 s, Fr wX_hasRowBelow σ0 s → X2 v3 s → X22 v3 s) : (if v3 < gI σ 29 then inb v3 50 ∧ (if gA σ 41 v3 = v1 then inb v3 50 ∧ x_isBelow (gA σ 44 v3) v2 σ (fun r_11 σ_10 => (if r_11 = 0 then x_hasRowBelow_j36 v1 v2 v3 σ_10 Q2 X22 else Q2 1 σ_10)) else x_hasRowBelow_j36 v1 v2 v3 σ Q2 X22) else Q2 0 σ) :=
  ite_m (fun _ h0 => ⟨h0.1, ite_m (fun _ h2 => ⟨h2.1, fm_x_isBelow h2.2 (fun r_11 σ_10 f h4 => (have f4 : Fr wX_hasRowBelow σ0 σ_10 := (fr.trans (f.weak (by decide +kernel))); ite_m (fun _ h5 => fx_hasRowBelow_j36 f4 h5 kQ kX2) (fun _ h5 => kQ _ _ f4 h5) h4))⟩) (fun _ h2 => fx_hasRowBelow_j36 fr h2 kQ kX2) h0.2⟩) (fun _ h0 => kQ _ _ fr h0) h
theorem fx_hasRowBelow_L2 {v1 : Int} {v2 : Int} {v3 : Int} {σ0 σ : S} {Q Q2 : Int → S → Prop} (fr : Fr wX_hasRowBelow σ0 σ) (h : x_hasRowBelow_L2 v1 v2 v3 σ Q) (kQ : ∀ r s, Fr wX_hasRowBelow σ0 s → Q r s → Q2 r s) : x_hasRowBelow_L2 v1 v2 v3 σ Q2 := by
  unfold x_hasRowBelow_L2 at h ⊢
  intro Y hY
  exact h (fun v3 s => Fr wX_hasRowBelow σ0 s → Y v3 s) (fun v3 s h f => hY v3 s (fx_hasRowBelow_L2_b (v1 := v1) (v2 := v2) (v3 := v3) (Q := Q) (Q2 := Q2) (X2 := fun v3 s => Fr wX_hasRowBelow σ0 s → Y v3 s) (X22 := Y) f h kQ (fun v3 s f h => h f))) fr
theorem lx_hasRowBelow_L2 {v1 : Int} {v2 : Int} {v3 : Int} {σ0 : S} {Q : Int → S → Prop} (I : Int → S → Prop) (me : Int → S → Nat) (h0 : I v3 σ0) (step : ∀ (v3 : Int) (s : S), Fr wX_hasRowBelow σ0 s → I v3 s → (fun (Y0 : Int → S → Prop) => (if v3 < gI s 29 then inb v3 50 ∧ (if gA s 41 v3 = v1 then inb v3 50 ∧ x_isBelow (gA s 44 v3) v2 s (fun r_11 σ_10 => (if r_11 = 0 then x_hasRowBelow_j36 v1 v2 v3 σ_10 Q Y0 else Q 1 σ_10)) else x_hasRowBelow_j36 v1 v2 v3 s Q Y0) else Q 0 s)) (fun v3' s' => I v3' s' ∧ me v3' s' < me v3 s)) : x_hasRowBelow_L2 v1 v2 v3 σ0 Q := by
  unfold x_hasRowBelow_L2
  intro Y hY
  have key : ∀ (n : Nat) (v3 : Int) (s : S), me v3 s < n → Fr wX_hasRowBelow σ0 s → I v3 s → Y v3 s := by
    intro n
    induction n with
    | zero => intro v3 s h; exact absurd h (Nat.not_lt_zero _)
    | succ n ih =>
      intro v3 s hm fr hi
      exact hY v3 s (fx_hasRowBelow_L2_b (v1 := v1) (v2 := v2) (v3 := v3) (Q := Q) (Q2 := Q) (X2 := (fun v3' s' => I v3' s' ∧ me v3' s' < me v3 s)) (X22 := Y) fr (step v3 s fr hi) (fun _ _ _ h => h) (fun v3 s f h => ih v3 s (by omega) f h.1))
  exact key _ v3 σ0 (Nat.lt_succ_self _) Fr.rf h0
theorem fm_x_hasRowBelow {v1 : Int} {v2 : Int} {σ0 : S} {Q Q2 : Int → S → Prop} (h : x_hasRowBelow v1 v2 σ0 Q) (kQ : ∀ r s, Fr wX_hasRowBelow σ0 s → Q r s → Q2 r s) : x_hasRowBelow v1 v2 σ0 Q2 := by
  have fr : Fr wX_hasRowBelow σ0 σ0 := Fr.rf
  unfold x_hasRowBelow at h ⊢
  exact fx_hasRowBelow_L2 fr h kQ
theorem fx_hasSortBelow_j30 {v1 : Int} {v2 : Int} {v3 : Int} {σ0 σ : S} {Q Q2 : Int → S → Prop} {X2 X22 : Int → S → Prop} (fr : Fr wX_hasSortBelow σ0 σ) (h : x_hasSortBelow_j30 v1 v2 v3 σ Q X2) (kQ : ∀ r s, Fr wX_hasSortBelow σ0 s → Q r s → Q2 r s) (kX2 : ∀ a0 s, Fr wX_hasSortBelow σ0 s → X2 a0 s → X22 a0 s) : x_hasSortBelow_j30 v1 v2 v3 σ Q2 X22 := by
  unfold x_hasSortBelow_j30 at h ⊢
  exact kX2 _ _ fr h
theorem fx_hasSortBelow_L2_b {v1 : Int} {v2 : Int} {v3 : Int} {σ0 σ : S} {Q Q2 : Int → S → Prop} {X2 X22 : Int → S → Prop} (fr : Fr wX_hasSortBelow σ0 σ) (h : (if v3 < gI σ 22 then x_isBelow v3 v1 σ (fun r_5 σ_4 => (if r_5 = 0 then x_hasSortBelow_j30 v1 v2 v3 σ_4 Q X2 else x_isBelow v3 v2 σ_4 (fun r_9 σ_8 => (if r_9 = 0 then x_hasSortBelow_j30 v1 v2 v3 σ_8 Q X2 else Q 1 σ_8)))) else Q 0 σ)) (kQ : ∀ r s, Fr wX_hasSortBelow σ0 s → Q r s → Q2 r s) (kX2 : ∀ v3 s, Fr wX_hasSortBelow σ0 s → X2 v3 s → X22 v3 s) : (if v3 < gI σ 22 then x_isBelow v3 v1 σ (fun r_5 σ_4 => (if r_5 = 0 then x_hasSortBelow_j30 v1 v2 v3 σ_4 Q2 X22 else x_isBelow v3 v2 σ_4 (fun r_9 σ_8 => (if r_9 = 0 then x_hasSortBelow_j30 v1 v2 v3 σ_8 Q2 X22 else Q2 1 σ_8)))) else Q2 0 σ) :=
  ite_m (fun _ h0 => fm_x_isBelow h0 (fun r_5 σ_4 f h1 => (have f1 : Fr wX_hasSortBelow σ0 σ_4 := (fr.trans (f.weak (by decide +kernel))); ite_m (fun _ h2 => fx_hasSortBelow_j30 f1 h2 kQ kX2) (fun _ h2 => fm_x_isBelow h2 (fun r_9 σ_8 f h3 => (have f3 : Fr wX_hasSortBelow σ0 σ_8 := (f1.trans (f.weak (by decide +kernel))); ite_m (fun _ h4 => fx_hasSortBelow_j30 f3 h4 kQ kX2) (fun _ h4 => kQ _ _ f3 h4) h3))) h1))) (fun _ h0 => kQ _ _ fr h0) h
theorem fx_hasSortBelow_L2 {v1 : Int} {v2 : Int} {v3 : Int} {σ0 σ : S} {Q Q2 : Int → S → Prop} (fr : Fr wX_hasSortBelow σ0 σ) (h : x_hasSortBelow_L2 v1 v2 v3 σ Q) (kQ : ∀ r s, Fr wX_hasSortBelow σ0 s → Q r s → Q2 r s) : x_hasSortBelow_L2 v1 v2 v3 σ Q2 := by
  unfold x_hasSortBelow_L2 at h ⊢
  intro Y hY
  exact h (fun v3 s => Fr wX_hasSortBelow σ0 s → Y v3 s) (fun v3 s h f => hY v3 s (fx_hasSortBelow_L2_b (v1 := v1) (v2 := v2) (v3 := v3) (Q := Q) (Q2 := Q2) (X2 := fun v3 s => Fr wX_hasSortBelow σ0 s → Y v3 s) (X22 := Y) f h kQ (fun v3 s f h => h f))) fr
theorem lx_hasSortBelow_L2 {v1 : Int} {v2 : Int} {v3 : Int} {σ0 : S} {Q : Int → S → Prop} (I : Int → S → Prop) (me : Int → S → Nat) (h0 : I v3 σ0) (step : ∀ (v3 : Int) (s : S), Fr wX_hasSortBelow σ0 s → I v3 s → (fun (Y0 : Int → S → Prop) => (if v3 < gI s 22 then x_isBelow v3 v1 s (fun r_5 σ_4 => (if r_5 = 0 then x_hasSortBelow_j30 v1 v2 v3 σ_4 Q Y0 else x_isBelow v3 v2 σ_4 (fun r_9 σ_8 => (if r_9 = 0 then x_hasSortBelow_j30 v1 v2 v3 σ_8 Q Y0 else Q 1 σ_8)))) else Q 0 s)) (fun v3' s' => I v3' s' ∧ me v3' s' < me v3 s)) : x_hasSortBelow_L2 v1 v2 v3 σ0 Q := by
  unfold x_hasSortBelow_L2
  intro Y hY
  have key : ∀ (n : Nat) (v3 : Int) (s : S), me v3 s < n → Fr wX_hasSortBelow σ0 s → I v3 s → Y v3 s := by
    intro n
    induction n with
    | zero => intro v3 s h; exact absurd h (Nat.not_lt_zero _)
    | succ n ih =>
      intro v3 s hm fr hi
      exact hY v3 s (fx_hasSortBelow_L2_b (v1 := v1) (v2 := v2) (v3 := v3) (Q := Q) (Q2 := Q) (X2 := (fun v3' s' => I v3' s' ∧ me v3' s' < me v3 s)) (X22 := Y) fr (step v3 s fr hi) (fun _ _ _ h => h) (fun v3 s f h => ih v3 s (by omega) f h.1))
  exact key _ v3 σ0 (Nat.lt_succ_self _) Fr.rf h0
theorem fm_x_hasSortBelow {v1 : Int} {v2 : Int} {σ0 : S} {Q Q2 : Int → S → Prop} (h : x_hasSortBelow v1 v2 σ0 Q) (kQ : ∀ r s, Fr wX_hasSortBelow σ0 s → Q r s → Q2 r s) : x_hasSortBelow v1 v2 σ0 Q2 := by
  have fr : Fr wX_hasSortBelow σ0 σ0 := Fr.rf
  unfold x_hasSortBelow at h ⊢
  exact fx_hasSortBelow_L2 fr h kQ
theorem fx_leftWith_j75 {v3 : Int} {v4 : Int} {σ0 σ : S} {Q Q2 : Int → S → Prop} {E E2 : S → Prop} {X9 X92 : Int → Int → S → Prop} (fr : Fr wX_leftWith σ0 σ) (h : x_leftWith_j75 v3 v4 σ Q E X9) (kQ : ∀ r s, Fr wX_leftWith σ0 s → Q r s → Q2 r s) (kE : ∀ s, Fr wX_leftWith σ0 s → E s → E2 s) (kX9 : ∀ a0 a1 s, Fr wX_leftWith σ0 s → X9 a0 a1 s → X92 a0 a1 s) : x_leftWith_j75 v3 v4 σ Q2 E2 X92 := by
  unfold x_leftWith_j75 at h ⊢
  exact ⟨h.1, ⟨h.2.1, fm_x_make h.2.2 (fun r_16 σ_15 f h2 => (have f2 : Fr wX_leftWith σ0 σ_15 := (fr.trans (f.weak (by decide +kernel))); kX9 _ _ _ f2 h2)) (fun s f h => kE _ (fr.trans (f.weak (by decide +kernel))) h)⟩⟩
theorem fx_leftWith_j66 {v2 : Int} {v3 : Int} {v4 : Int} {v5 : Int} {s0 : Int} {σ0 σ : S} {Q Q2 : Int → S → Prop} {E E2 : S → Prop} {X9 X92 : Int → Int → S → Prop} {X22 X222 : Int → S → Prop} (fr : Fr wX_leftWith σ0 σ) (h : x_leftWith_j66 v2 v3 v4 v5 s0 σ Q E X9 X22) (kQ : ∀ r s, Fr wX_leftWith σ0 s → Q r s → Q2 r s) (kE : ∀ s, Fr wX_leftWith σ0 s → E s → E2 s) (kX9 : ∀ a0 a1 s, Fr wX_leftWith σ0 s → X9 a0 a1 s → X92 a0 a1 s) (kX22 : ∀ a0 s, Fr wX_leftWith σ0 s → X22 a0 s → X222 a0 s) : x_leftWith_j66 v2 v3 v4 v5 s0 σ Q2 E2 X92 X222 := by
  unfold x_leftWith_j66 at h ⊢
  exact fm_x_push h (fun _ σ_26 f h0 => (have f0 : Fr wX_leftWith σ0 σ_26 := (fr.trans (f.weak (by decide +kernel))); kX22 _ _ f0 h0))
theorem fx_leftWith_L22_b {v2 : Int} {v3 : Int} {v4 : Int} {v5 : Int} {σ0 σ : S} {Q Q2 : Int → S → Prop} {E E2 : S → Prop} {X9 X92 : Int → Int → S → Prop} {X22 X222 : Int → S → Prop} (fr : Fr wX_leftWith σ0 σ) (h : inb v3 80 ∧ inb (gA σ 95 v3) 200000 ∧ (if v5 < gA σ 68 (gA σ 95 v3) then inb v3 80 ∧ (if v5 = gA σ 96 v3 then x_leftWith_j66 v2 v3 v4 v5 v2 σ Q E X9 X22 else inb v3 80 ∧ x_at (gA σ 95 v3) v5 σ (fun r_25 σ_24 => x_leftWith_j66 v2 v3 v4 v5 r_25 σ_24 Q E X9 X22)) else x_leftWith_j75 v3 v4 σ Q E X9)) (kQ : ∀ r s, Fr wX_leftWith σ0 s → Q r s → Q2 r s) (kE : ∀ s, Fr wX_leftWith σ0 s → E s → E2 s) (kX9 : ∀ a0 a1 s, Fr wX_leftWith σ0 s → X9 a0 a1 s → X92 a0 a1 s) (kX22 : ∀ v5 s, Fr wX_leftWith σ0 s → X22 v5 s → X222 v5 s) : inb v3 80 ∧ inb (gA σ 95 v3) 200000 ∧ (if v5 < gA σ 68 (gA σ 95 v3) then inb v3 80 ∧ (if v5 = gA σ 96 v3 then x_leftWith_j66 v2 v3 v4 v5 v2 σ Q2 E2 X92 X222 else inb v3 80 ∧ x_at (gA σ 95 v3) v5 σ (fun r_25 σ_24 => x_leftWith_j66 v2 v3 v4 v5 r_25 σ_24 Q2 E2 X92 X222)) else x_leftWith_j75 v3 v4 σ Q2 E2 X92) :=
  ⟨h.1, ⟨h.2.1, ite_m (fun _ h2 => ⟨h2.1, ite_m (fun _ h4 => fx_leftWith_j66 fr h4 kQ kE kX9 kX22) (fun _ h4 => ⟨h4.1, fm_x_at h4.2 (fun r_25 σ_24 f h6 => (have f6 : Fr wX_leftWith σ0 σ_24 := (fr.trans (f.weak (by decide +kernel))); fx_leftWith_j66 f6 h6 kQ kE kX9 kX22))⟩) h2.2⟩) (fun _ h2 => fx_leftWith_j75 fr h2 kQ kE kX9) h.2.2⟩⟩
theorem fx_leftWith_L22 {v2 : Int} {v3 : Int} {v4 : Int} {v5 : Int} {σ0 σ : S} {Q Q2 : Int → S → Prop} {E E2 : S → Prop} {X9 X92 : Int → Int → S → Prop} (fr : Fr wX_leftWith σ0 σ) (h : x_leftWith_L22 v2 v3 v4 v5 σ Q E X9) (kQ : ∀ r s, Fr wX_leftWith σ0 s → Q r s → Q2 r s) (kE : ∀ s, Fr wX_leftWith σ0 s → E s → E2 s) (kX9 : ∀ a0 a1 s, Fr wX_leftWith σ0 s → X9 a0 a1 s → X92 a0 a1 s) : x_leftWith_L22 v2 v3 v4 v5 σ Q2 E2 X92 := by
  unfold x_leftWith_L22 at h ⊢
  intro Y hY
  exact h (fun v5 s => Fr wX_leftWith σ0 s → Y v5 s) (fun v5 s h f => hY v5 s (fx_leftWith_L22_b (v2 := v2) (v3 := v3) (v4 := v4) (v5 := v5) (Q := Q) (Q2 := Q2) (E := E) (E2 := E2) (X9 := X9) (X92 := X92) (X22 := fun v5 s => Fr wX_leftWith σ0 s → Y v5 s) (X222 := Y) f h kQ kE kX9 (fun v5 s f h => h f))) fr
theorem lx_leftWith_L22 {v2 : Int} {v3 : Int} {v4 : Int} {v5 : Int} {σ0 : S} {Q : Int → S → Prop} {E : S → Prop} {X9 : Int → Int → S → Prop} (I : Int → S → Prop) (me : Int → S → Nat) (h0 : I v5 σ0) (step : ∀ (v5 : Int) (s : S), Fr wX_leftWith σ0 s → I v5 s → (fun (Y0 : Int → S → Prop) => inb v3 80 ∧ inb (gA s 95 v3) 200000 ∧ (if v5 < gA s 68 (gA s 95 v3) then inb v3 80 ∧ (if v5 = gA s 96 v3 then x_leftWith_j66 v2 v3 v4 v5 v2 s Q E X9 Y0 else inb v3 80 ∧ x_at (gA s 95 v3) v5 s (fun r_25 σ_24 => x_leftWith_j66 v2 v3 v4 v5 r_25 σ_24 Q E X9 Y0)) else x_leftWith_j75 v3 v4 s Q E X9)) (fun v5' s' => I v5' s' ∧ me v5' s' < me v5 s)) : x_leftWith_L22 v2 v3 v4 v5 σ0 Q E X9 := by
  unfold x_leftWith_L22
  intro Y hY
  have key : ∀ (n : Nat) (v5 : Int) (s : S), me v5 s < n → Fr wX_leftWith σ0 s → I v5 s → Y v5 s := by
    intro n
    induction n with
    | zero => intro v5 s h; exact absurd h (Nat.not_lt_zero _)
    | succ n ih =>
      intro v5 s hm fr hi
      exact hY v5 s (fx_leftWith_L22_b (v2 := v2) (v3 := v3) (v4 := v4) (v5 := v5) (Q := Q) (Q2 := Q) (E := E) (E2 := E) (X9 := X9) (X92 := X9) (X22 := (fun v5' s' => I v5' s' ∧ me v5' s' < me v5 s)) (X222 := Y) fr (step v5 s fr hi) (fun _ _ _ h => h) (fun _ _ h => h) (fun _ _ _ _ h => h) (fun v5 s f h => ih v5 s (by omega) f h.1))
  exact key _ v5 σ0 (Nat.lt_succ_self _) Fr.rf h0
theorem fx_leftWith_L9_b {v2 : Int} {v3 : Int} {σ0 σ : S} {Q Q2 : Int → S → Prop} {E E2 : S → Prop} {X9 X92 : Int → Int → S → Prop} (fr : Fr wX_leftWith σ0 σ) (h : (if v3 < 0 then Q v2 σ else x_leftWith_L22 v2 v3 (gI σ 106) 0 σ Q E X9)) (kQ : ∀ r s, Fr wX_leftWith σ0 s → Q r s → Q2 r s) (kE : ∀ s, Fr wX_leftWith σ0 s → E s → E2 s) (kX9 : ∀ v2 v3 s, Fr wX_leftWith σ0 s → X9 v2 v3 s → X92 v2 v3 s) : (if v3 < 0 then Q2 v2 σ else x_leftWith_L22 v2 v3 (gI σ 106) 0 σ Q2 E2 X92) :=
  ite_m (fun _ h0 => kQ _ _ fr h0) (fun _ h0 => fx_leftWith_L22 fr h0 kQ kE kX9) h
theorem fx_leftWith_L9 {v2 : Int} {v3 : Int} {σ0 σ : S} {Q Q2 : Int → S → Prop} {E E2 : S → Prop} (fr : Fr wX_leftWith σ0 σ) (h : x_leftWith_L9 v2 v3 σ Q E) (kQ : ∀ r s, Fr wX_leftWith σ0 s → Q r s → Q2 r s) (kE : ∀ s, Fr wX_leftWith σ0 s → E s → E2 s) : x_leftWith_L9 v2 v3 σ Q2 E2 := by
  unfold x_leftWith_L9 at h ⊢
  intro Y hY
  exact h (fun v2 v3 s => Fr wX_leftWith σ0 s → Y v2 v3 s) (fun v2 v3 s h f => hY v2 v3 s (fx_leftWith_L9_b (v2 := v2) (v3 := v3) (Q := Q) (Q2 := Q2) (E := E) (E2 := E2) (X9 := fun v2 v3 s => Fr wX_leftWith σ0 s → Y v2 v3 s) (X92 := Y) f h kQ kE (fun v2 v3 s f h => h f))) fr
theorem lx_leftWith_L9 {v2 : Int} {v3 : Int} {σ0 : S} {Q : Int → S → Prop} {E : S → Prop} (I : Int → Int → S → Prop) (me : Int → Int → S → Nat) (h0 : I v2 v3 σ0) (step : ∀ (v2 : Int) (v3 : Int) (s : S), Fr wX_leftWith σ0 s → I v2 v3 s → (fun (Y0 : Int → Int → S → Prop) => (if v3 < 0 then Q v2 s else x_leftWith_L22 v2 v3 (gI s 106) 0 s Q E Y0)) (fun v2' v3' s' => I v2' v3' s' ∧ me v2' v3' s' < me v2 v3 s)) : x_leftWith_L9 v2 v3 σ0 Q E := by
  unfold x_leftWith_L9
  intro Y hY
  have key : ∀ (n : Nat) (v2 : Int) (v3 : Int) (s : S), me v2 v3 s < n → Fr wX_leftWith σ0 s → I v2 v3 s → Y v2 v3 s := by
    intro n
    induction n with
    | zero => intro v2 v3 s h; exact absurd h (Nat.not_lt_zero _)
    | succ n ih =>
      intro v2 v3 s hm fr hi
      exact hY v2 v3 s (fx_leftWith_L9_b (v2 := v2) (v3 := v3) (Q := Q) (Q2 := Q) (E := E) (E2 := E) (X9 := (fun v2' v3' s' => I v2' v3' s' ∧ me v2' v3' s' < me v2 v3 s)) (X92 := Y) fr (step v2 v3 s fr hi) (fun _ _ _ h => h) (fun _ _ h => h) (fun v2 v3 s f h => ih v2 v3 s (by omega) f h.1))
  exact key _ v2 v3 σ0 (Nat.lt_succ_self _) Fr.rf h0
theorem fm_x_leftWith {v1 : Int} {σ0 : S} {Q Q2 : Int → S → Prop} {E E2 : S → Prop} (h : x_leftWith v1 σ0 Q E) (kQ : ∀ r s, Fr wX_leftWith σ0 s → Q r s → Q2 r s) (kE : ∀ s, Fr wX_leftWith σ0 s → E s → E2 s) : x_leftWith v1 σ0 Q2 E2 := by
  have fr : Fr wX_leftWith σ0 σ0 := Fr.rf
  unfold x_leftWith at h ⊢
  exact fx_leftWith_L9 fr h kQ kE
theorem fx_meet_L170_b {v6 : Int} {σ0 σ : S} {Q Q2 : Int → S → Prop} {E E2 : S → Prop} {X170 X1702 : Int → S → Prop} (fr : Fr wX_meet σ0 σ) (h : (if v6 < gI σ 93 then inb v6 200000 ∧ ∀ σ_42, σ_42 = pA σ 75 v6 0 → X170 (w32 (v6 + 1)) σ_42 else Q 0 σ)) (kQ : ∀ r s, Fr wX_meet σ0 s → Q r s → Q2 r s) (kE : ∀ s, Fr wX_meet σ0 s → E s → E2 s) (kX170 : ∀ v6 s, Fr wX_meet σ0 s → X170 v6 s → X1702 v6 s) : (if v6 < gI σ 93 then inb v6 200000 ∧ ∀ σ_42, σ_42 = pA σ 75 v6 0 → X1702 (w32 (v6 + 1)) σ_42 else Q2 0 σ) :=
  ite_m (fun _ h0 => ⟨h0.1, fun σ_42 e2 => (have f2 : Fr wX_meet σ0 σ_42 := Fr.putA fr e2 rfl; kX170 _ _ f2 (h0.2 σ_42 e2))⟩) (fun _ h0 => kQ _ _ fr h0) h
theorem fx_meet_L170 {v6 : Int} {σ0 σ : S} {Q Q2 : Int → S → Prop} {E E2 : S → Prop} (fr : Fr wX_meet σ0 σ) (h : x_meet_L170 v6 σ Q E) (kQ : ∀ r s, Fr wX_meet σ0 s → Q r s → Q2 r s) (kE : ∀ s, Fr wX_meet σ0 s → E s → E2 s) : x_meet_L170 v6 σ Q2 E2 := by
  unfold x_meet_L170 at h ⊢
  intro Y hY
  exact h (fun v6 s => Fr wX_meet σ0 s → Y v6 s) (fun v6 s h f => hY v6 s (fx_meet_L170_b (v6 := v6) (Q := Q) (Q2 := Q2) (E := E) (E2 := E2) (X170 := fun v6 s => Fr wX_meet σ0 s → Y v6 s) (X1702 := Y) f h kQ kE (fun v6 s f h => h f))) fr
theorem lx_meet_L170 {v6 : Int} {σ0 : S} {Q : Int → S → Prop} {E : S → Prop} (I : Int → S → Prop) (me : Int → S → Nat) (h0 : I v6 σ0) (step : ∀ (v6 : Int) (s : S), Fr wX_meet σ0 s → I v6 s → (fun (Y0 : Int → S → Prop) => (if v6 < gI s 93 then inb v6 200000 ∧ ∀ σ_42, σ_42 = pA s 75 v6 0 → Y0 (w32 (v6 + 1)) σ_42 else Q 0 s)) (fun v6' s' => I v6' s' ∧ me v6' s' < me v6 s)) : x_meet_L170 v6 σ0 Q E := by
  unfold x_meet_L170
  intro Y hY
  have key : ∀ (n : Nat) (v6 : Int) (s : S), me v6 s < n → Fr wX_meet σ0 s → I v6 s → Y v6 s := by
    intro n
    induction n with
    | zero => intro v6 s h; exact absurd h (Nat.not_lt_zero _)
    | succ n ih =>
      intro v6 s hm fr hi
      exact hY v6 s (fx_meet_L170_b (v6 := v6) (Q := Q) (Q2 := Q) (E := E) (E2 := E) (X170 := (fun v6' s' => I v6' s' ∧ me v6' s' < me v6 s)) (X1702 := Y) fr (step v6 s fr hi) (fun _ _ _ h => h) (fun _ _ h => h) (fun v6 s f h => ih v6 s (by omega) f h.1))
  exact key _ v6 σ0 (Nat.lt_succ_self _) Fr.rf h0
theorem fx_meet_j151 {v2 : Int} {v3 : Int} {σ0 σ : S} {Q Q2 : Int → S → Prop} {E E2 : S → Prop} (fr : Fr wX_meet σ0 σ) (h : x_meet_j151 v2 v3 σ Q E) (kQ : ∀ r s, Fr wX_meet σ0 s → Q r s → Q2 r s) (kE : ∀ s, Fr wX_meet σ0 s → E s → E2 s) : x_meet_j151 v2 v3 σ Q2 E2 := by
  unfold x_meet_j151 at h ⊢
  exact fun σ_36 e0 => (have f0 : Fr wX_meet σ0 σ_36 := Fr.putI fr e0 rfl; fm_x_dropTo (h σ_36 e0) (fun _ σ_38 f h1 => (have f1 : Fr wX_meet σ0 σ_38 := (f0.trans (f.weak (by decide +kernel))); fx_meet_L170 f1 h1 kQ kE)))
theorem fx_meet_j141 {v2 : Int} {v3 : Int} {σ0 σ : S} {Q Q2 : Int → S → Prop} {E E2 : S → Prop} (fr : Fr wX_meet σ0 σ) (h : x_meet_j141 v2 v3 σ Q E) (kQ : ∀ r s, Fr wX_meet σ0 s → Q r s → Q2 r s) (kE : ∀ s, Fr wX_meet σ0 s → E s → E2 s) : x_meet_j141 v2 v3 σ Q2 E2 := by
  unfold x_meet_j141 at h ⊢
  exact fun σ_50 e0 => (have f0 : Fr wX_meet σ0 σ_50 := Fr.putI fr e0 rfl; fx_meet_j151 f0 (h σ_50 e0) kQ kE)
theorem fm_x_meet {σ0 : S} {Q Q2 : Int → S → Prop} {E E2 : S → Prop} (h : x_meet  σ0 Q E) (kQ : ∀ r s, Fr wX_meet σ0 s → Q r s → Q2 r s) (kE : ∀ s, Fr wX_meet σ0 s → E s → E2 s) : x_meet  σ0 Q2 E2 := by
  have fr : Fr wX_meet σ0 σ0 := Fr.rf
  unfold x_meet at h ⊢
  exact fm_x_countWay h (fun _ σ_1 f h0 => (have f0 : Fr wX_meet σ0 σ_1 := (fr.trans (f.weak (by decide +kernel))); fun σ_6 e1 => (have f1 : Fr wX_meet σ0 σ_6 := Fr.putI f0 e1 rfl; fun σ_8 e2 => (have f2 : Fr wX_meet σ0 σ_8 := Fr.putI f1 e2 rfl; fun σ_10 e3 => (have f3 : Fr wX_meet σ0 σ_10 := Fr.putI f2 e3 rfl; fun σ_12 e4 => (have f4 : Fr wX_meet σ0 σ_12 := Fr.putI f3 e4 rfl; fm_x_given ((((h0 σ_6 e1) σ_8 e2) σ_10 e3) σ_12 e4) (fun r_16 σ_15 f h5 => (have f5 : Fr wX_meet σ0 σ_15 := (f4.trans (f.weak (by decide +kernel))); fm_x_leftWith h5 (fun r_20 σ_19 f h6 => (have f6 : Fr wX_meet σ0 σ_19 := (f5.trans (f.weak (by decide +kernel))); fm_x_given h6 (fun r_23 σ_22 f h7 => (have f7 : Fr wX_meet σ0 σ_22 := (f6.trans (f.weak (by decide +kernel))); fm_x_toRest h7 (fun r_26 σ_25 f h8 => (have f8 : Fr wX_meet σ0 σ_25 := (f7.trans (f.weak (by decide +kernel))); fm_x_toRest h8 (fun r_29 σ_28 f h9 => (have f9 : Fr wX_meet σ0 σ_28 := (f8.trans (f.weak (by decide +kernel))); fun σ_31 e10 => (have f10 : Fr wX_meet σ0 σ_31 := Fr.putI f9 e10 rfl; ite_m (fun _ h11 => fx_meet_j151 f10 h11 kQ kE) (fun _ h11 => ite_m (fun _ h12 => fm_x_saveTo h12 (fun _ σ_52 f h13 => (have f13 : Fr wX_meet σ0 σ_52 := (f10.trans (f.weak (by decide +kernel))); fm_x_saveTo h13 (fun _ σ_53 f h14 => (have f14 : Fr wX_meet σ0 σ_53 := (f13.trans (f.weak (by decide +kernel))); fun σ_55 e15 => (have f15 : Fr wX_meet σ0 σ_55 := Fr.putI f14 e15 rfl; fun σ_58 e16 => (have f16 : Fr wX_meet σ0 σ_58 := Fr.putI f15 e16 rfl; fx_meet_j141 f16 ((h14 σ_55 e15) σ_58 e16) kQ kE))))))) (fun _ h12 => fx_meet_j141 f10 h12 kQ kE) h11) (h9 σ_31 e10)))) (fun s f h => kE _ (f8.trans (f.weak (by decide +kernel))) h))) (fun s f h => kE _ (f7.trans (f.weak (by decide +kernel))) h))) (fun s f h => kE _ (f6.trans (f.weak (by decide +kernel))) h))) (fun s f h => kE _ (f5.trans (f.weak (by decide +kernel))) h))) (fun s f h => kE _ (f4.trans (f.weak (by decide +kernel))) h))))))) (fun s f h => kE _ (fr.trans (f.weak (by decide +kernel))) h)
theorem fx_unify_j226 {v1 : Int} {v2 : Int} {v3 : Int} {v4 : Int} {v5 : Int} {σ0 σ : S} {Q Q2 : Int → S → Prop} {E E2 : S → Prop} {G : Orc} (hG : FrO wX_unify G) (fr : Fr wX_unify σ0 σ) (h : x_unify_j226 G v1 v2 v3 v4 v5 σ Q E) (kQ : ∀ r s, Fr wX_unify σ0 s → Q r s → Q2 r s) (kE : ∀ s, Fr wX_unify σ0 s → E s → E2 s) : x_unify_j226 G v1 v2 v3 v4 v5 σ Q2 E2 := by
  unfold x_unify_j226 at h ⊢
  exact ⟨h.1, fun σ_41 e1 => (have f1 : Fr wX_unify σ0 σ_41 := Fr.putA fr e1 rfl; ⟨(h.2 σ_41 e1).1, fun σ_44 e3 => (have f3 : Fr wX_unify σ0 σ_44 := Fr.putA f1 e3 rfl; fm_x_dropTo ((h.2 σ_41 e1).2 σ_44 e3) (fun _ σ_47 f h4 => (have f4 : Fr wX_unify σ0 σ_47 := (f3.trans (f.weak (by decide +kernel))); fun σ_49 e5 => (have f5 : Fr wX_unify σ0 σ_49 := Fr.putI f4 e5 rfl; kQ _ _ f5 (h4 σ_49 e5)))))⟩)⟩
theorem fx_unify_j130 {v1 : Int} {v2 : Int} {v3 : Int} {v4 : Int} {v5 : Int} {v6 : Int} {v7 : Int} {σ0 σ : S} {Q Q2 : Int → S → Prop} {E E2 : S → Prop} {G : Orc} (hG : FrO wX_unify G) (fr : Fr wX_unify σ0 σ) (h : x_unify_j130 G v1 v2 v3 v4 v5 v6 v7 σ Q E) (kQ : ∀ r s, Fr wX_unify σ0 s → Q r s → Q2 r s) (kE : ∀ s, Fr wX_unify σ0 s → E s → E2 s) : x_unify_j130 G v1 v2 v3 v4 v5 v6 v7 σ Q2 E2 := by
  unfold x_unify_j130 at h ⊢
  exact ⟨h.1, ite_m (fun _ h1 => hG _ _ _ _ _ _ _ h1 (fun _ σ_63 f h2 => (have f2 : Fr wX_unify σ0 σ_63 := (fr.trans f); fx_unify_j226 hG f2 h2 kQ kE)) (fun s f h => kE _ (fr.trans f) h)) (fun _ h1 => ⟨h1.1, ite_m (fun _ h3 => hG _ _ _ _ _ _ _ h3 (fun _ σ_61 f h4 => (have f4 : Fr wX_unify σ0 σ_61 := (fr.trans f); fx_unify_j226 hG f4 h4 kQ kE)) (fun s f h => kE _ (fr.trans f) h)) (fun _ h3 => ⟨h3.1, ⟨h3.2.1, ite_m (fun _ h6 => hG _ _ _ _ _ _ _ h6 (fun _ σ_51 f h7 => (have f7 : Fr wX_unify σ0 σ_51 := (fr.trans f); ⟨h7.1, ⟨h7.2.1, ite_m (fun _ h10 => fx_unify_j226 hG f7 h10 kQ kE) (fun _ h10 => hG _ _ _ _ _ _ _ h10 (fun _ σ_59 f h11 => (have f11 : Fr wX_unify σ0 σ_59 := (f7.trans f); fx_unify_j226 hG f11 h11 kQ kE)) (fun s f h => kE _ (f7.trans f) h)) h7.2.2⟩⟩)) (fun s f h => kE _ (fr.trans f) h)) (fun _ h6 => fx_unify_j226 hG fr h6 kQ kE) h3.2.2⟩⟩) h1.2⟩) h.2⟩
theorem fx_unify_F {v1 : Int} {σ0 : S} {Q Q2 : Int → S → Prop} {E E2 : S → Prop} {G : Orc} (hG : FrO wX_unify G) (h : x_unify_F G v1 σ0 Q E) (kQ : ∀ r s, Fr wX_unify σ0 s → Q r s → Q2 r s) (kE : ∀ s, Fr wX_unify σ0 s → E s → E2 s) : x_unify_F G v1 σ0 Q2 E2 := by
  have fr : Fr wX_unify σ0 σ0 := Fr.rf
  unfold x_unify_F at h ⊢
  exact ite_m (fun _ h0 => fm_x_meet h0 (fun _ σ_74 f h1 => (have f1 : Fr wX_unify σ0 σ_74 := (fr.trans (f.weak (by decide +kernel))); kQ _ _ f1 h1)) (fun s f h => kE _ (fr.trans (f.weak (by decide +kernel))) h)) (fun _ h0 => ite_m (fun _ h1 => fm_x_stop h1 (fun _ σ_73 f h2 => (have f2 : Fr wX_unify σ0 σ_73 := (fr.trans (f.weak (by decide +kernel))); kE _ f2 h2))) (fun _ h1 => fun σ_7 e2 => (have f2 : Fr wX_unify σ0 σ_7 := Fr.putI fr e2 rfl; ⟨(h1 σ_7 e2).1, ⟨(h1 σ_7 e2).2.1, fm_x_given (h1 σ_7 e2).2.2 (fun r_16 σ_15 f h5 => (have f5 : Fr wX_unify σ0 σ_15 := (f2.trans (f.weak (by decide +kernel))); fm_x_given h5 (fun r_19 σ_18 f h6 => (have f6 : Fr wX_unify σ0 σ_18 := (f5.trans (f.weak (by decide +kernel))); ite_m (fun _ h7 => hG _ _ _ _ _ _ _ h7 (fun _ σ_71 f h8 => (have f8 : Fr wX_unify σ0 σ_71 := (f6.trans f); fx_unify_j226 hG f8 h8 kQ kE)) (fun s f h => kE _ (f6.trans f) h)) (fun _ h7 => ⟨h7.1, ite_m (fun _ h9 => ⟨h9.1, ite_m (fun _ h11 => hG _ _ _ _ _ _ _ h11 (fun _ σ_69 f h12 => (have f12 : Fr wX_unify σ0 σ_69 := (f6.trans f); fx_unify_j226 hG f12 h12 kQ kE)) (fun s f h => kE _ (f6.trans f) h)) (fun _ h11 => fx_unify_j130 hG f6 h11 kQ kE) h9.2⟩) (fun _ h9 => fx_unify_j130 hG f6 h9 kQ kE) h7.2⟩) h6)) (fun s f h => kE _ (f5.trans (f.weak (by decide +kernel))) h))) (fun s f h => kE _ (f2.trans (f.weak (by decide +kernel))) h)⟩⟩)) h0) h
theorem fx_unifyRows_j85 {v1 : Int} {v5 : Int} {σ0 σ : S} {Q Q2 : Int → S → Prop} {E E2 : S → Prop} {G : Orc} (hG : FrO wX_unifyRows G) (fr : Fr wX_unifyRows σ0 σ) (h : x_unifyRows_j85 G v1 v5 σ Q E) (kQ : ∀ r s, Fr wX_unifyRows σ0 s → Q r s → Q2 r s) (kE : ∀ s, Fr wX_unifyRows σ0 s → E s → E2 s) : x_unifyRows_j85 G v1 v5 σ Q2 E2 := by
  unfold x_unifyRows_j85 at h ⊢
  exact hG _ _ _ _ _ _ _ h (fun _ σ_5 f h0 => (have f0 : Fr wX_unifyRows σ0 σ_5 := (fr.trans f); kQ _ _ f0 h0)) (fun s f h => kE _ (fr.trans f) h)
theorem fx_unifyRows_L11_b {v1 : Int} {v2 : Int} {v3 : Int} {v4 : Int} {v5 : Int} {v6 : Int} {σ0 σ : S} {Q Q2 : Int → S → Prop} {E E2 : S → Prop} {X11 X112 : Int → S → Prop} {G : Orc} (hG : FrO wX_unifyRows G) (fr : Fr wX_unifyRows σ0 σ) (h : (if v6 < v5 then x_at v2 v6 σ (fun r_8 σ_7 => inb (w32 (w32 (w32 (w32 (v1 - 1) + v5) - 1) - v6)) 400 ∧ ∀ σ_9, σ_9 = pA σ_7 84 (w32 (w32 (w32 (w32 (v1 - 1) + v5) - 1) - v6)) r_8 → x_at v3 (if v4 = 0 then v6 else w32 (w32 (v5 - 1) - v6)) σ_9 (fun r_17 σ_16 => inb (w32 (w32 (w32 (w32 (v1 - 1) + v5) - 1) - v6)) 400 ∧ ∀ σ_18, σ_18 = pA σ_16 85 (w32 (w32 (w32 (w32 (v1 - 1) + v5) - 1) - v6)) r_17 → X11 (w32 (v6 + 1)) σ_18)) else x_unifyRows_j85 G v1 v5 σ Q E)) (kQ : ∀ r s, Fr wX_unifyRows σ0 s → Q r s → Q2 r s) (kE : ∀ s, Fr wX_unifyRows σ0 s → E s → E2 s) (kX11 : ∀ v6 s, Fr wX_unifyRows σ0 s → X11 v6 s → X112 v6 s) : (if v6 < v5 then x_at v2 v6 σ (fun r_8 σ_7 => inb (w32 (w32 (w32 (w32 (v1 - 1) + v5) - 1) - v6)) 400 ∧ ∀ σ_9, σ_9 = pA σ_7 84 (w32 (w32 (w32 (w32 (v1 - 1) + v5) - 1) - v6)) r_8 → x_at v3 (if v4 = 0 then v6 else w32 (w32 (v5 - 1) - v6)) σ_9 (fun r_17 σ_16 => inb (w32 (w32 (w32 (w32 (v1 - 1) + v5) - 1) - v6)) 400 ∧ ∀ σ_18, σ_18 = pA σ_16 85 (w32 (w32 (w32 (w32 (v1 - 1) + v5) - 1) - v6)) r_17 → X112 (w32 (v6 + 1)) σ_18)) else x_unifyRows_j85 G v1 v5 σ Q2 E2) :=
  ite_m (fun _ h0 => fm_x_at h0 (fun r_8 σ_7 f h1 => (have f1 : Fr wX_unifyRows σ0 σ_7 := (fr.trans (f.weak (by decide +kernel))); ⟨h1.1, fun σ_9 e3 => (have f3 : Fr wX_unifyRows σ0 σ_9 := Fr.putA f1 e3 rfl; fm_x_at (h1.2 σ_9 e3) (fun r_17 σ_16 f h4 => (have f4 : Fr wX_unifyRows σ0 σ_16 := (f3.trans (f.weak (by decide +kernel))); ⟨h4.1, fun σ_18 e6 => (have f6 : Fr wX_unifyRows σ0 σ_18 := Fr.putA f4 e6 rfl; kX11 _ _ f6 (h4.2 σ_18 e6))⟩)))⟩))) (fun _ h0 => fx_unifyRows_j85 hG fr h0 kQ kE) h
theorem fx_unifyRows_L11 {v1 : Int} {v2 : Int} {v3 : Int} {v4 : Int} {v5 : Int} {v6 : Int} {σ0 σ : S} {Q Q2 : Int → S → Prop} {E E2 : S → Prop} {G : Orc} (hG : FrO wX_unifyRows G) (fr : Fr wX_unifyRows σ0 σ) (h : x_unifyRows_L11 G v1 v2 v3 v4 v5 v6 σ Q E) (kQ : ∀ r s, Fr wX_unifyRows σ0 s → Q r s → Q2 r s) (kE : ∀ s, Fr wX_unifyRows σ0 s → E s → E2 s) : x_unifyRows_L11 G v1 v2 v3 v4 v5 v6 σ Q2 E2 := by
  unfold x_unifyRows_L11 at h ⊢
  intro Y hY
  exact h (fun v6 s => Fr wX_unifyRows σ0 s → Y v6 s) (fun v6 s h f => hY v6 s (fx_unifyRows_L11_b (v1 := v1) (v2 := v2) (v3 := v3) (v4 := v4) (v5 := v5) (v6 := v6) (Q := Q) (Q2 := Q2) (E := E) (E2 := E2) (X11 := fun v6 s => Fr wX_unifyRows σ0 s → Y v6 s) (X112 := Y) hG f h kQ kE (fun v6 s f h => h f))) fr
theorem lx_unifyRows_L11 {v1 : Int} {v2 : Int} {v3 : Int} {v4 : Int} {v5 : Int} {v6 : Int} {σ0 : S} {Q : Int → S → Prop} {E : S → Prop} {G : Orc} (hG : FrO wX_unifyRows G) (I : Int → S → Prop) (me : Int → S → Nat) (h0 : I v6 σ0) (step : ∀ (v6 : Int) (s : S), Fr wX_unifyRows σ0 s → I v6 s → (fun (Y0 : Int → S → Prop) => (if v6 < v5 then x_at v2 v6 s (fun r_8 σ_7 => inb (w32 (w32 (w32 (w32 (v1 - 1) + v5) - 1) - v6)) 400 ∧ ∀ σ_9, σ_9 = pA σ_7 84 (w32 (w32 (w32 (w32 (v1 - 1) + v5) - 1) - v6)) r_8 → x_at v3 (if v4 = 0 then v6 else w32 (w32 (v5 - 1) - v6)) σ_9 (fun r_17 σ_16 => inb (w32 (w32 (w32 (w32 (v1 - 1) + v5) - 1) - v6)) 400 ∧ ∀ σ_18, σ_18 = pA σ_16 85 (w32 (w32 (w32 (w32 (v1 - 1) + v5) - 1) - v6)) r_17 → Y0 (w32 (v6 + 1)) σ_18)) else x_unifyRows_j85 G v1 v5 s Q E)) (fun v6' s' => I v6' s' ∧ me v6' s' < me v6 s)) : x_unifyRows_L11 G v1 v2 v3 v4 v5 v6 σ0 Q E := by
  unfold x_unifyRows_L11
  intro Y hY
  have key : ∀ (n : Nat) (v6 : Int) (s : S), me v6 s < n → Fr wX_unifyRows σ0 s → I v6 s → Y v6 s := by
    intro n
    induction n with
    | zero => intro v6 s h; exact absurd h (Nat.not_lt_zero _)
    | succ n ih =>
      intro v6 s hm fr hi
      exact hY v6 s (fx_unifyRows_L11_b (v1 := v1) (v2 := v2) (v3 := v3) (v4 := v4) (v5 := v5) (v6 := v6) (Q := Q) (Q2 := Q) (E := E) (E2 := E) (X11 := (fun v6' s' => I v6' s' ∧ me v6' s' < me v6 s)) (X112 := Y) hG fr (step v6 s fr hi) (fun _ _ _ h => h) (fun _ _ h => h) (fun v6 s f h => ih v6 s (by omega) f h.1))
  exact key _ v6 σ0 (Nat.lt_succ_self _) Fr.rf h0
theorem fx_unifyRows_F {v1 : Int} {v2 : Int} {v3 : Int} {v4 : Int} {σ0 : S} {Q Q2 : Int → S → Prop} {E E2 : S → Prop} {G : Orc} (hG : FrO wX_unifyRows G) (h : x_unifyRows_F G v1 v2 v3 v4 σ0 Q E) (kQ : ∀ r s, Fr wX_unifyRows σ0 s → Q r s → Q2 r s) (kE : ∀ s, Fr wX_unifyRows σ0 s → E s → E2 s) : x_unifyRows_F G v1 v2 v3 v4 σ0 Q2 E2 := by
  have fr : Fr wX_unifyRows σ0 σ0 := Fr.rf
  unfold x_unifyRows_F at h ⊢
  exact ⟨h.1, fx_unifyRows_L11 hG fr h.2 kQ kE⟩
theorem fx_give_F {v1 : Int} {v2 : Int} {v3 : Int} {σ0 : S} {Q Q2 : Int → S → Prop} {E E2 : S → Prop} {G : Orc} (hG : FrO wX_give G) (h : x_give_F G v1 v2 v3 σ0 Q E) (kQ : ∀ r s, Fr wX_give σ0 s → Q r s → Q2 r s) (kE : ∀ s, Fr wX_give σ0 s → E s → E2 s) : x_give_F G v1 v2 v3 σ0 Q2 E2 := by
  have fr : Fr wX_give σ0 σ0 := Fr.rf
  unfold x_give_F at h ⊢
  exact ⟨h.1, ⟨h.2.1, fun σ_3 e2 => (have f2 : Fr wX_give σ0 σ_3 := Fr.putA fr e2 rfl; hG _ _ _ _ _ _ _ (h.2.2 σ_3 e2) (fun _ σ_6 f h3 => (have f3 : Fr wX_give σ0 σ_6 := (f2.trans f); ⟨h3.1, ⟨h3.2.1, fun σ_10 e6 => (have f6 : Fr wX_give σ0 σ_10 := Fr.putA f3 e6 rfl; kQ _ _ f6 (h3.2.2 σ_10 e6))⟩⟩)) (fun s f h => kE _ (f2.trans f) h))⟩⟩
theorem fx_unifyVariables_F {v1 : Int} {v2 : Int} {v3 : Int} {σ0 : S} {Q Q2 : Int → S → Prop} {E E2 : S → Prop} {G : Orc} (hG : FrO wX_unifyVariables G) (h : x_unifyVariables_F G v1 v2 v3 σ0 Q E) (kQ : ∀ r s, Fr wX_unifyVariables σ0 s → Q r s → Q2 r s) (kE : ∀ s, Fr wX_unifyVariables σ0 s → E s → E2 s) : x_unifyVariables_F G v1 v2 v3 σ0 Q2 E2 := by
  have fr : Fr wX_unifyVariables σ0 σ0 := Fr.rf
  unfold x_unifyVariables_F at h ⊢
  exact ⟨h.1, ⟨h.2.1, fm_x_isBelow h.2.2 (fun r_6 σ_5 f h2 => (have f2 : Fr wX_unifyVariables σ0 σ_5 := (fr.trans (f.weak (by decide +kernel))); ite_m (fun _ h3 => ⟨h3.1, ⟨h3.2.1, fm_x_isBelow h3.2.2 (fun r_14 σ_13 f h6 => (have f6 : Fr wX_unifyVariables σ0 σ_13 := (f2.trans (f.weak (by decide +kernel))); ite_m (fun _ h7 => ⟨h7.1, ⟨h7.2.1, fm_x_hasSortBelow h7.2.2 (fun r_22 σ_21 f h10 => (have f10 : Fr wX_unifyVariables σ0 σ_21 := (f6.trans (f.weak (by decide +kernel))); ite_m (fun _ h11 => kQ _ _ f10 h11) (fun _ h11 => fm_x_open h11 (fun _ σ_25 f h12 => (have f12 : Fr wX_unifyVariables σ0 σ_25 := (f10.trans (f.weak (by decide +kernel))); kQ _ _ f12 h12)) (fun s f h => kE _ (f10.trans (f.weak (by decide +kernel))) h)) h10))⟩⟩) (fun _ h7 => hG _ _ _ _ _ _ _ h7 (fun _ σ_27 f h8 => (have f8 : Fr wX_unifyVariables σ0 σ_27 := (f6.trans f); kQ _ _ f8 h8)) (fun s f h => kE _ (f6.trans f) h)) h6))⟩⟩) (fun _ h3 => hG _ _ _ _ _ _ _ h3 (fun _ σ_29 f h4 => (have f4 : Fr wX_unifyVariables σ0 σ_29 := (f2.trans f); kQ _ _ f4 h4)) (fun s f h => kE _ (f2.trans f) h)) h2))⟩⟩
theorem fx_unifyVariable_j55 {v2 : Int} {v3 : Int} {σ0 σ : S} {Q Q2 : Int → S → Prop} {E E2 : S → Prop} {G : Orc} (hG : FrO wX_unifyVariable G) (fr : Fr wX_unifyVariable σ0 σ) (h : x_unifyVariable_j55 G v2 v3 σ Q E) (kQ : ∀ r s, Fr wX_unifyVariable σ0 s → Q r s → Q2 r s) (kE : ∀ s, Fr wX_unifyVariable σ0 s → E s → E2 s) : x_unifyVariable_j55 G v2 v3 σ Q2 E2 := by
  unfold x_unifyVariable_j55 at h ⊢
  exact ⟨h.1, ⟨h.2.1, fm_x_hasRowBelow h.2.2 (fun r_16 σ_15 f h2 => (have f2 : Fr wX_unifyVariable σ0 σ_15 := (fr.trans (f.weak (by decide +kernel))); ite_m (fun _ h3 => kQ _ _ f2 h3) (fun _ h3 => fm_x_open h3 (fun _ σ_19 f h4 => (have f4 : Fr wX_unifyVariable σ0 σ_19 := (f2.trans (f.weak (by decide +kernel))); kQ _ _ f4 h4)) (fun s f h => kE _ (f2.trans (f.weak (by decide +kernel))) h)) h2))⟩⟩
theorem fx_unifyVariable_F {v1 : Int} {v2 : Int} {v3 : Int} {σ0 : S} {Q Q2 : Int → S → Prop} {E E2 : S → Prop} {G : Orc} (hG : FrO wX_unifyVariable G) (h : x_unifyVariable_F G v1 v2 v3 σ0 Q E) (kQ : ∀ r s, Fr wX_unifyVariable σ0 s → Q r s → Q2 r s) (kE : ∀ s, Fr wX_unifyVariable σ0 s → E s → E2 s) : x_unifyVariable_F G v1 v2 v3 σ0 Q2 E2 := by
  have fr : Fr wX_unifyVariable σ0 σ0 := Fr.rf
  unfold x_unifyVariable_F at h ⊢
  exact ⟨h.1, fm_x_occurs h.2 (fun r_4 σ_3 f h1 => (have f1 : Fr wX_unifyVariable σ0 σ_3 := (fr.trans (f.weak (by decide +kernel))); ite_m (fun _ h2 => ⟨h2.1, ite_m (fun _ h4 => fx_unifyVariable_j55 hG f1 h4 kQ kE) (fun _ h4 => ⟨h4.1, fm_x_isBelow h4.2 (fun r_24 σ_23 f h6 => (have f6 : Fr wX_unifyVariable σ0 σ_23 := (f1.trans (f.weak (by decide +kernel))); ite_m (fun _ h7 => fx_unifyVariable_j55 hG f6 h7 kQ kE) (fun _ h7 => hG _ _ _ _ _ _ _ h7 (fun _ σ_27 f h8 => (have f8 : Fr wX_unifyVariable σ0 σ_27 := (f6.trans f); kQ _ _ f8 h8)) (fun s f h => kE _ (f6.trans f) h)) h6))⟩) h2.2⟩) (fun _ h2 => kQ _ _ f1 h2) h1))⟩
theorem fo_x_S_unify : ∀ n, FrO wX_unify (x_S_unify n)
  | 0 => fun _ _ _ _ _ _ _ h _ _ => h.elim
  | n + 1 => fun i a σ Q Q2 E E2 h kQ kE => by
    unfold x_S_unify at h ⊢
    split at h
    · exact fx_unify_F (fo_x_S_unify n) h kQ kE
    · exact fx_unifyRows_F (fo_x_S_unify n) h kQ kE
    · exact fx_give_F (fo_x_S_unify n) h kQ kE
    · exact fx_unifyVariables_F (fo_x_S_unify n) h kQ kE
    · exact fx_unifyVariable_F (fo_x_S_unify n) h kQ kE
    · exact h.elim
theorem fm_x_unify {v1 : Int} {σ0 : S} {Q Q2 : Int → S → Prop} {E E2 : S → Prop} (h : x_unify v1 σ0 Q E) (kQ : ∀ r s, Fr wX_unify σ0 s → Q r s → Q2 r s) (kE : ∀ s, Fr wX_unify σ0 s → E s → E2 s) : x_unify v1 σ0 Q2 E2 := fo_x_S_unify 470 _ _ _ _ _ _ _ h kQ kE
theorem fm_x_unifyRows {v1 : Int} {v2 : Int} {v3 : Int} {v4 : Int} {σ0 : S} {Q Q2 : Int → S → Prop} {E E2 : S → Prop} (h : x_unifyRows v1 v2 v3 v4 σ0 Q E) (kQ : ∀ r s, Fr wX_unifyRows σ0 s → Q r s → Q2 r s) (kE : ∀ s, Fr wX_unifyRows σ0 s → E s → E2 s) : x_unifyRows v1 v2 v3 v4 σ0 Q2 E2 := fo_x_S_unify 470 _ _ _ _ _ _ _ h kQ kE
theorem fm_x_give {v1 : Int} {v2 : Int} {v3 : Int} {σ0 : S} {Q Q2 : Int → S → Prop} {E E2 : S → Prop} (h : x_give v1 v2 v3 σ0 Q E) (kQ : ∀ r s, Fr wX_give σ0 s → Q r s → Q2 r s) (kE : ∀ s, Fr wX_give σ0 s → E s → E2 s) : x_give v1 v2 v3 σ0 Q2 E2 := fo_x_S_unify 470 _ _ _ _ _ _ _ h kQ kE
theorem fm_x_unifyVariables {v1 : Int} {v2 : Int} {v3 : Int} {σ0 : S} {Q Q2 : Int → S → Prop} {E E2 : S → Prop} (h : x_unifyVariables v1 v2 v3 σ0 Q E) (kQ : ∀ r s, Fr wX_unifyVariables σ0 s → Q r s → Q2 r s) (kE : ∀ s, Fr wX_unifyVariables σ0 s → E s → E2 s) : x_unifyVariables v1 v2 v3 σ0 Q2 E2 := fo_x_S_unify 470 _ _ _ _ _ _ _ h kQ kE
theorem fm_x_unifyVariable {v1 : Int} {v2 : Int} {v3 : Int} {σ0 : S} {Q Q2 : Int → S → Prop} {E E2 : S → Prop} (h : x_unifyVariable v1 v2 v3 σ0 Q E) (kQ : ∀ r s, Fr wX_unifyVariable σ0 s → Q r s → Q2 r s) (kE : ∀ s, Fr wX_unifyVariable σ0 s → E s → E2 s) : x_unifyVariable v1 v2 v3 σ0 Q2 E2 := fo_x_S_unify 470 _ _ _ _ _ _ _ h kQ kE
theorem fx_hasAxiom_L47_b {v1 : Int} {v2 : Int} {v3 : Int} {σ0 σ : S} {Q Q2 : Int → S → Prop} {X47 X472 : Int → Int → S → Prop} {G : Orc} (hG : FrO wX_hasAxiom G) (fr : Fr wX_hasAxiom σ0 σ) (h : inb v1 200000 ∧ (if (v3 < gA σ 68 v1) ∧ (v2 = 0) then x_at v1 v3 σ (fun r_19 σ_18 => G 0 [r_19] σ_18 (fun r_21 σ_20 => X47 r_21 (w32 (v3 + 1)) σ_20) (fun _ => False)) else Q v2 σ)) (kQ : ∀ r s, Fr wX_hasAxiom σ0 s → Q r s → Q2 r s) (kX47 : ∀ v2 v3 s, Fr wX_hasAxiom σ0 s → X47 v2 v3 s → X472 v2 v3 s) : inb v1 200000 ∧ (if (v3 < gA σ 68 v1) ∧ (v2 = 0) then x_at v1 v3 σ (fun r_19 σ_18 => G 0 [r_19] σ_18 (fun r_21 σ_20 => X472 r_21 (w32 (v3 + 1)) σ_20) (fun _ => False)) else Q2 v2 σ) :=
  ⟨h.1, ite_m (fun _ h1 => fm_x_at h1 (fun r_19 σ_18 f h2 => (have f2 : Fr wX_hasAxiom σ0 σ_18 := (fr.trans (f.weak (by decide +kernel))); hG _ _ _ _ _ _ _ h2 (fun r_21 σ_20 f h3 => (have f3 : Fr wX_hasAxiom σ0 σ_20 := (f2.trans f); kX47 _ _ _ f3 h3)) (fun _ _ h => h)))) (fun _ h1 => kQ _ _ fr h1) h.2⟩
theorem fx_hasAxiom_L47 {v1 : Int} {v2 : Int} {v3 : Int} {σ0 σ : S} {Q Q2 : Int → S → Prop} {G : Orc} (hG : FrO wX_hasAxiom G) (fr : Fr wX_hasAxiom σ0 σ) (h : x_hasAxiom_L47 G v1 v2 v3 σ Q) (kQ : ∀ r s, Fr wX_hasAxiom σ0 s → Q r s → Q2 r s) : x_hasAxiom_L47 G v1 v2 v3 σ Q2 := by
  unfold x_hasAxiom_L47 at h ⊢
  intro Y hY
  exact h (fun v2 v3 s => Fr wX_hasAxiom σ0 s → Y v2 v3 s) (fun v2 v3 s h f => hY v2 v3 s (fx_hasAxiom_L47_b (v1 := v1) (v2 := v2) (v3 := v3) (Q := Q) (Q2 := Q2) (X47 := fun v2 v3 s => Fr wX_hasAxiom σ0 s → Y v2 v3 s) (X472 := Y) hG f h kQ (fun v2 v3 s f h => h f))) fr
theorem lx_hasAxiom_L47 {v1 : Int} {v2 : Int} {v3 : Int} {σ0 : S} {Q : Int → S → Prop} {G : Orc} (hG : FrO wX_hasAxiom G) (I : Int → Int → S → Prop) (me : Int → Int → S → Nat) (h0 : I v2 v3 σ0) (step : ∀ (v2 : Int) (v3 : Int) (s : S), Fr wX_hasAxiom σ0 s → I v2 v3 s → (fun (Y0 : Int → Int → S → Prop) => inb v1 200000 ∧ (if (v3 < gA s 68 v1) ∧ (v2 = 0) then x_at v1 v3 s (fun r_19 σ_18 => G 0 [r_19] σ_18 (fun r_21 σ_20 => Y0 r_21 (w32 (v3 + 1)) σ_20) (fun _ => False)) else Q v2 s)) (fun v2' v3' s' => I v2' v3' s' ∧ me v2' v3' s' < me v2 v3 s)) : x_hasAxiom_L47 G v1 v2 v3 σ0 Q := by
  unfold x_hasAxiom_L47
  intro Y hY
  have key : ∀ (n : Nat) (v2 : Int) (v3 : Int) (s : S), me v2 v3 s < n → Fr wX_hasAxiom σ0 s → I v2 v3 s → Y v2 v3 s := by
    intro n
    induction n with
    | zero => intro v2 v3 s h; exact absurd h (Nat.not_lt_zero _)
    | succ n ih =>
      intro v2 v3 s hm fr hi
      exact hY v2 v3 s (fx_hasAxiom_L47_b (v1 := v1) (v2 := v2) (v3 := v3) (Q := Q) (Q2 := Q) (X47 := (fun v2' v3' s' => I v2' v3' s' ∧ me v2' v3' s' < me v2 v3 s)) (X472 := Y) hG fr (step v2 v3 s fr hi) (fun _ _ _ h => h) (fun v2 v3 s f h => ih v2 v3 s (by omega) f h.1))
  exact key _ v2 v3 σ0 (Nat.lt_succ_self _) Fr.rf h0
theorem fx_hasAxiom_F {v1 : Int} {σ0 : S} {Q Q2 : Int → S → Prop} {G : Orc} (hG : FrO wX_hasAxiom G) (h : x_hasAxiom_F G v1 σ0 Q) (kQ : ∀ r s, Fr wX_hasAxiom σ0 s → Q r s → Q2 r s) : x_hasAxiom_F G v1 σ0 Q2 := by
  have fr : Fr wX_hasAxiom σ0 σ0 := Fr.rf
  unfold x_hasAxiom_F at h ⊢
  exact ⟨h.1, ⟨h.2.1, ⟨h.2.2.1, ⟨h.2.2.2.1, ⟨h.2.2.2.2.1, fx_hasAxiom_L47 hG fr h.2.2.2.2.2 kQ⟩⟩⟩⟩⟩
theorem fo_x_S_hasAxiom : ∀ n, FrO wX_hasAxiom (x_S_hasAxiom n)
  | 0 => fun _ _ _ _ _ _ _ h _ _ => h.elim
  | n + 1 => fun i a σ Q Q2 E E2 h kQ kE => by
    unfold x_S_hasAxiom at h ⊢
    split at h
    · exact fx_hasAxiom_F (fo_x_S_hasAxiom n) h kQ
    · exact h.elim
theorem fm_x_hasAxiom {v1 : Int} {σ0 : S} {Q Q2 : Int → S → Prop} (h : x_hasAxiom v1 σ0 Q) (kQ : ∀ r s, Fr wX_hasAxiom σ0 s → Q r s → Q2 r s) : x_hasAxiom v1 σ0 Q2 := fo_x_S_hasAxiom 44 _ _ _ _ _ _ _ h kQ (fun _ _ h => h)
theorem fx_mayPair_L2_b {v1 : Int} {σ0 σ : S} {Q Q2 : Int → S → Prop} {X2 X22 : Int → S → Prop} (fr : Fr wX_mayPair σ0 σ) (h : (if v1 < gI σ 42 then inb v1 70 ∧ ((gA σ 26 v1 = 0) → (inb v1 70)) ∧ (if (gA σ 26 v1 = 0) ∧ (gA σ 32 v1 ≤ 0) then inb v1 70 ∧ x_hasAxiom (gA σ 78 v1) σ (fun r_13 σ_12 => (if r_13 = 0 then inb v1 70 ∧ x_hasAxiom (gA σ_12 79 v1) σ_12 (fun r_19 σ_18 => (if r_19 = 0 then X2 (w32 (v1 + 1)) σ_18 else Q 0 σ_18)) else Q 0 σ_12)) else Q 0 σ) else Q 1 σ)) (kQ : ∀ r s, Fr wX_mayPair σ0 s → Q r s → Q2 r s) (kX2 : ∀ v1 s, Fr wX_mayPair σ0 s → X2 v1 s → X22 v1 s) : (if v1 < gI σ 42 then inb v1 70 ∧ ((gA σ 26 v1 = 0) → (inb v1 70)) ∧ (if (gA σ 26 v1 = 0) ∧ (gA σ 32 v1 ≤ 0) then inb v1 70 ∧ x_hasAxiom (gA σ 78 v1) σ (fun r_13 σ_12 => (if r_13 = 0 then inb v1 70 ∧ x_hasAxiom (gA σ_12 79 v1) σ_12 (fun r_19 σ_18 => (if r_19 = 0 then X22 (w32 (v1 + 1)) σ_18 else Q2 0 σ_18)) else Q2 0 σ_12)) else Q2 0 σ) else Q2 1 σ) :=
  ite_m (fun _ h0 => ⟨h0.1, ⟨h0.2.1, ite_m (fun _ h3 => ⟨h3.1, fm_x_hasAxiom h3.2 (fun r_13 σ_12 f h5 => (have f5 : Fr wX_mayPair σ0 σ_12 := (fr.trans (f.weak (by decide +kernel))); ite_m (fun _ h6 => ⟨h6.1, fm_x_hasAxiom h6.2 (fun r_19 σ_18 f h8 => (have f8 : Fr wX_mayPair σ0 σ_18 := (f5.trans (f.weak (by decide +kernel))); ite_m (fun _ h9 => kX2 _ _ f8 h9) (fun _ h9 => kQ _ _ f8 h9) h8))⟩) (fun _ h6 => kQ _ _ f5 h6) h5))⟩) (fun _ h3 => kQ _ _ fr h3) h0.2.2⟩⟩) (fun _ h0 => kQ _ _ fr h0) h
theorem fx_mayPair_L2 {v1 : Int} {σ0 σ : S} {Q Q2 : Int → S → Prop} (fr : Fr wX_mayPair σ0 σ) (h : x_mayPair_L2 v1 σ Q) (kQ : ∀ r s, Fr wX_mayPair σ0 s → Q r s → Q2 r s) : x_mayPair_L2 v1 σ Q2 := by
  unfold x_mayPair_L2 at h ⊢
  intro Y hY
  exact h (fun v1 s => Fr wX_mayPair σ0 s → Y v1 s) (fun v1 s h f => hY v1 s (fx_mayPair_L2_b (v1 := v1) (Q := Q) (Q2 := Q2) (X2 := fun v1 s => Fr wX_mayPair σ0 s → Y v1 s) (X22 := Y) f h kQ (fun v1 s f h => h f))) fr
theorem lx_mayPair_L2 {v1 : Int} {σ0 : S} {Q : Int → S → Prop} (I : Int → S → Prop) (me : Int → S → Nat) (h0 : I v1 σ0) (step : ∀ (v1 : Int) (s : S), Fr wX_mayPair σ0 s → I v1 s → (fun (Y0 : Int → S → Prop) => (if v1 < gI s 42 then inb v1 70 ∧ ((gA s 26 v1 = 0) → (inb v1 70)) ∧ (if (gA s 26 v1 = 0) ∧ (gA s 32 v1 ≤ 0) then inb v1 70 ∧ x_hasAxiom (gA s 78 v1) s (fun r_13 σ_12 => (if r_13 = 0 then inb v1 70 ∧ x_hasAxiom (gA σ_12 79 v1) σ_12 (fun r_19 σ_18 => (if r_19 = 0 then Y0 (w32 (v1 + 1)) σ_18 else Q 0 σ_18)) else Q 0 σ_12)) else Q 0 s) else Q 1 s)) (fun v1' s' => I v1' s' ∧ me v1' s' < me v1 s)) : x_mayPair_L2 v1 σ0 Q := by
  unfold x_mayPair_L2
  intro Y hY
  have key : ∀ (n : Nat) (v1 : Int) (s : S), me v1 s < n → Fr wX_mayPair σ0 s → I v1 s → Y v1 s := by
    intro n
    induction n with
    | zero => intro v1 s h; exact absurd h (Nat.not_lt_zero _)
    | succ n ih =>
      intro v1 s hm fr hi
      exact hY v1 s (fx_mayPair_L2_b (v1 := v1) (Q := Q) (Q2 := Q) (X2 := (fun v1' s' => I v1' s' ∧ me v1' s' < me v1 s)) (X22 := Y) fr (step v1 s fr hi) (fun _ _ _ h => h) (fun v1 s f h => ih v1 s (by omega) f h.1))
  exact key _ v1 σ0 (Nat.lt_succ_self _) Fr.rf h0
theorem fm_x_mayPair {σ0 : S} {Q Q2 : Int → S → Prop} (h : x_mayPair  σ0 Q) (kQ : ∀ r s, Fr wX_mayPair σ0 s → Q r s → Q2 r s) : x_mayPair  σ0 Q2 := by
  have fr : Fr wX_mayPair σ0 σ0 := Fr.rf
  unfold x_mayPair at h ⊢
  exact fx_mayPair_L2 fr h kQ
theorem fx_hasComm_L31_b {v1 : Int} {v2 : Int} {v3 : Int} {σ0 σ : S} {Q Q2 : Int → S → Prop} {X31 X312 : Int → Int → S → Prop} {G : Orc} (hG : FrO wX_hasComm G) (fr : Fr wX_hasComm σ0 σ) (h : inb v1 200000 ∧ (if (v3 < gA σ 68 v1) ∧ (v2 = 0) then x_at v1 v3 σ (fun r_14 σ_13 => G 0 [r_14] σ_13 (fun r_16 σ_15 => X31 r_16 (w32 (v3 + 1)) σ_15) (fun _ => False)) else Q v2 σ)) (kQ : ∀ r s, Fr wX_hasComm σ0 s → Q r s → Q2 r s) (kX31 : ∀ v2 v3 s, Fr wX_hasComm σ0 s → X31 v2 v3 s → X312 v2 v3 s) : inb v1 200000 ∧ (if (v3 < gA σ 68 v1) ∧ (v2 = 0) then x_at v1 v3 σ (fun r_14 σ_13 => G 0 [r_14] σ_13 (fun r_16 σ_15 => X312 r_16 (w32 (v3 + 1)) σ_15) (fun _ => False)) else Q2 v2 σ) :=
  ⟨h.1, ite_m (fun _ h1 => fm_x_at h1 (fun r_14 σ_13 f h2 => (have f2 : Fr wX_hasComm σ0 σ_13 := (fr.trans (f.weak (by decide +kernel))); hG _ _ _ _ _ _ _ h2 (fun r_16 σ_15 f h3 => (have f3 : Fr wX_hasComm σ0 σ_15 := (f2.trans f); kX31 _ _ _ f3 h3)) (fun _ _ h => h)))) (fun _ h1 => kQ _ _ fr h1) h.2⟩
theorem fx_hasComm_L31 {v1 : Int} {v2 : Int} {v3 : Int} {σ0 σ : S} {Q Q2 : Int → S → Prop} {G : Orc} (hG : FrO wX_hasComm G) (fr : Fr wX_hasComm σ0 σ) (h : x_hasComm_L31 G v1 v2 v3 σ Q) (kQ : ∀ r s, Fr wX_hasComm σ0 s → Q r s → Q2 r s) : x_hasComm_L31 G v1 v2 v3 σ Q2 := by
  unfold x_hasComm_L31 at h ⊢
  intro Y hY
  exact h (fun v2 v3 s => Fr wX_hasComm σ0 s → Y v2 v3 s) (fun v2 v3 s h f => hY v2 v3 s (fx_hasComm_L31_b (v1 := v1) (v2 := v2) (v3 := v3) (Q := Q) (Q2 := Q2) (X31 := fun v2 v3 s => Fr wX_hasComm σ0 s → Y v2 v3 s) (X312 := Y) hG f h kQ (fun v2 v3 s f h => h f))) fr
theorem lx_hasComm_L31 {v1 : Int} {v2 : Int} {v3 : Int} {σ0 : S} {Q : Int → S → Prop} {G : Orc} (hG : FrO wX_hasComm G) (I : Int → Int → S → Prop) (me : Int → Int → S → Nat) (h0 : I v2 v3 σ0) (step : ∀ (v2 : Int) (v3 : Int) (s : S), Fr wX_hasComm σ0 s → I v2 v3 s → (fun (Y0 : Int → Int → S → Prop) => inb v1 200000 ∧ (if (v3 < gA s 68 v1) ∧ (v2 = 0) then x_at v1 v3 s (fun r_14 σ_13 => G 0 [r_14] σ_13 (fun r_16 σ_15 => Y0 r_16 (w32 (v3 + 1)) σ_15) (fun _ => False)) else Q v2 s)) (fun v2' v3' s' => I v2' v3' s' ∧ me v2' v3' s' < me v2 v3 s)) : x_hasComm_L31 G v1 v2 v3 σ0 Q := by
  unfold x_hasComm_L31
  intro Y hY
  have key : ∀ (n : Nat) (v2 : Int) (v3 : Int) (s : S), me v2 v3 s < n → Fr wX_hasComm σ0 s → I v2 v3 s → Y v2 v3 s := by
    intro n
    induction n with
    | zero => intro v2 v3 s h; exact absurd h (Nat.not_lt_zero _)
    | succ n ih =>
      intro v2 v3 s hm fr hi
      exact hY v2 v3 s (fx_hasComm_L31_b (v1 := v1) (v2 := v2) (v3 := v3) (Q := Q) (Q2 := Q) (X31 := (fun v2' v3' s' => I v2' v3' s' ∧ me v2' v3' s' < me v2 v3 s)) (X312 := Y) hG fr (step v2 v3 s fr hi) (fun _ _ _ h => h) (fun v2 v3 s f h => ih v2 v3 s (by omega) f h.1))
  exact key _ v2 v3 σ0 (Nat.lt_succ_self _) Fr.rf h0
theorem fx_hasComm_F {v1 : Int} {σ0 : S} {Q Q2 : Int → S → Prop} {G : Orc} (hG : FrO wX_hasComm G) (h : x_hasComm_F G v1 σ0 Q) (kQ : ∀ r s, Fr wX_hasComm σ0 s → Q r s → Q2 r s) : x_hasComm_F G v1 σ0 Q2 := by
  have fr : Fr wX_hasComm σ0 σ0 := Fr.rf
  unfold x_hasComm_F at h ⊢
  exact ⟨h.1, ⟨h.2.1, ⟨h.2.2.1, fx_hasComm_L31 hG fr h.2.2.2 kQ⟩⟩⟩
theorem fo_x_S_hasComm : ∀ n, FrO wX_hasComm (x_S_hasComm n)
  | 0 => fun _ _ _ _ _ _ _ h _ _ => h.elim
  | n + 1 => fun i a σ Q Q2 E E2 h kQ kE => by
    unfold x_S_hasComm at h ⊢
    split at h
    · exact fx_hasComm_F (fo_x_S_hasComm n) h kQ
    · exact h.elim
theorem fm_x_hasComm {v1 : Int} {σ0 : S} {Q Q2 : Int → S → Prop} (h : x_hasComm v1 σ0 Q) (kQ : ∀ r s, Fr wX_hasComm σ0 s → Q r s → Q2 r s) : x_hasComm v1 σ0 Q2 := fo_x_S_hasComm 44 _ _ _ _ _ _ _ h kQ (fun _ _ h => h)
theorem fx_layPairsAt_L71_b {v1 : Int} {v2 : Int} {v3 : Int} {v5 : Int} {σ0 σ : S} {Q Q2 : Int → S → Prop} {E E2 : S → Prop} {X71 X712 : Int → S → Prop} {G : Orc} (hG : FrO wX_layPairsAt G) (fr : Fr wX_layPairsAt σ0 σ) (h : inb v3 200000 ∧ (if v5 < gA σ 68 v3 then inb (gI σ 149) 80 ∧ ∀ σ_12, σ_12 = pA σ 95 (gI σ 149) v3 → ∀ σ_16, σ_16 = pI σ_12 149 (w32 (gI σ_12 149 + 1)) → inb (gI σ_12 149) 80 ∧ ∀ σ_18, σ_18 = pA σ_16 96 (gI σ_12 149) v5 → x_at v3 v5 σ_18 (fun r_22 σ_21 => G 0 [v1, v2, r_22, 1] σ_21 (fun _ σ_23 => ∀ σ_26, σ_26 = pI σ_23 149 (w32 (gI σ_23 149 - 1)) → X71 (w32 (v5 + 1)) σ_26) E) else Q 0 σ)) (kQ : ∀ r s, Fr wX_layPairsAt σ0 s → Q r s → Q2 r s) (kE : ∀ s, Fr wX_layPairsAt σ0 s → E s → E2 s) (kX71 : ∀ v5 s, Fr wX_layPairsAt σ0 s → X71 v5 s → X712 v5 s) : inb v3 200000 ∧ (if v5 < gA σ 68 v3 then inb (gI σ 149) 80 ∧ ∀ σ_12, σ_12 = pA σ 95 (gI σ 149) v3 → ∀ σ_16, σ_16 = pI σ_12 149 (w32 (gI σ_12 149 + 1)) → inb (gI σ_12 149) 80 ∧ ∀ σ_18, σ_18 = pA σ_16 96 (gI σ_12 149) v5 → x_at v3 v5 σ_18 (fun r_22 σ_21 => G 0 [v1, v2, r_22, 1] σ_21 (fun _ σ_23 => ∀ σ_26, σ_26 = pI σ_23 149 (w32 (gI σ_23 149 - 1)) → X712 (w32 (v5 + 1)) σ_26) E2) else Q2 0 σ) :=
  ⟨h.1, ite_m (fun _ h1 => ⟨h1.1, fun σ_12 e3 => (have f3 : Fr wX_layPairsAt σ0 σ_12 := Fr.putA fr e3 rfl; fun σ_16 e4 => (have f4 : Fr wX_layPairsAt σ0 σ_16 := Fr.putI f3 e4 rfl; ⟨((h1.2 σ_12 e3) σ_16 e4).1, fun σ_18 e6 => (have f6 : Fr wX_layPairsAt σ0 σ_18 := Fr.putA f4 e6 rfl; fm_x_at (((h1.2 σ_12 e3) σ_16 e4).2 σ_18 e6) (fun r_22 σ_21 f h7 => (have f7 : Fr wX_layPairsAt σ0 σ_21 := (f6.trans (f.weak (by decide +kernel))); hG _ _ _ _ _ _ _ h7 (fun _ σ_23 f h8 => (have f8 : Fr wX_layPairsAt σ0 σ_23 := (f7.trans f); fun σ_26 e9 => (have f9 : Fr wX_layPairsAt σ0 σ_26 := Fr.putI f8 e9 rfl; kX71 _ _ f9 (h8 σ_26 e9)))) (fun s f h => kE _ (f7.trans f) h))))⟩))⟩) (fun _ h1 => kQ _ _ fr h1) h.2⟩
theorem fx_layPairsAt_L71 {v1 : Int} {v2 : Int} {v3 : Int} {v5 : Int} {σ0 σ : S} {Q Q2 : Int → S → Prop} {E E2 : S → Prop} {G : Orc} (hG : FrO wX_layPairsAt G) (fr : Fr wX_layPairsAt σ0 σ) (h : x_layPairsAt_L71 G v1 v2 v3 v5 σ Q E) (kQ : ∀ r s, Fr wX_layPairsAt σ0 s → Q r s → Q2 r s) (kE : ∀ s, Fr wX_layPairsAt σ0 s → E s → E2 s) : x_layPairsAt_L71 G v1 v2 v3 v5 σ Q2 E2 := by
  unfold x_layPairsAt_L71 at h ⊢
  intro Y hY
  exact h (fun v5 s => Fr wX_layPairsAt σ0 s → Y v5 s) (fun v5 s h f => hY v5 s (fx_layPairsAt_L71_b (v1 := v1) (v2 := v2) (v3 := v3) (v5 := v5) (Q := Q) (Q2 := Q2) (E := E) (E2 := E2) (X71 := fun v5 s => Fr wX_layPairsAt σ0 s → Y v5 s) (X712 := Y) hG f h kQ kE (fun v5 s f h => h f))) fr
theorem lx_layPairsAt_L71 {v1 : Int} {v2 : Int} {v3 : Int} {v5 : Int} {σ0 : S} {Q : Int → S → Prop} {E : S → Prop} {G : Orc} (hG : FrO wX_layPairsAt G) (I : Int → S → Prop) (me : Int → S → Nat) (h0 : I v5 σ0) (step : ∀ (v5 : Int) (s : S), Fr wX_layPairsAt σ0 s → I v5 s → (fun (Y0 : Int → S → Prop) => inb v3 200000 ∧ (if v5 < gA s 68 v3 then inb (gI s 149) 80 ∧ ∀ σ_12, σ_12 = pA s 95 (gI s 149) v3 → ∀ σ_16, σ_16 = pI σ_12 149 (w32 (gI σ_12 149 + 1)) → inb (gI σ_12 149) 80 ∧ ∀ σ_18, σ_18 = pA σ_16 96 (gI σ_12 149) v5 → x_at v3 v5 σ_18 (fun r_22 σ_21 => G 0 [v1, v2, r_22, 1] σ_21 (fun _ σ_23 => ∀ σ_26, σ_26 = pI σ_23 149 (w32 (gI σ_23 149 - 1)) → Y0 (w32 (v5 + 1)) σ_26) E) else Q 0 s)) (fun v5' s' => I v5' s' ∧ me v5' s' < me v5 s)) : x_layPairsAt_L71 G v1 v2 v3 v5 σ0 Q E := by
  unfold x_layPairsAt_L71
  intro Y hY
  have key : ∀ (n : Nat) (v5 : Int) (s : S), me v5 s < n → Fr wX_layPairsAt σ0 s → I v5 s → Y v5 s := by
    intro n
    induction n with
    | zero => intro v5 s h; exact absurd h (Nat.not_lt_zero _)
    | succ n ih =>
      intro v5 s hm fr hi
      exact hY v5 s (fx_layPairsAt_L71_b (v1 := v1) (v2 := v2) (v3 := v3) (v5 := v5) (Q := Q) (Q2 := Q) (E := E) (E2 := E) (X71 := (fun v5' s' => I v5' s' ∧ me v5' s' < me v5 s)) (X712 := Y) hG fr (step v5 s fr hi) (fun _ _ _ h => h) (fun _ _ h => h) (fun v5 s f h => ih v5 s (by omega) f h.1))
  exact key _ v5 σ0 (Nat.lt_succ_self _) Fr.rf h0
theorem fx_layPairsAt_j68 {v1 : Int} {v2 : Int} {v3 : Int} {σ0 σ : S} {Q Q2 : Int → S → Prop} {E E2 : S → Prop} {G : Orc} (hG : FrO wX_layPairsAt G) (fr : Fr wX_layPairsAt σ0 σ) (h : x_layPairsAt_j68 G v1 v2 v3 σ Q E) (kQ : ∀ r s, Fr wX_layPairsAt σ0 s → Q r s → Q2 r s) (kE : ∀ s, Fr wX_layPairsAt σ0 s → E s → E2 s) : x_layPairsAt_j68 G v1 v2 v3 σ Q2 E2 := by
  unfold x_layPairsAt_j68 at h ⊢
  exact fx_layPairsAt_L71 hG fr h kQ kE
theorem fx_layPairsAt_j44 {v1 : Int} {v2 : Int} {v3 : Int} {σ0 σ : S} {Q Q2 : Int → S → Prop} {E E2 : S → Prop} {G : Orc} (hG : FrO wX_layPairsAt G) (fr : Fr wX_layPairsAt σ0 σ) (h : x_layPairsAt_j44 G v1 v2 v3 σ Q E) (kQ : ∀ r s, Fr wX_layPairsAt σ0 s → Q r s → Q2 r s) (kE : ∀ s, Fr wX_layPairsAt σ0 s → E s → E2 s) : x_layPairsAt_j44 G v1 v2 v3 σ Q2 E2 := by
  unfold x_layPairsAt_j44 at h ⊢
  exact ⟨h.1, fun σ_32 e1 => (have f1 : Fr wX_layPairsAt σ0 σ_32 := Fr.putA fr e1 rfl; ⟨(h.2 σ_32 e1).1, fun σ_35 e3 => (have f3 : Fr wX_layPairsAt σ0 σ_35 := Fr.putA f1 e3 rfl; fun σ_38 e4 => (have f4 : Fr wX_layPairsAt σ0 σ_38 := Fr.putI f3 e4 rfl; fm_x_unify (((h.2 σ_32 e1).2 σ_35 e3) σ_38 e4) (fun _ σ_40 f h5 => (have f5 : Fr wX_layPairsAt σ0 σ_40 := (f4.trans (f.weak (by decide +kernel))); fx_layPairsAt_j68 hG f5 h5 kQ kE)) (fun s f h => kE _ (f4.trans (f.weak (by decide +kernel))) h)))⟩)⟩
theorem fx_layPairsAt_L23_b {v1 : Int} {v2 : Int} {v3 : Int} {v5 : Int} {σ0 σ : S} {Q Q2 : Int → S → Prop} {E E2 : S → Prop} {X23 X232 : Int → S → Prop} {G : Orc} (hG : FrO wX_layPairsAt G) (fr : Fr wX_layPairsAt σ0 σ) (h : (if v5 < 60 then inb v5 60 ∧ ∀ σ_42, σ_42 = pA σ 123 v5 0 → X23 (w32 (v5 + 1)) σ_42 else x_layPairsAt_j44 G v1 v2 v3 σ Q E)) (kQ : ∀ r s, Fr wX_layPairsAt σ0 s → Q r s → Q2 r s) (kE : ∀ s, Fr wX_layPairsAt σ0 s → E s → E2 s) (kX23 : ∀ v5 s, Fr wX_layPairsAt σ0 s → X23 v5 s → X232 v5 s) : (if v5 < 60 then inb v5 60 ∧ ∀ σ_42, σ_42 = pA σ 123 v5 0 → X232 (w32 (v5 + 1)) σ_42 else x_layPairsAt_j44 G v1 v2 v3 σ Q2 E2) :=
  ite_m (fun _ h0 => ⟨h0.1, fun σ_42 e2 => (have f2 : Fr wX_layPairsAt σ0 σ_42 := Fr.putA fr e2 rfl; kX23 _ _ f2 (h0.2 σ_42 e2))⟩) (fun _ h0 => fx_layPairsAt_j44 hG fr h0 kQ kE) h
theorem fx_layPairsAt_L23 {v1 : Int} {v2 : Int} {v3 : Int} {v5 : Int} {σ0 σ : S} {Q Q2 : Int → S → Prop} {E E2 : S → Prop} {G : Orc} (hG : FrO wX_layPairsAt G) (fr : Fr wX_layPairsAt σ0 σ) (h : x_layPairsAt_L23 G v1 v2 v3 v5 σ Q E) (kQ : ∀ r s, Fr wX_layPairsAt σ0 s → Q r s → Q2 r s) (kE : ∀ s, Fr wX_layPairsAt σ0 s → E s → E2 s) : x_layPairsAt_L23 G v1 v2 v3 v5 σ Q2 E2 := by
  unfold x_layPairsAt_L23 at h ⊢
  intro Y hY
  exact h (fun v5 s => Fr wX_layPairsAt σ0 s → Y v5 s) (fun v5 s h f => hY v5 s (fx_layPairsAt_L23_b (v1 := v1) (v2 := v2) (v3 := v3) (v5 := v5) (Q := Q) (Q2 := Q2) (E := E) (E2 := E2) (X23 := fun v5 s => Fr wX_layPairsAt σ0 s → Y v5 s) (X232 := Y) hG f h kQ kE (fun v5 s f h => h f))) fr
theorem lx_layPairsAt_L23 {v1 : Int} {v2 : Int} {v3 : Int} {v5 : Int} {σ0 : S} {Q : Int → S → Prop} {E : S → Prop} {G : Orc} (hG : FrO wX_layPairsAt G) (I : Int → S → Prop) (me : Int → S → Nat) (h0 : I v5 σ0) (step : ∀ (v5 : Int) (s : S), Fr wX_layPairsAt σ0 s → I v5 s → (fun (Y0 : Int → S → Prop) => (if v5 < 60 then inb v5 60 ∧ ∀ σ_42, σ_42 = pA s 123 v5 0 → Y0 (w32 (v5 + 1)) σ_42 else x_layPairsAt_j44 G v1 v2 v3 s Q E)) (fun v5' s' => I v5' s' ∧ me v5' s' < me v5 s)) : x_layPairsAt_L23 G v1 v2 v3 v5 σ0 Q E := by
  unfold x_layPairsAt_L23
  intro Y hY
  have key : ∀ (n : Nat) (v5 : Int) (s : S), me v5 s < n → Fr wX_layPairsAt σ0 s → I v5 s → Y v5 s := by
    intro n
    induction n with
    | zero => intro v5 s h; exact absurd h (Nat.not_lt_zero _)
    | succ n ih =>
      intro v5 s hm fr hi
      exact hY v5 s (fx_layPairsAt_L23_b (v1 := v1) (v2 := v2) (v3 := v3) (v5 := v5) (Q := Q) (Q2 := Q) (E := E) (E2 := E) (X23 := (fun v5' s' => I v5' s' ∧ me v5' s' < me v5 s)) (X232 := Y) hG fr (step v5 s fr hi) (fun _ _ _ h => h) (fun _ _ h => h) (fun v5 s f h => ih v5 s (by omega) f h.1))
  exact key _ v5 σ0 (Nat.lt_succ_self _) Fr.rf h0
theorem fx_layPairsAt_F {v1 : Int} {v2 : Int} {v3 : Int} {v4 : Int} {σ0 : S} {Q Q2 : Int → S → Prop} {E E2 : S → Prop} {G : Orc} (hG : FrO wX_layPairsAt G) (h : x_layPairsAt_F G v1 v2 v3 v4 σ0 Q E) (kQ : ∀ r s, Fr wX_layPairsAt σ0 s → Q r s → Q2 r s) (kE : ∀ s, Fr wX_layPairsAt σ0 s → E s → E2 s) : x_layPairsAt_F G v1 v2 v3 v4 σ0 Q2 E2 := by
  have fr : Fr wX_layPairsAt σ0 σ0 := Fr.rf
  unfold x_layPairsAt_F at h ⊢
  exact ⟨h.1, ite_m (fun _ h1 => kQ _ _ fr h1) (fun _ h1 => ite_m (fun _ h2 => fx_layPairsAt_j68 hG fr h2 kQ kE) (fun _ h2 => fun σ_28 e3 => (have f3 : Fr wX_layPairsAt σ0 σ_28 := Fr.putI fr e3 rfl; fx_layPairsAt_L23 hG f3 (h2 σ_28 e3) kQ kE)) h1) h.2⟩
theorem fo_x_S_layPairsAt : ∀ n, FrO wX_layPairsAt (x_S_layPairsAt n)
  | 0 => fun _ _ _ _ _ _ _ h _ _ => h.elim
  | n + 1 => fun i a σ Q Q2 E E2 h kQ kE => by
    unfold x_S_layPairsAt at h ⊢
    split at h
    · exact fx_layPairsAt_F (fo_x_S_layPairsAt n) h kQ kE
    · exact h.elim
theorem fm_x_layPairsAt {v1 : Int} {v2 : Int} {v3 : Int} {v4 : Int} {σ0 : S} {Q Q2 : Int → S → Prop} {E E2 : S → Prop} (h : x_layPairsAt v1 v2 v3 v4 σ0 Q E) (kQ : ∀ r s, Fr wX_layPairsAt σ0 s → Q r s → Q2 r s) (kE : ∀ s, Fr wX_layPairsAt σ0 s → E s → E2 s) : x_layPairsAt v1 v2 v3 v4 σ0 Q2 E2 := fo_x_S_layPairsAt 44 _ _ _ _ _ _ _ h kQ kE
theorem fx_layPairs_j144 {v2 : Int} {σ0 σ : S} {Q Q2 : Int → S → Prop} {E E2 : S → Prop} {X29 X292 : Int → S → Prop} (fr : Fr wX_layPairs σ0 σ) (h : x_layPairs_j144 v2 σ Q E X29) (kQ : ∀ r s, Fr wX_layPairs σ0 s → Q r s → Q2 r s) (kE : ∀ s, Fr wX_layPairs σ0 s → E s → E2 s) (kX29 : ∀ a0 s, Fr wX_layPairs σ0 s → X29 a0 s → X292 a0 s) : x_layPairs_j144 v2 σ Q2 E2 X292 := by
  unfold x_layPairs_j144 at h ⊢
  exact kX29 _ _ fr h
theorem fx_layPairs_j135 {v2 : Int} {v3 : Int} {s0 : Int} {s1 : Int} {s2 : Int} {s3 : Int} {σ0 σ : S} {Q Q2 : Int → S → Prop} {E E2 : S → Prop} {X29 X292 : Int → S → Prop} {X39 X392 : Int → S → Prop} (fr : Fr wX_layPairs σ0 σ) (h : x_layPairs_j135 v2 v3 s0 s1 s2 s3 σ Q E X29 X39) (kQ : ∀ r s, Fr wX_layPairs σ0 s → Q r s → Q2 r s) (kE : ∀ s, Fr wX_layPairs σ0 s → E s → E2 s) (kX29 : ∀ a0 s, Fr wX_layPairs σ0 s → X29 a0 s → X292 a0 s) (kX39 : ∀ a0 s, Fr wX_layPairs σ0 s → X39 a0 s → X392 a0 s) : x_layPairs_j135 v2 v3 s0 s1 s2 s3 σ Q2 E2 X292 X392 := by
  unfold x_layPairs_j135 at h ⊢
  exact fm_x_layPairsAt h (fun _ σ_41 f h0 => (have f0 : Fr wX_layPairs σ0 σ_41 := (fr.trans (f.weak (by decide +kernel))); kX39 _ _ f0 h0)) (fun s f h => kE _ (fr.trans (f.weak (by decide +kernel))) h)
theorem fx_layPairs_j130 {v2 : Int} {v3 : Int} {s0 : Int} {s1 : Int} {s2 : Int} {σ0 σ : S} {Q Q2 : Int → S → Prop} {E E2 : S → Prop} {X29 X292 : Int → S → Prop} {X39 X392 : Int → S → Prop} (fr : Fr wX_layPairs σ0 σ) (h : x_layPairs_j130 v2 v3 s0 s1 s2 σ Q E X29 X39) (kQ : ∀ r s, Fr wX_layPairs σ0 s → Q r s → Q2 r s) (kE : ∀ s, Fr wX_layPairs σ0 s → E s → E2 s) (kX29 : ∀ a0 s, Fr wX_layPairs σ0 s → X29 a0 s → X292 a0 s) (kX39 : ∀ a0 s, Fr wX_layPairs σ0 s → X39 a0 s → X392 a0 s) : x_layPairs_j130 v2 v3 s0 s1 s2 σ Q2 E2 X292 X392 := by
  unfold x_layPairs_j130 at h ⊢
  exact fx_layPairs_j135 fr h kQ kE kX29 kX39
theorem fx_layPairs_j134 {v2 : Int} {v3 : Int} {s0 : Int} {s1 : Int} {s2 : Int} {σ0 σ : S} {Q Q2 : Int → S → Prop} {E E2 : S → Prop} {X29 X292 : Int → S → Prop} {X39 X392 : Int → S → Prop} (fr : Fr wX_layPairs σ0 σ) (h : x_layPairs_j134 v2 v3 s0 s1 s2 σ Q E X29 X39) (kQ : ∀ r s, Fr wX_layPairs σ0 s → Q r s → Q2 r s) (kE : ∀ s, Fr wX_layPairs σ0 s → E s → E2 s) (kX29 : ∀ a0 s, Fr wX_layPairs σ0 s → X29 a0 s → X292 a0 s) (kX39 : ∀ a0 s, Fr wX_layPairs σ0 s → X39 a0 s → X392 a0 s) : x_layPairs_j134 v2 v3 s0 s1 s2 σ Q2 E2 X292 X392 := by
  unfold x_layPairs_j134 at h ⊢
  exact fx_layPairs_j135 fr h kQ kE kX29 kX39
theorem fx_layPairs_L39_b {v2 : Int} {v3 : Int} {σ0 σ : S} {Q Q2 : Int → S → Prop} {E E2 : S → Prop} {X29 X292 : Int → S → Prop} {X39 X392 : Int → S → Prop} (fr : Fr wX_layPairs σ0 σ) (h : (if v3 < gI σ 42 then ∀ σ_17, σ_17 = pI σ 200 v2 → ∀ σ_19, σ_19 = pI σ_17 201 v3 → ∀ σ_21, σ_21 = pI σ_19 149 0 → inb v2 70 ∧ x_apart (gA σ_21 78 v2) σ_21 (fun r_26 σ_25 => inb v2 70 ∧ x_apart (gA σ_25 79 v2) σ_25 (fun r_31 σ_30 => inb v3 70 ∧ ∀ σ_35, σ_35 = pI σ_30 198 (gA σ_30 79 v3) → inb v3 70 ∧ (if v2 < v3 then x_layPairs_j130 v2 v3 (gA σ_35 78 v3) r_31 r_26 σ_35 Q E X29 X39 else (if v2 = v3 then inb v3 70 ∧ x_hasComm (gA σ_35 78 v3) σ_35 (fun r_48 σ_47 => (if r_48 = 0 then x_layPairs_j134 v2 v3 (gA σ_35 78 v3) r_31 r_26 σ_47 Q E X29 X39 else x_layPairs_j130 v2 v3 (gA σ_35 78 v3) r_31 r_26 σ_47 Q E X29 X39)) else x_layPairs_j134 v2 v3 (gA σ_35 78 v3) r_31 r_26 σ_35 Q E X29 X39))) E) E else x_layPairs_j144 v2 σ Q E X29)) (kQ : ∀ r s, Fr wX_layPairs σ0 s → Q r s → Q2 r s) (kE : ∀ s, Fr wX_layPairs σ0 s → E s → E2 s) (kX29 : ∀ a0 s, Fr wX_layPairs σ0 s → X29 a0 s → X292 a0 s) (kX39 : ∀ v3 s, Fr wX_layPairs σ0 s → X39 v3 s → X392 v3 s) : (if v3 < gI σ 42 then ∀ σ_17, σ_17 = pI σ 200 v2 → ∀ σ_19, σ_19 = pI σ_17 201 v3 → ∀ σ_21, σ_21 = pI σ_19 149 0 → inb v2 70 ∧ x_apart (gA σ_21 78 v2) σ_21 (fun r_26 σ_25 => inb v2 70 ∧ x_apart (gA σ_25 79 v2) σ_25 (fun r_31 σ_30 => inb v3 70 ∧ ∀ σ_35, σ_35 = pI σ_30 198 (gA σ_30 79 v3) → inb v3 70 ∧ (if v2 < v3 then x_layPairs_j130 v2 v3 (gA σ_35 78 v3) r_31 r_26 σ_35 Q2 E2 X292 X392 else (if v2 = v3 then inb v3 70 ∧ x_hasComm (gA σ_35 78 v3) σ_35 (fun r_48 σ_47 => (if r_48 = 0 then x_layPairs_j134 v2 v3 (gA σ_35 78 v3) r_31 r_26 σ_47 Q2 E2 X292 X392 else x_layPairs_j130 v2 v3 (gA σ_35 78 v3) r_31 r_26 σ_47 Q2 E2 X292 X392)) else x_layPairs_j134 v2 v3 (gA σ_35 78 v3) r_31 r_26 σ_35 Q2 E2 X292 X392))) E2) E2 else x_layPairs_j144 v2 σ Q2 E2 X292) :=
  ite_m (fun _ h0 => fun σ_17 e1 => (have f1 : Fr wX_layPairs σ0 σ_17 := Fr.putI fr e1 rfl; fun σ_19 e2 => (have f2 : Fr wX_layPairs σ0 σ_19 := Fr.putI f1 e2 rfl; fun σ_21 e3 => (have f3 : Fr wX_layPairs σ0 σ_21 := Fr.putI f2 e3 rfl; ⟨(((h0 σ_17 e1) σ_19 e2) σ_21 e3).1, fm_x_apart (((h0 σ_17 e1) σ_19 e2) σ_21 e3).2 (fun r_26 σ_25 f h5 => (have f5 : Fr wX_layPairs σ0 σ_25 := (f3.trans (f.weak (by decide +kernel))); ⟨h5.1, fm_x_apart h5.2 (fun r_31 σ_30 f h7 => (have f7 : Fr wX_layPairs σ0 σ_30 := (f5.trans (f.weak (by decide +kernel))); ⟨h7.1, fun σ_35 e9 => (have f9 : Fr wX_layPairs σ0 σ_35 := Fr.putI f7 e9 rfl; ⟨(h7.2 σ_35 e9).1, ite_m (fun _ h11 => fx_layPairs_j130 f9 h11 kQ kE kX29 kX39) (fun _ h11 => ite_m (fun _ h12 => ⟨h12.1, fm_x_hasComm h12.2 (fun r_48 σ_47 f h14 => (have f14 : Fr wX_layPairs σ0 σ_47 := (f9.trans (f.weak (by decide +kernel))); ite_m (fun _ h15 => fx_layPairs_j134 f14 h15 kQ kE kX29 kX39) (fun _ h15 => fx_layPairs_j130 f14 h15 kQ kE kX29 kX39) h14))⟩) (fun _ h12 => fx_layPairs_j134 f9 h12 kQ kE kX29 kX39) h11) (h7.2 σ_35 e9).2⟩)⟩)) (fun s f h => kE _ (f5.trans (f.weak (by decide +kernel))) h)⟩)) (fun s f h => kE _ (f3.trans (f.weak (by decide +kernel))) h)⟩)))) (fun _ h0 => fx_layPairs_j144 fr h0 kQ kE kX29) h
theorem fx_layPairs_L39 {v2 : Int} {v3 : Int} {σ0 σ : S} {Q Q2 : Int → S → Prop} {E E2 : S → Prop} {X29 X292 : Int → S → Prop} (fr : Fr wX_layPairs σ0 σ) (h : x_layPairs_L39 v2 v3 σ Q E X29) (kQ : ∀ r s, Fr wX_layPairs σ0 s → Q r s → Q2 r s) (kE : ∀ s, Fr wX_layPairs σ0 s → E s → E2 s) (kX29 : ∀ a0 s, Fr wX_layPairs σ0 s → X29 a0 s → X292 a0 s) : x_layPairs_L39 v2 v3 σ Q2 E2 X292 := by
  unfold x_layPairs_L39 at h ⊢
  intro Y hY
  exact h (fun v3 s => Fr wX_layPairs σ0 s → Y v3 s) (fun v3 s h f => hY v3 s (fx_layPairs_L39_b (v2 := v2) (v3 := v3) (Q := Q) (Q2 := Q2) (E := E) (E2 := E2) (X29 := X29) (X292 := X292) (X39 := fun v3 s => Fr wX_layPairs σ0 s → Y v3 s) (X392 := Y) f h kQ kE kX29 (fun v3 s f h => h f))) fr
theorem lx_layPairs_L39 {v2 : Int} {v3 : Int} {σ0 : S} {Q : Int → S → Prop} {E : S → Prop} {X29 : Int → S → Prop} (I : Int → S → Prop) (me : Int → S → Nat) (h0 : I v3 σ0) (step : ∀ (v3 : Int) (s : S), Fr wX_layPairs σ0 s → I v3 s → (fun (Y0 : Int → S → Prop) => (if v3 < gI s 42 then ∀ σ_17, σ_17 = pI s 200 v2 → ∀ σ_19, σ_19 = pI σ_17 201 v3 → ∀ σ_21, σ_21 = pI σ_19 149 0 → inb v2 70 ∧ x_apart (gA σ_21 78 v2) σ_21 (fun r_26 σ_25 => inb v2 70 ∧ x_apart (gA σ_25 79 v2) σ_25 (fun r_31 σ_30 => inb v3 70 ∧ ∀ σ_35, σ_35 = pI σ_30 198 (gA σ_30 79 v3) → inb v3 70 ∧ (if v2 < v3 then x_layPairs_j130 v2 v3 (gA σ_35 78 v3) r_31 r_26 σ_35 Q E X29 Y0 else (if v2 = v3 then inb v3 70 ∧ x_hasComm (gA σ_35 78 v3) σ_35 (fun r_48 σ_47 => (if r_48 = 0 then x_layPairs_j134 v2 v3 (gA σ_35 78 v3) r_31 r_26 σ_47 Q E X29 Y0 else x_layPairs_j130 v2 v3 (gA σ_35 78 v3) r_31 r_26 σ_47 Q E X29 Y0)) else x_layPairs_j134 v2 v3 (gA σ_35 78 v3) r_31 r_26 σ_35 Q E X29 Y0))) E) E else x_layPairs_j144 v2 s Q E X29)) (fun v3' s' => I v3' s' ∧ me v3' s' < me v3 s)) : x_layPairs_L39 v2 v3 σ0 Q E X29 := by
  unfold x_layPairs_L39
  intro Y hY
  have key : ∀ (n : Nat) (v3 : Int) (s : S), me v3 s < n → Fr wX_layPairs σ0 s → I v3 s → Y v3 s := by
    intro n
    induction n with
    | zero => intro v3 s h; exact absurd h (Nat.not_lt_zero _)
    | succ n ih =>
      intro v3 s hm fr hi
      exact hY v3 s (fx_layPairs_L39_b (v2 := v2) (v3 := v3) (Q := Q) (Q2 := Q) (E := E) (E2 := E) (X29 := X29) (X292 := X29) (X39 := (fun v3' s' => I v3' s' ∧ me v3' s' < me v3 s)) (X392 := Y) fr (step v3 s fr hi) (fun _ _ _ h => h) (fun _ _ h => h) (fun _ _ _ h => h) (fun v3 s f h => ih v3 s (by omega) f h.1))
  exact key _ v3 σ0 (Nat.lt_succ_self _) Fr.rf h0
theorem fx_layPairs_L29_b {v2 : Int} {σ0 σ : S} {Q Q2 : Int → S → Prop} {E E2 : S → Prop} {X29 X292 : Int → S → Prop} (fr : Fr wX_layPairs σ0 σ) (h : (if v2 < gI σ 42 then x_layPairs_L39 v2 0 σ Q E X29 else Q 0 σ)) (kQ : ∀ r s, Fr wX_layPairs σ0 s → Q r s → Q2 r s) (kE : ∀ s, Fr wX_layPairs σ0 s → E s → E2 s) (kX29 : ∀ v2 s, Fr wX_layPairs σ0 s → X29 v2 s → X292 v2 s) : (if v2 < gI σ 42 then x_layPairs_L39 v2 0 σ Q2 E2 X292 else Q2 0 σ) :=
  ite_m (fun _ h0 => fx_layPairs_L39 fr h0 kQ kE kX29) (fun _ h0 => kQ _ _ fr h0) h
theorem fx_layPairs_L29 {v2 : Int} {σ0 σ : S} {Q Q2 : Int → S → Prop} {E E2 : S → Prop} (fr : Fr wX_layPairs σ0 σ) (h : x_layPairs_L29 v2 σ Q E) (kQ : ∀ r s, Fr wX_layPairs σ0 s → Q r s → Q2 r s) (kE : ∀ s, Fr wX_layPairs σ0 s → E s → E2 s) : x_layPairs_L29 v2 σ Q2 E2 := by
  unfold x_layPairs_L29 at h ⊢
  intro Y hY
  exact h (fun v2 s => Fr wX_layPairs σ0 s → Y v2 s) (fun v2 s h f => hY v2 s (fx_layPairs_L29_b (v2 := v2) (Q := Q) (Q2 := Q2) (E := E) (E2 := E2) (X29 := fun v2 s => Fr wX_layPairs σ0 s → Y v2 s) (X292 := Y) f h kQ kE (fun v2 s f h => h f))) fr
theorem lx_layPairs_L29 {v2 : Int} {σ0 : S} {Q : Int → S → Prop} {E : S → Prop} (I : Int → S → Prop) (me : Int → S → Nat) (h0 : I v2 σ0) (step : ∀ (v2 : Int) (s : S), Fr wX_layPairs σ0 s → I v2 s → (fun (Y0 : Int → S → Prop) => (if v2 < gI s 42 then x_layPairs_L39 v2 0 s Q E Y0 else Q 0 s)) (fun v2' s' => I v2' s' ∧ me v2' s' < me v2 s)) : x_layPairs_L29 v2 σ0 Q E := by
  unfold x_layPairs_L29
  intro Y hY
  have key : ∀ (n : Nat) (v2 : Int) (s : S), me v2 s < n → Fr wX_layPairs σ0 s → I v2 s → Y v2 s := by
    intro n
    induction n with
    | zero => intro v2 s h; exact absurd h (Nat.not_lt_zero _)
    | succ n ih =>
      intro v2 s hm fr hi
      exact hY v2 s (fx_layPairs_L29_b (v2 := v2) (Q := Q) (Q2 := Q) (E := E) (E2 := E) (X29 := (fun v2' s' => I v2' s' ∧ me v2' s' < me v2 s)) (X292 := Y) fr (step v2 s fr hi) (fun _ _ _ h => h) (fun _ _ h => h) (fun v2 s f h => ih v2 s (by omega) f h.1))
  exact key _ v2 σ0 (Nat.lt_succ_self _) Fr.rf h0
theorem fm_x_layPairs {v1 : Int} {σ0 : S} {Q Q2 : Int → S → Prop} {E E2 : S → Prop} (h : x_layPairs v1 σ0 Q E) (kQ : ∀ r s, Fr wX_layPairs σ0 s → Q r s → Q2 r s) (kE : ∀ s, Fr wX_layPairs σ0 s → E s → E2 s) : x_layPairs v1 σ0 Q2 E2 := by
  have fr : Fr wX_layPairs σ0 σ0 := Fr.rf
  unfold x_layPairs at h ⊢
  exact fun σ_1 e0 => (have f0 : Fr wX_layPairs σ0 σ_1 := Fr.putL fr e0 rfl; fun σ_3 e1 => (have f1 : Fr wX_layPairs σ0 σ_3 := Fr.putI f0 e1 rfl; fun σ_5 e2 => (have f2 : Fr wX_layPairs σ0 σ_5 := Fr.putI f1 e2 rfl; fun σ_7 e3 => (have f3 : Fr wX_layPairs σ0 σ_7 := Fr.putI f2 e3 rfl; fun σ_9 e4 => (have f4 : Fr wX_layPairs σ0 σ_9 := Fr.putI f3 e4 rfl; fx_layPairs_L29 f4 (((((h σ_1 e0) σ_3 e1) σ_5 e2) σ_7 e3) σ_9 e4) kQ kE)))))
theorem fx_pairs_j59 {σ0 σ : S} {Q Q2 : Int → S → Prop} (fr : Fr wX_pairs σ0 σ) (h : x_pairs_j59  σ Q) (kQ : ∀ r s, Fr wX_pairs σ0 s → Q r s → Q2 r s) : x_pairs_j59  σ Q2 := by
  unfold x_pairs_j59 at h ⊢
  exact fm_x_stopped h (fun r_13 σ_12 f h0 => (have f0 : Fr wX_pairs σ0 σ_12 := (fr.trans (f.weak (by decide +kernel))); kQ _ _ f0 h0))
theorem fm_x_pairs {v1 : Int} {σ0 : S} {Q Q2 : Int → S → Prop} (h : x_pairs v1 σ0 Q) (kQ : ∀ r s, Fr wX_pairs σ0 s → Q r s → Q2 r s) : x_pairs v1 σ0 Q2 := by
  have fr : Fr wX_pairs σ0 σ0 := Fr.rf
  unfold x_pairs at h ⊢
  exact fm_x_within h (fun r_2 σ_1 f h0 => (have f0 : Fr wX_pairs σ0 σ_1 := (fr.trans (f.weak (by decide +kernel))); ite_m (fun _ h1 => kQ _ _ f0 h1) (fun _ h1 => fm_x_begin h1 (fun _ σ_5 f h2 => (have f2 : Fr wX_pairs σ0 σ_5 := (f0.trans (f.weak (by decide +kernel))); fm_x_mayPair h2 (fun r_7 σ_6 f h3 => (have f3 : Fr wX_pairs σ0 σ_6 := (f2.trans (f.weak (by decide +kernel))); ite_m (fun _ h4 => kQ _ _ f3 h4) (fun _ h4 => fm_x_layPairs h4 (fun _ σ_10 f h5 => (have f5 : Fr wX_pairs σ0 σ_10 := (f3.trans (f.weak (by decide +kernel))); kQ _ _ f5 h5)) (fun σ_11 f h5 => (have f5 : Fr wX_pairs σ0 σ_11 := (f3.trans (f.weak (by decide +kernel))); fx_pairs_j59 f5 h5 kQ))) h3))))) h0))
theorem fx_pair_j105 {σ0 σ : S} {Q Q2 : Int → S → Prop} (fr : Fr wX_pair σ0 σ) (h : x_pair_j105  σ Q) (kQ : ∀ r s, Fr wX_pair σ0 s → Q r s → Q2 r s) : x_pair_j105  σ Q2 := by
  unfold x_pair_j105 at h ⊢
  exact fm_x_stopped h (fun r_15 σ_14 f h0 => (have f0 : Fr wX_pair σ0 σ_14 := (fr.trans (f.weak (by decide +kernel))); kQ _ _ f0 h0))
theorem fm_x_pair {v1 : Int} {v2 : Int} {σ0 : S} {Q Q2 : Int → S → Prop} (h : x_pair v1 v2 σ0 Q) (kQ : ∀ r s, Fr wX_pair σ0 s → Q r s → Q2 r s) : x_pair v1 v2 σ0 Q2 := by
  have fr : Fr wX_pair σ0 σ0 := Fr.rf
  unfold x_pair at h ⊢
  exact ite_m (fun _ h0 => kQ _ _ fr h0) (fun _ h0 => fm_x_within h0 (fun r_4 σ_3 f h1 => (have f1 : Fr wX_pair σ0 σ_3 := (fr.trans (f.weak (by decide +kernel))); ite_m (fun _ h2 => kQ _ _ f1 h2) (fun _ h2 => fm_x_begin h2 (fun _ σ_7 f h3 => (have f3 : Fr wX_pair σ0 σ_7 := (f1.trans (f.weak (by decide +kernel))); fm_x_mayPair h3 (fun r_9 σ_8 f h4 => (have f4 : Fr wX_pair σ0 σ_8 := (f3.trans (f.weak (by decide +kernel))); ite_m (fun _ h5 => kQ _ _ f4 h5) (fun _ h5 => fm_x_layPairs h5 (fun _ σ_12 f h6 => (have f6 : Fr wX_pair σ0 σ_12 := (f4.trans (f.weak (by decide +kernel))); ite_m (fun _ h7 => ite_m (fun _ h8 => kQ _ _ f6 h8) (fun _ h8 => ite_m (fun _ h9 => kQ _ _ f6 h9) (fun _ h9 => fm_x_loadFrom h9 (fun r_29 σ_28 f h10 => (have f10 : Fr wX_pair σ0 σ_28 := (f6.trans (f.weak (by decide +kernel))); fm_x_newHandle h10 (fun r_32 σ_31 f h11 => (have f11 : Fr wX_pair σ0 σ_31 := (f10.trans (f.weak (by decide +kernel))); kQ _ _ f11 h11)))) (fun σ_30 f h10 => (have f10 : Fr wX_pair σ0 σ_30 := (f6.trans (f.weak (by decide +kernel))); fx_pair_j105 f10 h10 kQ))) h8) h7) (fun _ h7 => kQ _ _ f6 h7) h6)) (fun σ_13 f h6 => (have f6 : Fr wX_pair σ0 σ_13 := (f4.trans (f.weak (by decide +kernel))); fx_pair_j105 f6 h6 kQ))) h4))))) h1))) h
