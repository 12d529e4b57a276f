/-! RewriteHouseModel -/
set_option maxRecDepth 100000
def RX2 : String := "RewriteHouseModel"
def TX2 : u_T := fun k => match k with
  | 0 => ("RewriteHouseModel", "thrown", "I", false)
  | 1 => ("RewriteHouseModel", "stop", "LRewriteHouseModel$Stop;", true)
  | 2 => ("RewriteHouseModel", "tape", "[B", true)
  | 3 => ("RewriteHouseModel", "tapeSize", "I", false)
  | 4 => ("RewriteHouseModel", "text", "[B", true)
  | 5 => ("RewriteHouseModel", "textSize", "I", false)
  | 6 => ("RewriteHouseModel", "wordAt", "[I", true)
  | 7 => ("RewriteHouseModel", "wordSize", "[I", true)
  | 8 => ("RewriteHouseModel", "words", "I", false)
  | 9 => ("RewriteHouseModel", "badAt", "I", false)
  | 10 => ("RewriteHouseModel", "at", "I", false)
  | 11 => ("RewriteHouseModel", "most", "I", false)
  | 12 => ("RewriteHouseModel", "faultPlace", "I", false)
  | 13 => ("RewriteHouseModel", "faultLine", "I", false)
  | 14 => ("RewriteHouseModel", "names", "[B", true)
  | 15 => ("RewriteHouseModel", "nameSize", "[I", true)
  | 16 => ("RewriteHouseModel", "nameCount", "I", false)
  | 17 => ("RewriteHouseModel", "sortWord", "[I", true)
  | 18 => ("RewriteHouseModel", "sorts", "I", false)
  | 19 => ("RewriteHouseModel", "orders", "[I", true)
  | 20 => ("RewriteHouseModel", "orderCount", "I", false)
  | 21 => ("RewriteHouseModel", "varWord", "[I", true)
  | 22 => ("RewriteHouseModel", "varSortWord", "[I", true)
  | 23 => ("RewriteHouseModel", "vars", "I", false)
  | 24 => ("RewriteHouseModel", "rowPlace", "[I", true)
  | 25 => ("RewriteHouseModel", "rowFormWord", "[I", true)
  | 26 => ("RewriteHouseModel", "rowFormWords", "[I", true)
  | 27 => ("RewriteHouseModel", "rowSortWords", "[I", true)
  | 28 => ("RewriteHouseModel", "rowSortWord", "[I", true)
  | 29 => ("RewriteHouseModel", "rowResultWord", "[I", true)
  | 30 => ("RewriteHouseModel", "rowAssoc", "[Z", true)
  | 31 => ("RewriteHouseModel", "rowComm", "[Z", true)
  | 32 => ("RewriteHouseModel", "rowIdWord", "[I", true)
  | 33 => ("RewriteHouseModel", "rowPrec", "[I", true)
  | 34 => ("RewriteHouseModel", "rowLetters", "[I", true)
  | 35 => ("RewriteHouseModel", "rowLetter", "[I", true)
  | 36 => ("RewriteHouseModel", "rowTwice", "[Z", true)
  | 37 => ("RewriteHouseModel", "rows", "I", false)
  | 38 => ("RewriteHouseModel", "stKind", "[I", true)
  | 39 => ("RewriteHouseModel", "stLabelWord", "[I", true)
  | 40 => ("RewriteHouseModel", "stTerm", "[I", true)
  | 41 => ("RewriteHouseModel", "stWords", "[I", true)
  | 42 => ("RewriteHouseModel", "condKind", "[I", true)
  | 43 => ("RewriteHouseModel", "condSortWord", "[I", true)
  | 44 => ("RewriteHouseModel", "stConds", "[I", true)
  | 45 => ("RewriteHouseModel", "statements", "I", false)
  | 46 => ("RewriteHouseModel", "equationCount", "I", false)
  | 47 => ("RewriteHouseModel", "ruleCount", "I", false)
  | 48 => ("RewriteHouseModel", "faultWhat", "I", false)
  | 49 => ("RewriteHouseModel", "faultAt", "I", false)
  | 50 => ("RewriteHouseModel", "sortName", "[I", true)
  | 51 => ("RewriteHouseModel", "above", "[I", true)
  | 52 => ("RewriteHouseModel", "kindOf", "[I", true)
  | 53 => ("RewriteHouseModel", "kinds", "I", false)
  | 54 => ("RewriteHouseModel", "varName", "[I", true)
  | 55 => ("RewriteHouseModel", "varSort", "[I", true)
  | 56 => ("RewriteHouseModel", "form", "[I", true)
  | 57 => ("RewriteHouseModel", "formSize", "[I", true)
  | 58 => ("RewriteHouseModel", "rowHoles", "[I", true)
  | 59 => ("RewriteHouseModel", "rowSort", "[I", true)
  | 60 => ("RewriteHouseModel", "rowResult", "[I", true)
  | 61 => ("RewriteHouseModel", "rowOp", "[I", true)
  | 62 => ("RewriteHouseModel", "ops", "I", false)
  | 63 => ("RewriteHouseModel", "opRow", "[I", true)
  | 64 => ("RewriteHouseModel", "opKind", "[I", true)
  | 65 => ("RewriteHouseModel", "opStrength", "[I", true)
  | 66 => ("RewriteHouseModel", "opAssoc", "[Z", true)
  | 67 => ("RewriteHouseModel", "opComm", "[Z", true)
  | 68 => ("RewriteHouseModel", "opId", "[I", true)
  | 69 => ("RewriteHouseModel", "opRows", "[I", true)
  | 70 => ("RewriteHouseModel", "nodeOp", "[I", true)
  | 71 => ("RewriteHouseModel", "nodeArgs", "[I", true)
  | 72 => ("RewriteHouseModel", "nodeCount", "[I", true)
  | 73 => ("RewriteHouseModel", "nodeSize", "[I", true)
  | 74 => ("RewriteHouseModel", "nodeSort", "[I", true)
  | 75 => ("RewriteHouseModel", "nodeNext", "[I", true)
  | 76 => ("RewriteHouseModel", "restAt", "[I", true)
  | 77 => ("RewriteHouseModel", "restCall", "[I", true)
  | 78 => ("RewriteHouseModel", "args", "[I", true)
  | 79 => ("RewriteHouseModel", "table", "[I", true)
  | 80 => ("RewriteHouseModel", "nodes", "I", false)
  | 81 => ("RewriteHouseModel", "argCount", "I", false)
  | 82 => ("RewriteHouseModel", "pile", "[I", true)
  | 83 => ("RewriteHouseModel", "piled", "I", false)
  | 84 => ("RewriteHouseModel", "wordName", "[I", true)
  | 85 => ("RewriteHouseModel", "wordVar", "[I", true)
  | 86 => ("RewriteHouseModel", "topOp", "[B", true)
  | 87 => ("RewriteHouseModel", "topAtom", "[B", true)
  | 88 => ("RewriteHouseModel", "rest", "[B", true)
  | 89 => ("RewriteHouseModel", "readWords", "I", false)
  | 90 => ("RewriteHouseModel", "openName", "I", false)
  | 91 => ("RewriteHouseModel", "closeName", "I", false)
  | 92 => ("RewriteHouseModel", "readFault", "I", false)
  | 93 => ("RewriteHouseModel", "stLeft", "[I", true)
  | 94 => ("RewriteHouseModel", "stRight", "[I", true)
  | 95 => ("RewriteHouseModel", "condLeft", "[I", true)
  | 96 => ("RewriteHouseModel", "condRight", "[I", true)
  | 97 => ("RewriteHouseModel", "condSort", "[I", true)
  | 98 => ("RewriteHouseModel", "stLabel", "[I", true)
  | 99 => ("RewriteHouseModel", "known", "J", false)
  | 100 => ("RewriteHouseModel", "handle", "[I", true)
  | 101 => ("RewriteHouseModel", "handles", "I", false)
  | 102 => ("RewriteHouseModel", "shown", "[B", true)
  | 103 => ("RewriteHouseModel", "shownSize", "I", false)
  | 104 => ("RewriteHouseModel", "goalKind", "[I", true)
  | 105 => ("RewriteHouseModel", "goalP", "[I", true)
  | 106 => ("RewriteHouseModel", "goalT", "[I", true)
  | 107 => ("RewriteHouseModel", "goalA", "[I", true)
  | 108 => ("RewriteHouseModel", "goalB", "[I", true)
  | 109 => ("RewriteHouseModel", "goalNext", "[I", true)
  | 110 => ("RewriteHouseModel", "goals", "I", false)
  | 111 => ("RewriteHouseModel", "boundTo", "[I", true)
  | 112 => ("RewriteHouseModel", "store", "[I", true)
  | 113 => ("RewriteHouseModel", "stored", "I", false)
  | 114 => ("RewriteHouseModel", "listFrom", "I", false)
  | 115 => ("RewriteHouseModel", "listCount", "I", false)
  | 116 => ("RewriteHouseModel", "listOp", "I", false)
  | 117 => ("RewriteHouseModel", "ahead", "I", false)
  | 118 => ("RewriteHouseModel", "behind", "I", false)
  | 119 => ("RewriteHouseModel", "matchersTold", "I", false)
  | 120 => ("RewriteHouseModel", "stepsDone", "I", false)
  | 121 => ("RewriteHouseModel", "callNumber", "I", false)
  | 122 => ("RewriteHouseModel", "dealsMost", "I", false)
  | 123 => ("RewriteHouseModel", "dealsTold", "J", false)
  | 124 => ("RewriteHouseModel", "filled", "I", false)
  | 125 => ("RewriteHouseModel", "cameBy", "[I", true)
  | 126 => ("RewriteHouseModel", "cameCount", "I", false)
  | 127 => ("RewriteHouseModel", "terms", "[I", true)
  | 128 => ("RewriteHouseModel", "ruleOf", "[I", true)
  | 129 => ("RewriteHouseModel", "termTop", "I", false)
  | 130 => ("RewriteHouseModel", "stepRoot", "I", false)
  | 131 => ("RewriteHouseModel", "path", "[I", true)
  | 132 => ("RewriteHouseModel", "pathSize", "I", false)
  | 133 => ("RewriteHouseModel", "onPath", "[I", true)
  | 134 => ("RewriteHouseModel", "results", "I", false)
  | 135 => ("RewriteHouseModel", "resultKind", "I", false)
  | 136 => ("RewriteHouseModel", "result", "[I", true)
  | 137 => ("RewriteHouseModel", "matched", "[I", true)
  | 138 => ("RewriteHouseModel", "resultRule", "[I", true)
  | 139 => ("RewriteHouseModel", "resultFrom", "[I", true)
  | 140 => ("RewriteHouseModel", "resultFar", "[I", true)
  | 141 => ("RewriteHouseModel", "edgeFrom", "[I", true)
  | 142 => ("RewriteHouseModel", "edgeTo", "[I", true)
  | 143 => ("RewriteHouseModel", "matchOp", "I", false)
  | 144 => ("RewriteHouseModel", "lastStop", "I", false)
  | 145 => ("RewriteHouseModel", "lastSteps", "I", false)
  | 146 => ("RewriteHouseModel", "newNumber", "[I", true)
  | 147 => ("RewriteHouseModel", "state", "[I", true)
  | 148 => ("RewriteHouseModel", "stateRule", "[I", true)
  | 149 => ("RewriteHouseModel", "stateFrom", "[I", true)
  | 150 => ("RewriteHouseModel", "stateFar", "[I", true)
  | 151 => ("RewriteHouseModel", "tryEdgeFrom", "[I", true)
  | 152 => ("RewriteHouseModel", "tryEdgeTo", "[I", true)
  | 153 => ("RewriteHouseModel", "isP", "[Z", true)
  | 154 => ("RewriteHouseModel", "isQ", "[Z", true)
  | 155 => ("RewriteHouseModel", "goes", "[Z", true)
  | 156 => ("RewriteHouseModel", "planKind", "[I", true)
  | 157 => ("RewriteHouseModel", "planA", "[I", true)
  | 158 => ("RewriteHouseModel", "planB", "[I", true)
  | 159 => ("RewriteHouseModel", "plans", "I", false)
  | 160 => ("RewriteHouseModel", "tuple", "[I", true)
  | 161 => ("RewriteHouseModel", "badOp", "I", false)
  | 162 => ("RewriteHouseModel", "badCount", "I", false)
  | 163 => ("RewriteHouseModel", "memoS", "[I", true)
  | 164 => ("RewriteHouseModel", "memoT", "[I", true)
  | 165 => ("RewriteHouseModel", "memoIs", "[I", true)
  | 166 => ("RewriteHouseModel", "memoRound", "I", false)
  | 167 => ("RewriteHouseModel", "memoOf", "[I", true)
  | 168 => ("RewriteHouseModel", "trail", "[I", true)
  | 169 => ("RewriteHouseModel", "trailSize", "I", false)
  | 170 => ("RewriteHouseModel", "pairP", "[I", true)
  | 171 => ("RewriteHouseModel", "pairT", "[I", true)
  | 172 => ("RewriteHouseModel", "pairNext", "[I", true)
  | 173 => ("RewriteHouseModel", "pairGoals", "I", false)
  | 174 => ("RewriteHouseModel", "value", "[I", true)
  | 175 => ("RewriteHouseModel", "pairsFound", "I", false)
  | 176 => ("RewriteHouseModel", "pairsApart", "I", false)
  | 177 => ("RewriteHouseModel", "pairsOpen", "I", false)
  | 178 => ("RewriteHouseModel", "wantedApart", "I", false)
  | 179 => ("RewriteHouseModel", "pairI", "I", false)
  | 180 => ("RewriteHouseModel", "pairJ", "I", false)
  | 181 => ("RewriteHouseModel", "pairOne", "I", false)
  | 182 => ("RewriteHouseModel", "pairTwo", "I", false)
  | 183 => ("RewriteHouseModel", "overI", "I", false)
  | 184 => ("RewriteHouseModel", "overJ", "I", false)
  | 185 => ("RewriteHouseModel", "overRoot", "I", false)
  | 186 => ("RewriteHouseModel", "overPart", "I", false)
  | 187 => ("RewriteHouseModel", "overRight", "I", false)
  | 188 => ("RewriteHouseModel", "twos", "I", false)
  | 189 => ("RewriteHouseModel", "floor", "I", false)
  | _ => ("RewriteHouseModel", "pairKept", "Z", false)
def tyX2 : Nat → FieldType := fun k => match k with
  | 0 => .int
  | 1 => .object "RewriteHouseModel$Stop"
  | 2 => .array .byte
  | 3 => .int
  | 4 => .array .byte
  | 5 => .int
  | 6 => .array .int
  | 7 => .array .int
  | 8 => .int
  | 9 => .int
  | 10 => .int
  | 11 => .int
  | 12 => .int
  | 13 => .int
  | 14 => .array .byte
  | 15 => .array .int
  | 16 => .int
  | 17 => .array .int
  | 18 => .int
  | 19 => .array .int
  | 20 => .int
  | 21 => .array .int
  | 22 => .array .int
  | 23 => .int
  | 24 => .array .int
  | 25 => .array .int
  | 26 => .array .int
  | 27 => .array .int
  | 28 => .array .int
  | 29 => .array .int
  | 30 => .array .boolean
  | 31 => .array .boolean
  | 32 => .array .int
  | 33 => .array .int
  | 34 => .array .int
  | 35 => .array .int
  | 36 => .array .boolean
  | 37 => .int
  | 38 => .array .int
  | 39 => .array .int
  | 40 => .array .int
  | 41 => .array .int
  | 42 => .array .int
  | 43 => .array .int
  | 44 => .array .int
  | 45 => .int
  | 46 => .int
  | 47 => .int
  | 48 => .int
  | 49 => .int
  | 50 => .array .int
  | 51 => .array .int
  | 52 => .array .int
  | 53 => .int
  | 54 => .array .int
  | 55 => .array .int
  | 56 => .array .int
  | 57 => .array .int
  | 58 => .array .int
  | 59 => .array .int
  | 60 => .array .int
  | 61 => .array .int
  | 62 => .int
  | 63 => .array .int
  | 64 => .array .int
  | 65 => .array .int
  | 66 => .array .boolean
  | 67 => .array .boolean
  | 68 => .array .int
  | 69 => .array .int
  | 70 => .array .int
  | 71 => .array .int
  | 72 => .array .int
  | 73 => .array .int
  | 74 => .array .int
  | 75 => .array .int
  | 76 => .array .int
  | 77 => .array .int
  | 78 => .array .int
  | 79 => .array .int
  | 80 => .int
  | 81 => .int
  | 82 => .array .int
  | 83 => .int
  | 84 => .array .int
  | 85 => .array .int
  | 86 => .array .byte
  | 87 => .array .byte
  | 88 => .array .byte
  | 89 => .int
  | 90 => .int
  | 91 => .int
  | 92 => .int
  | 93 => .array .int
  | 94 => .array .int
  | 95 => .array .int
  | 96 => .array .int
  | 97 => .array .int
  | 98 => .array .int
  | 99 => .long
  | 100 => .array .int
  | 101 => .int
  | 102 => .array .byte
  | 103 => .int
  | 104 => .array .int
  | 105 => .array .int
  | 106 => .array .int
  | 107 => .array .int
  | 108 => .array .int
  | 109 => .array .int
  | 110 => .int
  | 111 => .array .int
  | 112 => .array .int
  | 113 => .int
  | 114 => .int
  | 115 => .int
  | 116 => .int
  | 117 => .int
  | 118 => .int
  | 119 => .int
  | 120 => .int
  | 121 => .int
  | 122 => .int
  | 123 => .long
  | 124 => .int
  | 125 => .array .int
  | 126 => .int
  | 127 => .array .int
  | 128 => .array .int
  | 129 => .int
  | 130 => .int
  | 131 => .array .int
  | 132 => .int
  | 133 => .array .int
  | 134 => .int
  | 135 => .int
  | 136 => .array .int
  | 137 => .array .int
  | 138 => .array .int
  | 139 => .array .int
  | 140 => .array .int
  | 141 => .array .int
  | 142 => .array .int
  | 143 => .int
  | 144 => .int
  | 145 => .int
  | 146 => .array .int
  | 147 => .array .int
  | 148 => .array .int
  | 149 => .array .int
  | 150 => .array .int
  | 151 => .array .int
  | 152 => .array .int
  | 153 => .array .boolean
  | 154 => .array .boolean
  | 155 => .array .boolean
  | 156 => .array .int
  | 157 => .array .int
  | 158 => .array .int
  | 159 => .int
  | 160 => .array .int
  | 161 => .int
  | 162 => .int
  | 163 => .array .int
  | 164 => .array .int
  | 165 => .array .int
  | 166 => .int
  | 167 => .array .int
  | 168 => .array .int
  | 169 => .int
  | 170 => .array .int
  | 171 => .array .int
  | 172 => .array .int
  | 173 => .int
  | 174 => .array .int
  | 175 => .int
  | 176 => .int
  | 177 => .int
  | 178 => .int
  | 179 => .int
  | 180 => .int
  | 181 => .int
  | 182 => .int
  | 183 => .int
  | 184 => .int
  | 185 => .int
  | 186 => .int
  | 187 => .int
  | 188 => .int
  | 189 => .int
  | _ => .boolean
abbrev wsX20 : List Cond := u_ws RX2 TX2 191
set_option maxRecDepth 100000 in
theorem nmX2 : ∀ a, a < 191 → ∀ b, b < 191 → a ≠ b → (TX2 a).2.1 ≠ (TX2 b).2.1 := by decide +kernel
set_option maxRecDepth 100000 in
theorem tyX2_ok : ∀ k, k < 191 → parseFieldDescriptor (TX2 k).2.2.1 = some (tyX2 k) := by decide +kernel
abbrev cX2_init : ByteArray := prog_4_method_4_code
def yX2_init : MethodName := ⟨RX2, "<init>", "()V"⟩
def dkwX2_init_43 : List UInt8 := [181, 1, 136, 42, 3, 181, 0, 1, 42, 182, 1, 139, 177]
abbrev dktX2_init_43 : List UInt8 := dkwX2_init_43 ++ []
def dkwX2_init_42 : List UInt8 := [17, 15, 160, 188, 10, 181, 1, 130, 42, 17, 15, 160, 188, 10, 181, 1, 133, 42, 16, 60, 188, 10]
abbrev dktX2_init_42 : List UInt8 := dkwX2_init_42 ++ dktX2_init_43
def dkwX2_init_41 : List UInt8 := [181, 1, 121, 42, 17, 1, 144, 188, 10, 181, 1, 124, 42, 17, 15, 160, 188, 10, 181, 1, 127, 42]
abbrev dktX2_init_41 : List UInt8 := dkwX2_init_41 ++ dktX2_init_42
def dkwX2_init_40 : List UInt8 := [42, 17, 32, 0, 188, 10, 181, 1, 115, 42, 17, 32, 0, 188, 10, 181, 1, 118, 42, 17, 32, 0, 188, 10]
abbrev dktX2_init_40 : List UInt8 := dkwX2_init_40 ++ dktX2_init_41
def dkwX2_init_39 : List UInt8 := [17, 0, 200, 188, 10, 181, 1, 106, 42, 8, 188, 10, 181, 1, 109, 42, 17, 32, 0, 188, 10, 181, 1, 112]
abbrev dktX2_init_39 : List UInt8 := dkwX2_init_39 ++ dktX2_init_40
def dkwX2_init_38 : List UInt8 := [188, 4, 181, 1, 97, 42, 17, 0, 200, 188, 10, 181, 1, 100, 42, 17, 0, 200, 188, 10, 181, 1, 103, 42]
abbrev dktX2_init_38 : List UInt8 := dkwX2_init_38 ++ dktX2_init_39
def dkwX2_init_37 : List UInt8 := [188, 10, 181, 1, 88, 42, 16, 120, 188, 4, 181, 1, 91, 42, 16, 120, 188, 4, 181, 1, 94, 42, 16, 120]
abbrev dktX2_init_37 : List UInt8 := dkwX2_init_37 ++ dktX2_init_38
def dkwX2_init_36 : List UInt8 := [181, 1, 79, 42, 16, 121, 188, 10, 181, 1, 82, 42, 17, 0, 130, 188, 10, 181, 1, 85, 42, 17, 28, 132]
abbrev dktX2_init_36 : List UInt8 := dkwX2_init_36 ++ dktX2_init_37
def dkwX2_init_35 : List UInt8 := [181, 1, 70, 42, 16, 121, 188, 10, 181, 1, 73, 42, 16, 121, 188, 10, 181, 1, 76, 42, 16, 121, 188, 10]
abbrev dktX2_init_35 : List UInt8 := dkwX2_init_35 ++ dktX2_init_36
def dkwX2_init_34 : List UInt8 := [17, 0, 130, 188, 10, 181, 1, 64, 42, 17, 28, 132, 188, 10, 181, 1, 67, 42, 18, 180, 188, 10]
abbrev dktX2_init_34 : List UInt8 := dkwX2_init_34 ++ dktX2_init_35
def dkwX2_init_33 : List UInt8 := [181, 1, 55, 42, 17, 0, 200, 188, 10, 181, 1, 58, 42, 17, 0, 200, 188, 10, 181, 1, 61, 42]
abbrev dktX2_init_33 : List UInt8 := dkwX2_init_33 ++ dktX2_init_34
def dkwX2_init_32 : List UInt8 := [42, 17, 0, 200, 188, 10, 181, 1, 49, 42, 17, 50, 0, 188, 10, 181, 1, 52, 42, 17, 0, 200, 188, 10]
abbrev dktX2_init_32 : List UInt8 := dkwX2_init_32 ++ dktX2_init_33
def dkwX2_init_31 : List UInt8 := [19, 1, 36, 188, 10, 181, 1, 40, 42, 16, 50, 188, 10, 181, 1, 43, 42, 16, 51, 188, 10, 181, 1, 46]
abbrev dktX2_init_31 : List UInt8 := dkwX2_init_31 ++ dktX2_init_32
def dkwX2_init_30 : List UInt8 := [181, 1, 29, 42, 19, 1, 32, 188, 10, 181, 1, 33, 42, 19, 1, 36, 188, 10, 181, 1, 37, 42]
abbrev dktX2_init_30 : List UInt8 := dkwX2_init_30 ++ dktX2_init_31
def dkwX2_init_29 : List UInt8 := [188, 10, 181, 1, 18, 42, 19, 1, 21, 188, 10, 181, 1, 22, 42, 4, 181, 1, 25, 42, 19, 1, 28]
abbrev dktX2_init_29 : List UInt8 := dkwX2_init_29 ++ dktX2_init_30
def dkwX2_init_28 : List UInt8 := [181, 1, 9, 42, 17, 15, 160, 188, 10, 181, 1, 12, 42, 17, 15, 160, 188, 10, 181, 1, 15, 42, 16, 60]
abbrev dktX2_init_28 : List UInt8 := dkwX2_init_28 ++ dktX2_init_29
def dkwX2_init_27 : List UInt8 := [17, 15, 160, 188, 10, 181, 1, 3, 42, 17, 15, 160, 188, 10, 181, 1, 6, 42, 17, 15, 160, 188, 10]
abbrev dktX2_init_27 : List UInt8 := dkwX2_init_27 ++ dktX2_init_28
def dkwX2_init_26 : List UInt8 := [188, 10, 181, 0, 250, 42, 17, 78, 32, 188, 8, 181, 0, 253, 42, 17, 15, 160, 188, 10, 181, 1, 0, 42]
abbrev dktX2_init_26 : List UInt8 := dkwX2_init_26 ++ dktX2_init_27
def dkwX2_init_25 : List UInt8 := [181, 0, 241, 42, 17, 1, 164, 188, 10, 181, 0, 244, 42, 16, 70, 188, 10, 181, 0, 247, 42, 17, 0, 200]
abbrev dktX2_init_25 : List UInt8 := dkwX2_init_25 ++ dktX2_init_26
def dkwX2_init_24 : List UInt8 := [16, 70, 188, 10, 181, 0, 235, 42, 17, 1, 164, 188, 10, 181, 0, 238, 42, 17, 1, 164, 188, 10]
abbrev dktX2_init_24 : List UInt8 := dkwX2_init_24 ++ dktX2_init_25
def dkwX2_init_23 : List UInt8 := [188, 8, 181, 0, 226, 42, 17, 1, 186, 188, 8, 181, 0, 229, 42, 16, 70, 188, 10, 181, 0, 232, 42]
abbrev dktX2_init_23 : List UInt8 := dkwX2_init_23 ++ dktX2_init_24
def dkwX2_init_22 : List UInt8 := [181, 0, 216, 42, 16, 33, 188, 10, 181, 0, 219, 42, 18, 222, 188, 8, 181, 0, 223, 42, 17, 85, 20]
abbrev dktX2_init_22 : List UInt8 := dkwX2_init_22 ++ dktX2_init_23
def dkwX2_init_21 : List UInt8 := [42, 18, 209, 188, 10, 181, 0, 210, 42, 17, 78, 32, 188, 10, 181, 0, 213, 42, 16, 33, 188, 10]
abbrev dktX2_init_21 : List UInt8 := dkwX2_init_21 ++ dktX2_init_22
def dkwX2_init_20 : List UInt8 := [42, 18, 180, 188, 10, 181, 0, 199, 42, 18, 180, 188, 10, 181, 0, 202, 42, 18, 205, 188, 10, 181, 0, 206]
abbrev dktX2_init_20 : List UInt8 := dkwX2_init_20 ++ dktX2_init_21
def dkwX2_init_19 : List UInt8 := [42, 18, 180, 188, 10, 181, 0, 190, 42, 18, 180, 188, 10, 181, 0, 193, 42, 18, 180, 188, 10, 181, 0, 196]
abbrev dktX2_init_19 : List UInt8 := dkwX2_init_19 ++ dktX2_init_20
def dkwX2_init_18 : List UInt8 := [42, 18, 180, 188, 10, 181, 0, 181, 42, 18, 180, 188, 10, 181, 0, 184, 42, 18, 180, 188, 10, 181, 0, 187]
abbrev dktX2_init_18 : List UInt8 := dkwX2_init_18 ++ dktX2_init_19
def dkwX2_init_17 : List UInt8 := [42, 16, 50, 188, 4, 181, 0, 171, 42, 16, 50, 188, 10, 181, 0, 174, 42, 16, 50, 188, 10, 181, 0, 177]
abbrev dktX2_init_17 : List UInt8 := dkwX2_init_17 ++ dktX2_init_18
def dkwX2_init_16 : List UInt8 := [42, 16, 50, 188, 10, 181, 0, 162, 42, 16, 50, 188, 10, 181, 0, 165, 42, 16, 50, 188, 4, 181, 0, 168]
abbrev dktX2_init_16 : List UInt8 := dkwX2_init_16 ++ dktX2_init_17
def dkwX2_init_15 : List UInt8 := [42, 16, 50, 188, 10, 181, 0, 153, 42, 16, 50, 188, 10, 181, 0, 156, 42, 16, 50, 188, 10, 181, 0, 159]
abbrev dktX2_init_15 : List UInt8 := dkwX2_init_15 ++ dktX2_init_16
def dkwX2_init_14 : List UInt8 := [16, 50, 188, 10, 181, 0, 144, 42, 16, 50, 188, 10, 181, 0, 147, 42, 17, 0, 250, 188, 10, 181, 0, 150]
abbrev dktX2_init_14 : List UInt8 := dkwX2_init_14 ++ dktX2_init_15
def dkwX2_init_13 : List UInt8 := [188, 10, 181, 0, 135, 42, 16, 30, 188, 10, 181, 0, 138, 42, 17, 2, 138, 188, 10, 181, 0, 141, 42]
abbrev dktX2_init_13 : List UInt8 := dkwX2_init_13 ++ dktX2_init_14
def dkwX2_init_12 : List UInt8 := [188, 10, 181, 0, 126, 42, 16, 20, 188, 10, 181, 0, 129, 42, 16, 20, 188, 10, 181, 0, 132, 42, 16, 30]
abbrev dktX2_init_12 : List UInt8 := dkwX2_init_12 ++ dktX2_init_13
def dkwX2_init_11 : List UInt8 := [181, 0, 117, 42, 17, 1, 164, 188, 10, 181, 0, 120, 42, 16, 70, 188, 10, 181, 0, 123, 42, 16, 20]
abbrev dktX2_init_11 : List UInt8 := dkwX2_init_11 ++ dktX2_init_12
def dkwX2_init_10 : List UInt8 := [17, 4, 112, 188, 10, 181, 0, 111, 42, 17, 4, 112, 188, 10, 181, 0, 114, 42, 17, 1, 164, 188, 10]
abbrev dktX2_init_10 : List UInt8 := dkwX2_init_10 ++ dktX2_init_11
def dkwX2_init_9 : List UInt8 := [16, 50, 188, 4, 181, 0, 102, 42, 16, 70, 188, 10, 181, 0, 105, 42, 16, 70, 188, 10, 181, 0, 108, 42]
abbrev dktX2_init_9 : List UInt8 := dkwX2_init_9 ++ dktX2_init_10
def dkwX2_init_8 : List UInt8 := [188, 10, 181, 0, 93, 42, 16, 50, 188, 10, 181, 0, 96, 42, 17, 3, 232, 188, 10, 181, 0, 99, 42]
abbrev dktX2_init_8 : List UInt8 := dkwX2_init_8 ++ dktX2_init_9
def dkwX2_init_7 : List UInt8 := [188, 4, 181, 0, 83, 42, 16, 50, 188, 4, 181, 0, 87, 42, 16, 50, 188, 10, 181, 0, 90, 42, 16, 50]
abbrev dktX2_init_7 : List UInt8 := dkwX2_init_7 ++ dktX2_init_8
def dkwX2_init_6 : List UInt8 := [181, 0, 74, 42, 17, 3, 232, 188, 10, 181, 0, 77, 42, 16, 50, 188, 10, 181, 0, 80, 42, 16, 50]
abbrev dktX2_init_6 : List UInt8 := dkwX2_init_6 ++ dktX2_init_7
def dkwX2_init_5 : List UInt8 := [181, 0, 65, 42, 16, 50, 188, 10, 181, 0, 68, 42, 16, 50, 188, 10, 181, 0, 71, 42, 16, 50, 188, 10]
abbrev dktX2_init_5 : List UInt8 := dkwX2_init_5 ++ dktX2_init_6
def dkwX2_init_4 : List UInt8 := [181, 0, 56, 42, 16, 30, 188, 10, 181, 0, 59, 42, 16, 30, 188, 10, 181, 0, 62, 42, 16, 50, 188, 10]
abbrev dktX2_init_4 : List UInt8 := dkwX2_init_4 ++ dktX2_init_5
def dkwX2_init_3 : List UInt8 := [17, 12, 28, 188, 10, 181, 0, 50, 42, 16, 20, 188, 10, 181, 0, 53, 42, 17, 3, 232, 188, 10]
abbrev dktX2_init_3 : List UInt8 := dkwX2_init_3 ++ dktX2_init_4
def dkwX2_init_2 : List UInt8 := [181, 0, 37, 42, 16, 254, 181, 0, 40, 42, 16, 254, 181, 0, 43, 42, 18, 46, 188, 8, 181, 0, 47, 42]
abbrev dktX2_init_2 : List UInt8 := dkwX2_init_2 ++ dktX2_init_3
def dkwX2_init_1 : List UInt8 := [42, 17, 23, 132, 188, 8, 181, 0, 30, 42, 17, 3, 134, 188, 10, 181, 0, 33, 42, 17, 3, 134, 188, 10]
abbrev dktX2_init_1 : List UInt8 := dkwX2_init_1 ++ dktX2_init_2
def dkwX2_init_0 : List UInt8 := [42, 183, 0, 19, 42, 187, 0, 12, 89, 183, 0, 25, 181, 0, 7, 42, 17, 23, 132, 188, 8, 181, 0, 26]
abbrev dktX2_init_0 : List UInt8 := dkwX2_init_0 ++ dktX2_init_1
theorem dksX2_init_0 : cX2_init.data.toList.drop 0 = dktX2_init_0 := by decide +kernel
theorem dksX2_init_1 : cX2_init.data.toList.drop 24 = dktX2_init_1 := dk_seg dksX2_init_0 24 rfl rfl
theorem dksX2_init_2 : cX2_init.data.toList.drop 48 = dktX2_init_2 := dk_seg dksX2_init_1 24 rfl rfl
theorem dksX2_init_3 : cX2_init.data.toList.drop 72 = dktX2_init_3 := dk_seg dksX2_init_2 24 rfl rfl
theorem dksX2_init_4 : cX2_init.data.toList.drop 94 = dktX2_init_4 := dk_seg dksX2_init_3 22 rfl rfl
theorem dksX2_init_5 : cX2_init.data.toList.drop 118 = dktX2_init_5 := dk_seg dksX2_init_4 24 rfl rfl
theorem dksX2_init_6 : cX2_init.data.toList.drop 142 = dktX2_init_6 := dk_seg dksX2_init_5 24 rfl rfl
theorem dksX2_init_7 : cX2_init.data.toList.drop 165 = dktX2_init_7 := dk_seg dksX2_init_6 23 rfl rfl
theorem dksX2_init_8 : cX2_init.data.toList.drop 189 = dktX2_init_8 := dk_seg dksX2_init_7 24 rfl rfl
theorem dksX2_init_9 : cX2_init.data.toList.drop 212 = dktX2_init_9 := dk_seg dksX2_init_8 23 rfl rfl
theorem dksX2_init_10 : cX2_init.data.toList.drop 236 = dktX2_init_10 := dk_seg dksX2_init_9 24 rfl rfl
theorem dksX2_init_11 : cX2_init.data.toList.drop 259 = dktX2_init_11 := dk_seg dksX2_init_10 23 rfl rfl
theorem dksX2_init_12 : cX2_init.data.toList.drop 282 = dktX2_init_12 := dk_seg dksX2_init_11 23 rfl rfl
theorem dksX2_init_13 : cX2_init.data.toList.drop 306 = dktX2_init_13 := dk_seg dksX2_init_12 24 rfl rfl
theorem dksX2_init_14 : cX2_init.data.toList.drop 329 = dktX2_init_14 := dk_seg dksX2_init_13 23 rfl rfl
theorem dksX2_init_15 : cX2_init.data.toList.drop 353 = dktX2_init_15 := dk_seg dksX2_init_14 24 rfl rfl
theorem dksX2_init_16 : cX2_init.data.toList.drop 377 = dktX2_init_16 := dk_seg dksX2_init_15 24 rfl rfl
theorem dksX2_init_17 : cX2_init.data.toList.drop 401 = dktX2_init_17 := dk_seg dksX2_init_16 24 rfl rfl
theorem dksX2_init_18 : cX2_init.data.toList.drop 425 = dktX2_init_18 := dk_seg dksX2_init_17 24 rfl rfl
theorem dksX2_init_19 : cX2_init.data.toList.drop 449 = dktX2_init_19 := dk_seg dksX2_init_18 24 rfl rfl
theorem dksX2_init_20 : cX2_init.data.toList.drop 473 = dktX2_init_20 := dk_seg dksX2_init_19 24 rfl rfl
theorem dksX2_init_21 : cX2_init.data.toList.drop 497 = dktX2_init_21 := dk_seg dksX2_init_20 24 rfl rfl
theorem dksX2_init_22 : cX2_init.data.toList.drop 519 = dktX2_init_22 := dk_seg dksX2_init_21 22 rfl rfl
theorem dksX2_init_23 : cX2_init.data.toList.drop 542 = dktX2_init_23 := dk_seg dksX2_init_22 23 rfl rfl
theorem dksX2_init_24 : cX2_init.data.toList.drop 565 = dktX2_init_24 := dk_seg dksX2_init_23 23 rfl rfl
theorem dksX2_init_25 : cX2_init.data.toList.drop 587 = dktX2_init_25 := dk_seg dksX2_init_24 22 rfl rfl
theorem dksX2_init_26 : cX2_init.data.toList.drop 611 = dktX2_init_26 := dk_seg dksX2_init_25 24 rfl rfl
theorem dksX2_init_27 : cX2_init.data.toList.drop 635 = dktX2_init_27 := dk_seg dksX2_init_26 24 rfl rfl
theorem dksX2_init_28 : cX2_init.data.toList.drop 658 = dktX2_init_28 := dk_seg dksX2_init_27 23 rfl rfl
theorem dksX2_init_29 : cX2_init.data.toList.drop 682 = dktX2_init_29 := dk_seg dksX2_init_28 24 rfl rfl
theorem dksX2_init_30 : cX2_init.data.toList.drop 705 = dktX2_init_30 := dk_seg dksX2_init_29 23 rfl rfl
theorem dksX2_init_31 : cX2_init.data.toList.drop 727 = dktX2_init_31 := dk_seg dksX2_init_30 22 rfl rfl
theorem dksX2_init_32 : cX2_init.data.toList.drop 751 = dktX2_init_32 := dk_seg dksX2_init_31 24 rfl rfl
theorem dksX2_init_33 : cX2_init.data.toList.drop 775 = dktX2_init_33 := dk_seg dksX2_init_32 24 rfl rfl
theorem dksX2_init_34 : cX2_init.data.toList.drop 797 = dktX2_init_34 := dk_seg dksX2_init_33 22 rfl rfl
theorem dksX2_init_35 : cX2_init.data.toList.drop 819 = dktX2_init_35 := dk_seg dksX2_init_34 22 rfl rfl
theorem dksX2_init_36 : cX2_init.data.toList.drop 843 = dktX2_init_36 := dk_seg dksX2_init_35 24 rfl rfl
theorem dksX2_init_37 : cX2_init.data.toList.drop 867 = dktX2_init_37 := dk_seg dksX2_init_36 24 rfl rfl
theorem dksX2_init_38 : cX2_init.data.toList.drop 891 = dktX2_init_38 := dk_seg dksX2_init_37 24 rfl rfl
theorem dksX2_init_39 : cX2_init.data.toList.drop 915 = dktX2_init_39 := dk_seg dksX2_init_38 24 rfl rfl
theorem dksX2_init_40 : cX2_init.data.toList.drop 939 = dktX2_init_40 := dk_seg dksX2_init_39 24 rfl rfl
theorem dksX2_init_41 : cX2_init.data.toList.drop 963 = dktX2_init_41 := dk_seg dksX2_init_40 24 rfl rfl
theorem dksX2_init_42 : cX2_init.data.toList.drop 985 = dktX2_init_42 := dk_seg dksX2_init_41 22 rfl rfl
theorem dksX2_init_43 : cX2_init.data.toList.drop 1007 = dktX2_init_43 := dk_seg dksX2_init_42 22 rfl rfl
theorem dX2_init_0 : decode cX2_init 0 = .ok (.aload_n 0, 1) := dk_42 (dk_at dksX2_init_0 0 rfl rfl)
theorem dX2_init_1 : decode cX2_init 1 = .ok (.invokespecial 19, 3) := dk_183 0 19 (dk_at dksX2_init_0 1 rfl rfl)
theorem dX2_init_4 : decode cX2_init 4 = .ok (.aload_n 0, 1) := dk_42 (dk_at dksX2_init_0 4 rfl rfl)
theorem dX2_init_5 : decode cX2_init 5 = .ok (.new 12, 3) := dk_187 0 12 (dk_at dksX2_init_0 5 rfl rfl)
theorem dX2_init_8 : decode cX2_init 8 = .ok (.dup, 1) := dk_89 (dk_at dksX2_init_0 8 rfl rfl)
theorem dX2_init_9 : decode cX2_init 9 = .ok (.invokespecial 25, 3) := dk_183 0 25 (dk_at dksX2_init_0 9 rfl rfl)
theorem dX2_init_12 : decode cX2_init 12 = .ok (.putfield 7, 3) := dk_181 0 7 (dk_at dksX2_init_0 12 rfl rfl)
theorem dX2_init_15 : decode cX2_init 15 = .ok (.aload_n 0, 1) := dk_42 (dk_at dksX2_init_0 15 rfl rfl)
theorem dX2_init_16 : decode cX2_init 16 = .ok (.sipush 6020, 3) := dk_17 23 132 (dk_at dksX2_init_0 16 rfl rfl)
theorem dX2_init_19 : decode cX2_init 19 = .ok (.newarray .byte, 2) := dk_188_8 (dk_at dksX2_init_0 19 rfl rfl)
theorem dX2_init_21 : decode cX2_init 21 = .ok (.putfield 26, 3) := dk_181 0 26 (dk_at dksX2_init_0 21 rfl rfl)
theorem dX2_init_24 : decode cX2_init 24 = .ok (.aload_n 0, 1) := dk_42 (dk_at dksX2_init_1 0 rfl rfl)
theorem dX2_init_25 : decode cX2_init 25 = .ok (.sipush 6020, 3) := dk_17 23 132 (dk_at dksX2_init_1 1 rfl rfl)
theorem dX2_init_28 : decode cX2_init 28 = .ok (.newarray .byte, 2) := dk_188_8 (dk_at dksX2_init_1 4 rfl rfl)
theorem dX2_init_30 : decode cX2_init 30 = .ok (.putfield 30, 3) := dk_181 0 30 (dk_at dksX2_init_1 6 rfl rfl)
theorem dX2_init_33 : decode cX2_init 33 = .ok (.aload_n 0, 1) := dk_42 (dk_at dksX2_init_1 9 rfl rfl)
theorem dX2_init_34 : decode cX2_init 34 = .ok (.sipush 902, 3) := dk_17 3 134 (dk_at dksX2_init_1 10 rfl rfl)
theorem dX2_init_37 : decode cX2_init 37 = .ok (.newarray .int, 2) := dk_188_10 (dk_at dksX2_init_1 13 rfl rfl)
theorem dX2_init_39 : decode cX2_init 39 = .ok (.putfield 33, 3) := dk_181 0 33 (dk_at dksX2_init_1 15 rfl rfl)
theorem dX2_init_42 : decode cX2_init 42 = .ok (.aload_n 0, 1) := dk_42 (dk_at dksX2_init_1 18 rfl rfl)
theorem dX2_init_43 : decode cX2_init 43 = .ok (.sipush 902, 3) := dk_17 3 134 (dk_at dksX2_init_1 19 rfl rfl)
theorem dX2_init_46 : decode cX2_init 46 = .ok (.newarray .int, 2) := dk_188_10 (dk_at dksX2_init_1 22 rfl rfl)
theorem dX2_init_48 : decode cX2_init 48 = .ok (.putfield 37, 3) := dk_181 0 37 (dk_at dksX2_init_2 0 rfl rfl)
theorem dX2_init_51 : decode cX2_init 51 = .ok (.aload_n 0, 1) := dk_42 (dk_at dksX2_init_2 3 rfl rfl)
theorem dX2_init_52 : decode cX2_init 52 = .ok (.bipush (-2), 2) := dk_16 254 (dk_at dksX2_init_2 4 rfl rfl)
theorem dX2_init_54 : decode cX2_init 54 = .ok (.putfield 40, 3) := dk_181 0 40 (dk_at dksX2_init_2 6 rfl rfl)
theorem dX2_init_57 : decode cX2_init 57 = .ok (.aload_n 0, 1) := dk_42 (dk_at dksX2_init_2 9 rfl rfl)
theorem dX2_init_58 : decode cX2_init 58 = .ok (.bipush (-2), 2) := dk_16 254 (dk_at dksX2_init_2 10 rfl rfl)
theorem dX2_init_60 : decode cX2_init 60 = .ok (.putfield 43, 3) := dk_181 0 43 (dk_at dksX2_init_2 12 rfl rfl)
theorem dX2_init_63 : decode cX2_init 63 = .ok (.aload_n 0, 1) := dk_42 (dk_at dksX2_init_2 15 rfl rfl)
theorem dX2_init_64 : decode cX2_init 64 = .ok (.ldc 46, 2) := dk_18 46 (dk_at dksX2_init_2 16 rfl rfl)
theorem dX2_init_66 : decode cX2_init 66 = .ok (.newarray .byte, 2) := dk_188_8 (dk_at dksX2_init_2 18 rfl rfl)
theorem dX2_init_68 : decode cX2_init 68 = .ok (.putfield 47, 3) := dk_181 0 47 (dk_at dksX2_init_2 20 rfl rfl)
theorem dX2_init_71 : decode cX2_init 71 = .ok (.aload_n 0, 1) := dk_42 (dk_at dksX2_init_2 23 rfl rfl)
theorem dX2_init_72 : decode cX2_init 72 = .ok (.sipush 3100, 3) := dk_17 12 28 (dk_at dksX2_init_3 0 rfl rfl)
theorem dX2_init_75 : decode cX2_init 75 = .ok (.newarray .int, 2) := dk_188_10 (dk_at dksX2_init_3 3 rfl rfl)
theorem dX2_init_77 : decode cX2_init 77 = .ok (.putfield 50, 3) := dk_181 0 50 (dk_at dksX2_init_3 5 rfl rfl)
theorem dX2_init_80 : decode cX2_init 80 = .ok (.aload_n 0, 1) := dk_42 (dk_at dksX2_init_3 8 rfl rfl)
theorem dX2_init_81 : decode cX2_init 81 = .ok (.bipush 20, 2) := dk_16 20 (dk_at dksX2_init_3 9 rfl rfl)
theorem dX2_init_83 : decode cX2_init 83 = .ok (.newarray .int, 2) := dk_188_10 (dk_at dksX2_init_3 11 rfl rfl)
theorem dX2_init_85 : decode cX2_init 85 = .ok (.putfield 53, 3) := dk_181 0 53 (dk_at dksX2_init_3 13 rfl rfl)
theorem dX2_init_88 : decode cX2_init 88 = .ok (.aload_n 0, 1) := dk_42 (dk_at dksX2_init_3 16 rfl rfl)
theorem dX2_init_89 : decode cX2_init 89 = .ok (.sipush 1000, 3) := dk_17 3 232 (dk_at dksX2_init_3 17 rfl rfl)
theorem dX2_init_92 : decode cX2_init 92 = .ok (.newarray .int, 2) := dk_188_10 (dk_at dksX2_init_3 20 rfl rfl)
theorem dX2_init_94 : decode cX2_init 94 = .ok (.putfield 56, 3) := dk_181 0 56 (dk_at dksX2_init_4 0 rfl rfl)
theorem dX2_init_97 : decode cX2_init 97 = .ok (.aload_n 0, 1) := dk_42 (dk_at dksX2_init_4 3 rfl rfl)
theorem dX2_init_98 : decode cX2_init 98 = .ok (.bipush 30, 2) := dk_16 30 (dk_at dksX2_init_4 4 rfl rfl)
theorem dX2_init_100 : decode cX2_init 100 = .ok (.newarray .int, 2) := dk_188_10 (dk_at dksX2_init_4 6 rfl rfl)
theorem dX2_init_102 : decode cX2_init 102 = .ok (.putfield 59, 3) := dk_181 0 59 (dk_at dksX2_init_4 8 rfl rfl)
theorem dX2_init_105 : decode cX2_init 105 = .ok (.aload_n 0, 1) := dk_42 (dk_at dksX2_init_4 11 rfl rfl)
theorem dX2_init_106 : decode cX2_init 106 = .ok (.bipush 30, 2) := dk_16 30 (dk_at dksX2_init_4 12 rfl rfl)
theorem dX2_init_108 : decode cX2_init 108 = .ok (.newarray .int, 2) := dk_188_10 (dk_at dksX2_init_4 14 rfl rfl)
theorem dX2_init_110 : decode cX2_init 110 = .ok (.putfield 62, 3) := dk_181 0 62 (dk_at dksX2_init_4 16 rfl rfl)
theorem dX2_init_113 : decode cX2_init 113 = .ok (.aload_n 0, 1) := dk_42 (dk_at dksX2_init_4 19 rfl rfl)
theorem dX2_init_114 : decode cX2_init 114 = .ok (.bipush 50, 2) := dk_16 50 (dk_at dksX2_init_4 20 rfl rfl)
theorem dX2_init_116 : decode cX2_init 116 = .ok (.newarray .int, 2) := dk_188_10 (dk_at dksX2_init_4 22 rfl rfl)
theorem dX2_init_118 : decode cX2_init 118 = .ok (.putfield 65, 3) := dk_181 0 65 (dk_at dksX2_init_5 0 rfl rfl)
theorem dX2_init_121 : decode cX2_init 121 = .ok (.aload_n 0, 1) := dk_42 (dk_at dksX2_init_5 3 rfl rfl)
theorem dX2_init_122 : decode cX2_init 122 = .ok (.bipush 50, 2) := dk_16 50 (dk_at dksX2_init_5 4 rfl rfl)
theorem dX2_init_124 : decode cX2_init 124 = .ok (.newarray .int, 2) := dk_188_10 (dk_at dksX2_init_5 6 rfl rfl)
theorem dX2_init_126 : decode cX2_init 126 = .ok (.putfield 68, 3) := dk_181 0 68 (dk_at dksX2_init_5 8 rfl rfl)
theorem dX2_init_129 : decode cX2_init 129 = .ok (.aload_n 0, 1) := dk_42 (dk_at dksX2_init_5 11 rfl rfl)
theorem dX2_init_130 : decode cX2_init 130 = .ok (.bipush 50, 2) := dk_16 50 (dk_at dksX2_init_5 12 rfl rfl)
theorem dX2_init_132 : decode cX2_init 132 = .ok (.newarray .int, 2) := dk_188_10 (dk_at dksX2_init_5 14 rfl rfl)
theorem dX2_init_134 : decode cX2_init 134 = .ok (.putfield 71, 3) := dk_181 0 71 (dk_at dksX2_init_5 16 rfl rfl)
theorem dX2_init_137 : decode cX2_init 137 = .ok (.aload_n 0, 1) := dk_42 (dk_at dksX2_init_5 19 rfl rfl)
theorem dX2_init_138 : decode cX2_init 138 = .ok (.bipush 50, 2) := dk_16 50 (dk_at dksX2_init_5 20 rfl rfl)
theorem dX2_init_140 : decode cX2_init 140 = .ok (.newarray .int, 2) := dk_188_10 (dk_at dksX2_init_5 22 rfl rfl)
theorem dX2_init_142 : decode cX2_init 142 = .ok (.putfield 74, 3) := dk_181 0 74 (dk_at dksX2_init_6 0 rfl rfl)
theorem dX2_init_145 : decode cX2_init 145 = .ok (.aload_n 0, 1) := dk_42 (dk_at dksX2_init_6 3 rfl rfl)
theorem dX2_init_146 : decode cX2_init 146 = .ok (.sipush 1000, 3) := dk_17 3 232 (dk_at dksX2_init_6 4 rfl rfl)
theorem dX2_init_149 : decode cX2_init 149 = .ok (.newarray .int, 2) := dk_188_10 (dk_at dksX2_init_6 7 rfl rfl)
theorem dX2_init_151 : decode cX2_init 151 = .ok (.putfield 77, 3) := dk_181 0 77 (dk_at dksX2_init_6 9 rfl rfl)
theorem dX2_init_154 : decode cX2_init 154 = .ok (.aload_n 0, 1) := dk_42 (dk_at dksX2_init_6 12 rfl rfl)
theorem dX2_init_155 : decode cX2_init 155 = .ok (.bipush 50, 2) := dk_16 50 (dk_at dksX2_init_6 13 rfl rfl)
theorem dX2_init_157 : decode cX2_init 157 = .ok (.newarray .int, 2) := dk_188_10 (dk_at dksX2_init_6 15 rfl rfl)
theorem dX2_init_159 : decode cX2_init 159 = .ok (.putfield 80, 3) := dk_181 0 80 (dk_at dksX2_init_6 17 rfl rfl)
theorem dX2_init_162 : decode cX2_init 162 = .ok (.aload_n 0, 1) := dk_42 (dk_at dksX2_init_6 20 rfl rfl)
theorem dX2_init_163 : decode cX2_init 163 = .ok (.bipush 50, 2) := dk_16 50 (dk_at dksX2_init_6 21 rfl rfl)
theorem dX2_init_165 : decode cX2_init 165 = .ok (.newarray .boolean, 2) := dk_188_4 (dk_at dksX2_init_7 0 rfl rfl)
theorem dX2_init_167 : decode cX2_init 167 = .ok (.putfield 83, 3) := dk_181 0 83 (dk_at dksX2_init_7 2 rfl rfl)
theorem dX2_init_170 : decode cX2_init 170 = .ok (.aload_n 0, 1) := dk_42 (dk_at dksX2_init_7 5 rfl rfl)
theorem dX2_init_171 : decode cX2_init 171 = .ok (.bipush 50, 2) := dk_16 50 (dk_at dksX2_init_7 6 rfl rfl)
theorem dX2_init_173 : decode cX2_init 173 = .ok (.newarray .boolean, 2) := dk_188_4 (dk_at dksX2_init_7 8 rfl rfl)
theorem dX2_init_175 : decode cX2_init 175 = .ok (.putfield 87, 3) := dk_181 0 87 (dk_at dksX2_init_7 10 rfl rfl)
theorem dX2_init_178 : decode cX2_init 178 = .ok (.aload_n 0, 1) := dk_42 (dk_at dksX2_init_7 13 rfl rfl)
theorem dX2_init_179 : decode cX2_init 179 = .ok (.bipush 50, 2) := dk_16 50 (dk_at dksX2_init_7 14 rfl rfl)
theorem dX2_init_181 : decode cX2_init 181 = .ok (.newarray .int, 2) := dk_188_10 (dk_at dksX2_init_7 16 rfl rfl)
theorem dX2_init_183 : decode cX2_init 183 = .ok (.putfield 90, 3) := dk_181 0 90 (dk_at dksX2_init_7 18 rfl rfl)
theorem dX2_init_186 : decode cX2_init 186 = .ok (.aload_n 0, 1) := dk_42 (dk_at dksX2_init_7 21 rfl rfl)
theorem dX2_init_187 : decode cX2_init 187 = .ok (.bipush 50, 2) := dk_16 50 (dk_at dksX2_init_7 22 rfl rfl)
theorem dX2_init_189 : decode cX2_init 189 = .ok (.newarray .int, 2) := dk_188_10 (dk_at dksX2_init_8 0 rfl rfl)
theorem dX2_init_191 : decode cX2_init 191 = .ok (.putfield 93, 3) := dk_181 0 93 (dk_at dksX2_init_8 2 rfl rfl)
theorem dX2_init_194 : decode cX2_init 194 = .ok (.aload_n 0, 1) := dk_42 (dk_at dksX2_init_8 5 rfl rfl)
theorem dX2_init_195 : decode cX2_init 195 = .ok (.bipush 50, 2) := dk_16 50 (dk_at dksX2_init_8 6 rfl rfl)
theorem dX2_init_197 : decode cX2_init 197 = .ok (.newarray .int, 2) := dk_188_10 (dk_at dksX2_init_8 8 rfl rfl)
theorem dX2_init_199 : decode cX2_init 199 = .ok (.putfield 96, 3) := dk_181 0 96 (dk_at dksX2_init_8 10 rfl rfl)
theorem dX2_init_202 : decode cX2_init 202 = .ok (.aload_n 0, 1) := dk_42 (dk_at dksX2_init_8 13 rfl rfl)
theorem dX2_init_203 : decode cX2_init 203 = .ok (.sipush 1000, 3) := dk_17 3 232 (dk_at dksX2_init_8 14 rfl rfl)
theorem dX2_init_206 : decode cX2_init 206 = .ok (.newarray .int, 2) := dk_188_10 (dk_at dksX2_init_8 17 rfl rfl)
theorem dX2_init_208 : decode cX2_init 208 = .ok (.putfield 99, 3) := dk_181 0 99 (dk_at dksX2_init_8 19 rfl rfl)
theorem dX2_init_211 : decode cX2_init 211 = .ok (.aload_n 0, 1) := dk_42 (dk_at dksX2_init_8 22 rfl rfl)
theorem dX2_init_212 : decode cX2_init 212 = .ok (.bipush 50, 2) := dk_16 50 (dk_at dksX2_init_9 0 rfl rfl)
theorem dX2_init_214 : decode cX2_init 214 = .ok (.newarray .boolean, 2) := dk_188_4 (dk_at dksX2_init_9 2 rfl rfl)
theorem dX2_init_216 : decode cX2_init 216 = .ok (.putfield 102, 3) := dk_181 0 102 (dk_at dksX2_init_9 4 rfl rfl)
theorem dX2_init_219 : decode cX2_init 219 = .ok (.aload_n 0, 1) := dk_42 (dk_at dksX2_init_9 7 rfl rfl)
theorem dX2_init_220 : decode cX2_init 220 = .ok (.bipush 70, 2) := dk_16 70 (dk_at dksX2_init_9 8 rfl rfl)
theorem dX2_init_222 : decode cX2_init 222 = .ok (.newarray .int, 2) := dk_188_10 (dk_at dksX2_init_9 10 rfl rfl)
theorem dX2_init_224 : decode cX2_init 224 = .ok (.putfield 105, 3) := dk_181 0 105 (dk_at dksX2_init_9 12 rfl rfl)
theorem dX2_init_227 : decode cX2_init 227 = .ok (.aload_n 0, 1) := dk_42 (dk_at dksX2_init_9 15 rfl rfl)
theorem dX2_init_228 : decode cX2_init 228 = .ok (.bipush 70, 2) := dk_16 70 (dk_at dksX2_init_9 16 rfl rfl)
theorem dX2_init_230 : decode cX2_init 230 = .ok (.newarray .int, 2) := dk_188_10 (dk_at dksX2_init_9 18 rfl rfl)
theorem dX2_init_232 : decode cX2_init 232 = .ok (.putfield 108, 3) := dk_181 0 108 (dk_at dksX2_init_9 20 rfl rfl)
theorem dX2_init_235 : decode cX2_init 235 = .ok (.aload_n 0, 1) := dk_42 (dk_at dksX2_init_9 23 rfl rfl)
theorem dX2_init_236 : decode cX2_init 236 = .ok (.sipush 1136, 3) := dk_17 4 112 (dk_at dksX2_init_10 0 rfl rfl)
theorem dX2_init_239 : decode cX2_init 239 = .ok (.newarray .int, 2) := dk_188_10 (dk_at dksX2_init_10 3 rfl rfl)
theorem dX2_init_241 : decode cX2_init 241 = .ok (.putfield 111, 3) := dk_181 0 111 (dk_at dksX2_init_10 5 rfl rfl)
theorem dX2_init_244 : decode cX2_init 244 = .ok (.aload_n 0, 1) := dk_42 (dk_at dksX2_init_10 8 rfl rfl)
theorem dX2_init_245 : decode cX2_init 245 = .ok (.sipush 1136, 3) := dk_17 4 112 (dk_at dksX2_init_10 9 rfl rfl)
theorem dX2_init_248 : decode cX2_init 248 = .ok (.newarray .int, 2) := dk_188_10 (dk_at dksX2_init_10 12 rfl rfl)
theorem dX2_init_250 : decode cX2_init 250 = .ok (.putfield 114, 3) := dk_181 0 114 (dk_at dksX2_init_10 14 rfl rfl)
theorem dX2_init_253 : decode cX2_init 253 = .ok (.aload_n 0, 1) := dk_42 (dk_at dksX2_init_10 17 rfl rfl)
theorem dX2_init_254 : decode cX2_init 254 = .ok (.sipush 420, 3) := dk_17 1 164 (dk_at dksX2_init_10 18 rfl rfl)
theorem dX2_init_257 : decode cX2_init 257 = .ok (.newarray .int, 2) := dk_188_10 (dk_at dksX2_init_10 21 rfl rfl)
theorem dX2_init_259 : decode cX2_init 259 = .ok (.putfield 117, 3) := dk_181 0 117 (dk_at dksX2_init_11 0 rfl rfl)
theorem dX2_init_262 : decode cX2_init 262 = .ok (.aload_n 0, 1) := dk_42 (dk_at dksX2_init_11 3 rfl rfl)
theorem dX2_init_263 : decode cX2_init 263 = .ok (.sipush 420, 3) := dk_17 1 164 (dk_at dksX2_init_11 4 rfl rfl)
theorem dX2_init_266 : decode cX2_init 266 = .ok (.newarray .int, 2) := dk_188_10 (dk_at dksX2_init_11 7 rfl rfl)
theorem dX2_init_268 : decode cX2_init 268 = .ok (.putfield 120, 3) := dk_181 0 120 (dk_at dksX2_init_11 9 rfl rfl)
theorem dX2_init_271 : decode cX2_init 271 = .ok (.aload_n 0, 1) := dk_42 (dk_at dksX2_init_11 12 rfl rfl)
theorem dX2_init_272 : decode cX2_init 272 = .ok (.bipush 70, 2) := dk_16 70 (dk_at dksX2_init_11 13 rfl rfl)
theorem dX2_init_274 : decode cX2_init 274 = .ok (.newarray .int, 2) := dk_188_10 (dk_at dksX2_init_11 15 rfl rfl)
theorem dX2_init_276 : decode cX2_init 276 = .ok (.putfield 123, 3) := dk_181 0 123 (dk_at dksX2_init_11 17 rfl rfl)
theorem dX2_init_279 : decode cX2_init 279 = .ok (.aload_n 0, 1) := dk_42 (dk_at dksX2_init_11 20 rfl rfl)
theorem dX2_init_280 : decode cX2_init 280 = .ok (.bipush 20, 2) := dk_16 20 (dk_at dksX2_init_11 21 rfl rfl)
theorem dX2_init_282 : decode cX2_init 282 = .ok (.newarray .int, 2) := dk_188_10 (dk_at dksX2_init_12 0 rfl rfl)
theorem dX2_init_284 : decode cX2_init 284 = .ok (.putfield 126, 3) := dk_181 0 126 (dk_at dksX2_init_12 2 rfl rfl)
theorem dX2_init_287 : decode cX2_init 287 = .ok (.aload_n 0, 1) := dk_42 (dk_at dksX2_init_12 5 rfl rfl)
theorem dX2_init_288 : decode cX2_init 288 = .ok (.bipush 20, 2) := dk_16 20 (dk_at dksX2_init_12 6 rfl rfl)
theorem dX2_init_290 : decode cX2_init 290 = .ok (.newarray .int, 2) := dk_188_10 (dk_at dksX2_init_12 8 rfl rfl)
theorem dX2_init_292 : decode cX2_init 292 = .ok (.putfield 129, 3) := dk_181 0 129 (dk_at dksX2_init_12 10 rfl rfl)
theorem dX2_init_295 : decode cX2_init 295 = .ok (.aload_n 0, 1) := dk_42 (dk_at dksX2_init_12 13 rfl rfl)
theorem dX2_init_296 : decode cX2_init 296 = .ok (.bipush 20, 2) := dk_16 20 (dk_at dksX2_init_12 14 rfl rfl)
theorem dX2_init_298 : decode cX2_init 298 = .ok (.newarray .int, 2) := dk_188_10 (dk_at dksX2_init_12 16 rfl rfl)
theorem dX2_init_300 : decode cX2_init 300 = .ok (.putfield 132, 3) := dk_181 0 132 (dk_at dksX2_init_12 18 rfl rfl)
theorem dX2_init_303 : decode cX2_init 303 = .ok (.aload_n 0, 1) := dk_42 (dk_at dksX2_init_12 21 rfl rfl)
theorem dX2_init_304 : decode cX2_init 304 = .ok (.bipush 30, 2) := dk_16 30 (dk_at dksX2_init_12 22 rfl rfl)
theorem dX2_init_306 : decode cX2_init 306 = .ok (.newarray .int, 2) := dk_188_10 (dk_at dksX2_init_13 0 rfl rfl)
theorem dX2_init_308 : decode cX2_init 308 = .ok (.putfield 135, 3) := dk_181 0 135 (dk_at dksX2_init_13 2 rfl rfl)
theorem dX2_init_311 : decode cX2_init 311 = .ok (.aload_n 0, 1) := dk_42 (dk_at dksX2_init_13 5 rfl rfl)
theorem dX2_init_312 : decode cX2_init 312 = .ok (.bipush 30, 2) := dk_16 30 (dk_at dksX2_init_13 6 rfl rfl)
theorem dX2_init_314 : decode cX2_init 314 = .ok (.newarray .int, 2) := dk_188_10 (dk_at dksX2_init_13 8 rfl rfl)
theorem dX2_init_316 : decode cX2_init 316 = .ok (.putfield 138, 3) := dk_181 0 138 (dk_at dksX2_init_13 10 rfl rfl)
theorem dX2_init_319 : decode cX2_init 319 = .ok (.aload_n 0, 1) := dk_42 (dk_at dksX2_init_13 13 rfl rfl)
theorem dX2_init_320 : decode cX2_init 320 = .ok (.sipush 650, 3) := dk_17 2 138 (dk_at dksX2_init_13 14 rfl rfl)
theorem dX2_init_323 : decode cX2_init 323 = .ok (.newarray .int, 2) := dk_188_10 (dk_at dksX2_init_13 17 rfl rfl)
theorem dX2_init_325 : decode cX2_init 325 = .ok (.putfield 141, 3) := dk_181 0 141 (dk_at dksX2_init_13 19 rfl rfl)
theorem dX2_init_328 : decode cX2_init 328 = .ok (.aload_n 0, 1) := dk_42 (dk_at dksX2_init_13 22 rfl rfl)
theorem dX2_init_329 : decode cX2_init 329 = .ok (.bipush 50, 2) := dk_16 50 (dk_at dksX2_init_14 0 rfl rfl)
theorem dX2_init_331 : decode cX2_init 331 = .ok (.newarray .int, 2) := dk_188_10 (dk_at dksX2_init_14 2 rfl rfl)
theorem dX2_init_333 : decode cX2_init 333 = .ok (.putfield 144, 3) := dk_181 0 144 (dk_at dksX2_init_14 4 rfl rfl)
theorem dX2_init_336 : decode cX2_init 336 = .ok (.aload_n 0, 1) := dk_42 (dk_at dksX2_init_14 7 rfl rfl)
theorem dX2_init_337 : decode cX2_init 337 = .ok (.bipush 50, 2) := dk_16 50 (dk_at dksX2_init_14 8 rfl rfl)
theorem dX2_init_339 : decode cX2_init 339 = .ok (.newarray .int, 2) := dk_188_10 (dk_at dksX2_init_14 10 rfl rfl)
theorem dX2_init_341 : decode cX2_init 341 = .ok (.putfield 147, 3) := dk_181 0 147 (dk_at dksX2_init_14 12 rfl rfl)
theorem dX2_init_344 : decode cX2_init 344 = .ok (.aload_n 0, 1) := dk_42 (dk_at dksX2_init_14 15 rfl rfl)
theorem dX2_init_345 : decode cX2_init 345 = .ok (.sipush 250, 3) := dk_17 0 250 (dk_at dksX2_init_14 16 rfl rfl)
theorem dX2_init_348 : decode cX2_init 348 = .ok (.newarray .int, 2) := dk_188_10 (dk_at dksX2_init_14 19 rfl rfl)
theorem dX2_init_350 : decode cX2_init 350 = .ok (.putfield 150, 3) := dk_181 0 150 (dk_at dksX2_init_14 21 rfl rfl)
theorem dX2_init_353 : decode cX2_init 353 = .ok (.aload_n 0, 1) := dk_42 (dk_at dksX2_init_15 0 rfl rfl)
theorem dX2_init_354 : decode cX2_init 354 = .ok (.bipush 50, 2) := dk_16 50 (dk_at dksX2_init_15 1 rfl rfl)
theorem dX2_init_356 : decode cX2_init 356 = .ok (.newarray .int, 2) := dk_188_10 (dk_at dksX2_init_15 3 rfl rfl)
theorem dX2_init_358 : decode cX2_init 358 = .ok (.putfield 153, 3) := dk_181 0 153 (dk_at dksX2_init_15 5 rfl rfl)
theorem dX2_init_361 : decode cX2_init 361 = .ok (.aload_n 0, 1) := dk_42 (dk_at dksX2_init_15 8 rfl rfl)
theorem dX2_init_362 : decode cX2_init 362 = .ok (.bipush 50, 2) := dk_16 50 (dk_at dksX2_init_15 9 rfl rfl)
theorem dX2_init_364 : decode cX2_init 364 = .ok (.newarray .int, 2) := dk_188_10 (dk_at dksX2_init_15 11 rfl rfl)
theorem dX2_init_366 : decode cX2_init 366 = .ok (.putfield 156, 3) := dk_181 0 156 (dk_at dksX2_init_15 13 rfl rfl)
theorem dX2_init_369 : decode cX2_init 369 = .ok (.aload_n 0, 1) := dk_42 (dk_at dksX2_init_15 16 rfl rfl)
theorem dX2_init_370 : decode cX2_init 370 = .ok (.bipush 50, 2) := dk_16 50 (dk_at dksX2_init_15 17 rfl rfl)
theorem dX2_init_372 : decode cX2_init 372 = .ok (.newarray .int, 2) := dk_188_10 (dk_at dksX2_init_15 19 rfl rfl)
theorem dX2_init_374 : decode cX2_init 374 = .ok (.putfield 159, 3) := dk_181 0 159 (dk_at dksX2_init_15 21 rfl rfl)
theorem dX2_init_377 : decode cX2_init 377 = .ok (.aload_n 0, 1) := dk_42 (dk_at dksX2_init_16 0 rfl rfl)
theorem dX2_init_378 : decode cX2_init 378 = .ok (.bipush 50, 2) := dk_16 50 (dk_at dksX2_init_16 1 rfl rfl)
theorem dX2_init_380 : decode cX2_init 380 = .ok (.newarray .int, 2) := dk_188_10 (dk_at dksX2_init_16 3 rfl rfl)
theorem dX2_init_382 : decode cX2_init 382 = .ok (.putfield 162, 3) := dk_181 0 162 (dk_at dksX2_init_16 5 rfl rfl)
theorem dX2_init_385 : decode cX2_init 385 = .ok (.aload_n 0, 1) := dk_42 (dk_at dksX2_init_16 8 rfl rfl)
theorem dX2_init_386 : decode cX2_init 386 = .ok (.bipush 50, 2) := dk_16 50 (dk_at dksX2_init_16 9 rfl rfl)
theorem dX2_init_388 : decode cX2_init 388 = .ok (.newarray .int, 2) := dk_188_10 (dk_at dksX2_init_16 11 rfl rfl)
theorem dX2_init_390 : decode cX2_init 390 = .ok (.putfield 165, 3) := dk_181 0 165 (dk_at dksX2_init_16 13 rfl rfl)
theorem dX2_init_393 : decode cX2_init 393 = .ok (.aload_n 0, 1) := dk_42 (dk_at dksX2_init_16 16 rfl rfl)
theorem dX2_init_394 : decode cX2_init 394 = .ok (.bipush 50, 2) := dk_16 50 (dk_at dksX2_init_16 17 rfl rfl)
theorem dX2_init_396 : decode cX2_init 396 = .ok (.newarray .boolean, 2) := dk_188_4 (dk_at dksX2_init_16 19 rfl rfl)
theorem dX2_init_398 : decode cX2_init 398 = .ok (.putfield 168, 3) := dk_181 0 168 (dk_at dksX2_init_16 21 rfl rfl)
theorem dX2_init_401 : decode cX2_init 401 = .ok (.aload_n 0, 1) := dk_42 (dk_at dksX2_init_17 0 rfl rfl)
theorem dX2_init_402 : decode cX2_init 402 = .ok (.bipush 50, 2) := dk_16 50 (dk_at dksX2_init_17 1 rfl rfl)
theorem dX2_init_404 : decode cX2_init 404 = .ok (.newarray .boolean, 2) := dk_188_4 (dk_at dksX2_init_17 3 rfl rfl)
theorem dX2_init_406 : decode cX2_init 406 = .ok (.putfield 171, 3) := dk_181 0 171 (dk_at dksX2_init_17 5 rfl rfl)
theorem dX2_init_409 : decode cX2_init 409 = .ok (.aload_n 0, 1) := dk_42 (dk_at dksX2_init_17 8 rfl rfl)
theorem dX2_init_410 : decode cX2_init 410 = .ok (.bipush 50, 2) := dk_16 50 (dk_at dksX2_init_17 9 rfl rfl)
theorem dX2_init_412 : decode cX2_init 412 = .ok (.newarray .int, 2) := dk_188_10 (dk_at dksX2_init_17 11 rfl rfl)
theorem dX2_init_414 : decode cX2_init 414 = .ok (.putfield 174, 3) := dk_181 0 174 (dk_at dksX2_init_17 13 rfl rfl)
theorem dX2_init_417 : decode cX2_init 417 = .ok (.aload_n 0, 1) := dk_42 (dk_at dksX2_init_17 16 rfl rfl)
theorem dX2_init_418 : decode cX2_init 418 = .ok (.bipush 50, 2) := dk_16 50 (dk_at dksX2_init_17 17 rfl rfl)
theorem dX2_init_420 : decode cX2_init 420 = .ok (.newarray .int, 2) := dk_188_10 (dk_at dksX2_init_17 19 rfl rfl)
theorem dX2_init_422 : decode cX2_init 422 = .ok (.putfield 177, 3) := dk_181 0 177 (dk_at dksX2_init_17 21 rfl rfl)
theorem dX2_init_425 : decode cX2_init 425 = .ok (.aload_n 0, 1) := dk_42 (dk_at dksX2_init_18 0 rfl rfl)
theorem dX2_init_426 : decode cX2_init 426 = .ok (.ldc 180, 2) := dk_18 180 (dk_at dksX2_init_18 1 rfl rfl)
theorem dX2_init_428 : decode cX2_init 428 = .ok (.newarray .int, 2) := dk_188_10 (dk_at dksX2_init_18 3 rfl rfl)
theorem dX2_init_430 : decode cX2_init 430 = .ok (.putfield 181, 3) := dk_181 0 181 (dk_at dksX2_init_18 5 rfl rfl)
theorem dX2_init_433 : decode cX2_init 433 = .ok (.aload_n 0, 1) := dk_42 (dk_at dksX2_init_18 8 rfl rfl)
theorem dX2_init_434 : decode cX2_init 434 = .ok (.ldc 180, 2) := dk_18 180 (dk_at dksX2_init_18 9 rfl rfl)
theorem dX2_init_436 : decode cX2_init 436 = .ok (.newarray .int, 2) := dk_188_10 (dk_at dksX2_init_18 11 rfl rfl)
theorem dX2_init_438 : decode cX2_init 438 = .ok (.putfield 184, 3) := dk_181 0 184 (dk_at dksX2_init_18 13 rfl rfl)
theorem dX2_init_441 : decode cX2_init 441 = .ok (.aload_n 0, 1) := dk_42 (dk_at dksX2_init_18 16 rfl rfl)
theorem dX2_init_442 : decode cX2_init 442 = .ok (.ldc 180, 2) := dk_18 180 (dk_at dksX2_init_18 17 rfl rfl)
theorem dX2_init_444 : decode cX2_init 444 = .ok (.newarray .int, 2) := dk_188_10 (dk_at dksX2_init_18 19 rfl rfl)
theorem dX2_init_446 : decode cX2_init 446 = .ok (.putfield 187, 3) := dk_181 0 187 (dk_at dksX2_init_18 21 rfl rfl)
theorem dX2_init_449 : decode cX2_init 449 = .ok (.aload_n 0, 1) := dk_42 (dk_at dksX2_init_19 0 rfl rfl)
theorem dX2_init_450 : decode cX2_init 450 = .ok (.ldc 180, 2) := dk_18 180 (dk_at dksX2_init_19 1 rfl rfl)
theorem dX2_init_452 : decode cX2_init 452 = .ok (.newarray .int, 2) := dk_188_10 (dk_at dksX2_init_19 3 rfl rfl)
theorem dX2_init_454 : decode cX2_init 454 = .ok (.putfield 190, 3) := dk_181 0 190 (dk_at dksX2_init_19 5 rfl rfl)
theorem dX2_init_457 : decode cX2_init 457 = .ok (.aload_n 0, 1) := dk_42 (dk_at dksX2_init_19 8 rfl rfl)
theorem dX2_init_458 : decode cX2_init 458 = .ok (.ldc 180, 2) := dk_18 180 (dk_at dksX2_init_19 9 rfl rfl)
theorem dX2_init_460 : decode cX2_init 460 = .ok (.newarray .int, 2) := dk_188_10 (dk_at dksX2_init_19 11 rfl rfl)
theorem dX2_init_462 : decode cX2_init 462 = .ok (.putfield 193, 3) := dk_181 0 193 (dk_at dksX2_init_19 13 rfl rfl)
theorem dX2_init_465 : decode cX2_init 465 = .ok (.aload_n 0, 1) := dk_42 (dk_at dksX2_init_19 16 rfl rfl)
theorem dX2_init_466 : decode cX2_init 466 = .ok (.ldc 180, 2) := dk_18 180 (dk_at dksX2_init_19 17 rfl rfl)
theorem dX2_init_468 : decode cX2_init 468 = .ok (.newarray .int, 2) := dk_188_10 (dk_at dksX2_init_19 19 rfl rfl)
theorem dX2_init_470 : decode cX2_init 470 = .ok (.putfield 196, 3) := dk_181 0 196 (dk_at dksX2_init_19 21 rfl rfl)
theorem dX2_init_473 : decode cX2_init 473 = .ok (.aload_n 0, 1) := dk_42 (dk_at dksX2_init_20 0 rfl rfl)
theorem dX2_init_474 : decode cX2_init 474 = .ok (.ldc 180, 2) := dk_18 180 (dk_at dksX2_init_20 1 rfl rfl)
theorem dX2_init_476 : decode cX2_init 476 = .ok (.newarray .int, 2) := dk_188_10 (dk_at dksX2_init_20 3 rfl rfl)
theorem dX2_init_478 : decode cX2_init 478 = .ok (.putfield 199, 3) := dk_181 0 199 (dk_at dksX2_init_20 5 rfl rfl)
theorem dX2_init_481 : decode cX2_init 481 = .ok (.aload_n 0, 1) := dk_42 (dk_at dksX2_init_20 8 rfl rfl)
theorem dX2_init_482 : decode cX2_init 482 = .ok (.ldc 180, 2) := dk_18 180 (dk_at dksX2_init_20 9 rfl rfl)
theorem dX2_init_484 : decode cX2_init 484 = .ok (.newarray .int, 2) := dk_188_10 (dk_at dksX2_init_20 11 rfl rfl)
theorem dX2_init_486 : decode cX2_init 486 = .ok (.putfield 202, 3) := dk_181 0 202 (dk_at dksX2_init_20 13 rfl rfl)
theorem dX2_init_489 : decode cX2_init 489 = .ok (.aload_n 0, 1) := dk_42 (dk_at dksX2_init_20 16 rfl rfl)
theorem dX2_init_490 : decode cX2_init 490 = .ok (.ldc 205, 2) := dk_18 205 (dk_at dksX2_init_20 17 rfl rfl)
theorem dX2_init_492 : decode cX2_init 492 = .ok (.newarray .int, 2) := dk_188_10 (dk_at dksX2_init_20 19 rfl rfl)
theorem dX2_init_494 : decode cX2_init 494 = .ok (.putfield 206, 3) := dk_181 0 206 (dk_at dksX2_init_20 21 rfl rfl)
theorem dX2_init_497 : decode cX2_init 497 = .ok (.aload_n 0, 1) := dk_42 (dk_at dksX2_init_21 0 rfl rfl)
theorem dX2_init_498 : decode cX2_init 498 = .ok (.ldc 209, 2) := dk_18 209 (dk_at dksX2_init_21 1 rfl rfl)
theorem dX2_init_500 : decode cX2_init 500 = .ok (.newarray .int, 2) := dk_188_10 (dk_at dksX2_init_21 3 rfl rfl)
theorem dX2_init_502 : decode cX2_init 502 = .ok (.putfield 210, 3) := dk_181 0 210 (dk_at dksX2_init_21 5 rfl rfl)
theorem dX2_init_505 : decode cX2_init 505 = .ok (.aload_n 0, 1) := dk_42 (dk_at dksX2_init_21 8 rfl rfl)
theorem dX2_init_506 : decode cX2_init 506 = .ok (.sipush 20000, 3) := dk_17 78 32 (dk_at dksX2_init_21 9 rfl rfl)
theorem dX2_init_509 : decode cX2_init 509 = .ok (.newarray .int, 2) := dk_188_10 (dk_at dksX2_init_21 12 rfl rfl)
theorem dX2_init_511 : decode cX2_init 511 = .ok (.putfield 213, 3) := dk_181 0 213 (dk_at dksX2_init_21 14 rfl rfl)
theorem dX2_init_514 : decode cX2_init 514 = .ok (.aload_n 0, 1) := dk_42 (dk_at dksX2_init_21 17 rfl rfl)
theorem dX2_init_515 : decode cX2_init 515 = .ok (.bipush 33, 2) := dk_16 33 (dk_at dksX2_init_21 18 rfl rfl)
theorem dX2_init_517 : decode cX2_init 517 = .ok (.newarray .int, 2) := dk_188_10 (dk_at dksX2_init_21 20 rfl rfl)
theorem dX2_init_519 : decode cX2_init 519 = .ok (.putfield 216, 3) := dk_181 0 216 (dk_at dksX2_init_22 0 rfl rfl)
theorem dX2_init_522 : decode cX2_init 522 = .ok (.aload_n 0, 1) := dk_42 (dk_at dksX2_init_22 3 rfl rfl)
theorem dX2_init_523 : decode cX2_init 523 = .ok (.bipush 33, 2) := dk_16 33 (dk_at dksX2_init_22 4 rfl rfl)
theorem dX2_init_525 : decode cX2_init 525 = .ok (.newarray .int, 2) := dk_188_10 (dk_at dksX2_init_22 6 rfl rfl)
theorem dX2_init_527 : decode cX2_init 527 = .ok (.putfield 219, 3) := dk_181 0 219 (dk_at dksX2_init_22 8 rfl rfl)
theorem dX2_init_530 : decode cX2_init 530 = .ok (.aload_n 0, 1) := dk_42 (dk_at dksX2_init_22 11 rfl rfl)
theorem dX2_init_531 : decode cX2_init 531 = .ok (.ldc 222, 2) := dk_18 222 (dk_at dksX2_init_22 12 rfl rfl)
theorem dX2_init_533 : decode cX2_init 533 = .ok (.newarray .byte, 2) := dk_188_8 (dk_at dksX2_init_22 14 rfl rfl)
theorem dX2_init_535 : decode cX2_init 535 = .ok (.putfield 223, 3) := dk_181 0 223 (dk_at dksX2_init_22 16 rfl rfl)
theorem dX2_init_538 : decode cX2_init 538 = .ok (.aload_n 0, 1) := dk_42 (dk_at dksX2_init_22 19 rfl rfl)
theorem dX2_init_539 : decode cX2_init 539 = .ok (.sipush 21780, 3) := dk_17 85 20 (dk_at dksX2_init_22 20 rfl rfl)
theorem dX2_init_542 : decode cX2_init 542 = .ok (.newarray .byte, 2) := dk_188_8 (dk_at dksX2_init_23 0 rfl rfl)
theorem dX2_init_544 : decode cX2_init 544 = .ok (.putfield 226, 3) := dk_181 0 226 (dk_at dksX2_init_23 2 rfl rfl)
theorem dX2_init_547 : decode cX2_init 547 = .ok (.aload_n 0, 1) := dk_42 (dk_at dksX2_init_23 5 rfl rfl)
theorem dX2_init_548 : decode cX2_init 548 = .ok (.sipush 442, 3) := dk_17 1 186 (dk_at dksX2_init_23 6 rfl rfl)
theorem dX2_init_551 : decode cX2_init 551 = .ok (.newarray .byte, 2) := dk_188_8 (dk_at dksX2_init_23 9 rfl rfl)
theorem dX2_init_553 : decode cX2_init 553 = .ok (.putfield 229, 3) := dk_181 0 229 (dk_at dksX2_init_23 11 rfl rfl)
theorem dX2_init_556 : decode cX2_init 556 = .ok (.aload_n 0, 1) := dk_42 (dk_at dksX2_init_23 14 rfl rfl)
theorem dX2_init_557 : decode cX2_init 557 = .ok (.bipush 70, 2) := dk_16 70 (dk_at dksX2_init_23 15 rfl rfl)
theorem dX2_init_559 : decode cX2_init 559 = .ok (.newarray .int, 2) := dk_188_10 (dk_at dksX2_init_23 17 rfl rfl)
theorem dX2_init_561 : decode cX2_init 561 = .ok (.putfield 232, 3) := dk_181 0 232 (dk_at dksX2_init_23 19 rfl rfl)
theorem dX2_init_564 : decode cX2_init 564 = .ok (.aload_n 0, 1) := dk_42 (dk_at dksX2_init_23 22 rfl rfl)
theorem dX2_init_565 : decode cX2_init 565 = .ok (.bipush 70, 2) := dk_16 70 (dk_at dksX2_init_24 0 rfl rfl)
theorem dX2_init_567 : decode cX2_init 567 = .ok (.newarray .int, 2) := dk_188_10 (dk_at dksX2_init_24 2 rfl rfl)
theorem dX2_init_569 : decode cX2_init 569 = .ok (.putfield 235, 3) := dk_181 0 235 (dk_at dksX2_init_24 4 rfl rfl)
theorem dX2_init_572 : decode cX2_init 572 = .ok (.aload_n 0, 1) := dk_42 (dk_at dksX2_init_24 7 rfl rfl)
theorem dX2_init_573 : decode cX2_init 573 = .ok (.sipush 420, 3) := dk_17 1 164 (dk_at dksX2_init_24 8 rfl rfl)
theorem dX2_init_576 : decode cX2_init 576 = .ok (.newarray .int, 2) := dk_188_10 (dk_at dksX2_init_24 11 rfl rfl)
theorem dX2_init_578 : decode cX2_init 578 = .ok (.putfield 238, 3) := dk_181 0 238 (dk_at dksX2_init_24 13 rfl rfl)
theorem dX2_init_581 : decode cX2_init 581 = .ok (.aload_n 0, 1) := dk_42 (dk_at dksX2_init_24 16 rfl rfl)
theorem dX2_init_582 : decode cX2_init 582 = .ok (.sipush 420, 3) := dk_17 1 164 (dk_at dksX2_init_24 17 rfl rfl)
theorem dX2_init_585 : decode cX2_init 585 = .ok (.newarray .int, 2) := dk_188_10 (dk_at dksX2_init_24 20 rfl rfl)
theorem dX2_init_587 : decode cX2_init 587 = .ok (.putfield 241, 3) := dk_181 0 241 (dk_at dksX2_init_25 0 rfl rfl)
theorem dX2_init_590 : decode cX2_init 590 = .ok (.aload_n 0, 1) := dk_42 (dk_at dksX2_init_25 3 rfl rfl)
theorem dX2_init_591 : decode cX2_init 591 = .ok (.sipush 420, 3) := dk_17 1 164 (dk_at dksX2_init_25 4 rfl rfl)
theorem dX2_init_594 : decode cX2_init 594 = .ok (.newarray .int, 2) := dk_188_10 (dk_at dksX2_init_25 7 rfl rfl)
theorem dX2_init_596 : decode cX2_init 596 = .ok (.putfield 244, 3) := dk_181 0 244 (dk_at dksX2_init_25 9 rfl rfl)
theorem dX2_init_599 : decode cX2_init 599 = .ok (.aload_n 0, 1) := dk_42 (dk_at dksX2_init_25 12 rfl rfl)
theorem dX2_init_600 : decode cX2_init 600 = .ok (.bipush 70, 2) := dk_16 70 (dk_at dksX2_init_25 13 rfl rfl)
theorem dX2_init_602 : decode cX2_init 602 = .ok (.newarray .int, 2) := dk_188_10 (dk_at dksX2_init_25 15 rfl rfl)
theorem dX2_init_604 : decode cX2_init 604 = .ok (.putfield 247, 3) := dk_181 0 247 (dk_at dksX2_init_25 17 rfl rfl)
theorem dX2_init_607 : decode cX2_init 607 = .ok (.aload_n 0, 1) := dk_42 (dk_at dksX2_init_25 20 rfl rfl)
theorem dX2_init_608 : decode cX2_init 608 = .ok (.sipush 200, 3) := dk_17 0 200 (dk_at dksX2_init_25 21 rfl rfl)
theorem dX2_init_611 : decode cX2_init 611 = .ok (.newarray .int, 2) := dk_188_10 (dk_at dksX2_init_26 0 rfl rfl)
theorem dX2_init_613 : decode cX2_init 613 = .ok (.putfield 250, 3) := dk_181 0 250 (dk_at dksX2_init_26 2 rfl rfl)
theorem dX2_init_616 : decode cX2_init 616 = .ok (.aload_n 0, 1) := dk_42 (dk_at dksX2_init_26 5 rfl rfl)
theorem dX2_init_617 : decode cX2_init 617 = .ok (.sipush 20000, 3) := dk_17 78 32 (dk_at dksX2_init_26 6 rfl rfl)
theorem dX2_init_620 : decode cX2_init 620 = .ok (.newarray .byte, 2) := dk_188_8 (dk_at dksX2_init_26 9 rfl rfl)
theorem dX2_init_622 : decode cX2_init 622 = .ok (.putfield 253, 3) := dk_181 0 253 (dk_at dksX2_init_26 11 rfl rfl)
theorem dX2_init_625 : decode cX2_init 625 = .ok (.aload_n 0, 1) := dk_42 (dk_at dksX2_init_26 14 rfl rfl)
theorem dX2_init_626 : decode cX2_init 626 = .ok (.sipush 4000, 3) := dk_17 15 160 (dk_at dksX2_init_26 15 rfl rfl)
theorem dX2_init_629 : decode cX2_init 629 = .ok (.newarray .int, 2) := dk_188_10 (dk_at dksX2_init_26 18 rfl rfl)
theorem dX2_init_631 : decode cX2_init 631 = .ok (.putfield 256, 3) := dk_181 1 0 (dk_at dksX2_init_26 20 rfl rfl)
theorem dX2_init_634 : decode cX2_init 634 = .ok (.aload_n 0, 1) := dk_42 (dk_at dksX2_init_26 23 rfl rfl)
theorem dX2_init_635 : decode cX2_init 635 = .ok (.sipush 4000, 3) := dk_17 15 160 (dk_at dksX2_init_27 0 rfl rfl)
theorem dX2_init_638 : decode cX2_init 638 = .ok (.newarray .int, 2) := dk_188_10 (dk_at dksX2_init_27 3 rfl rfl)
theorem dX2_init_640 : decode cX2_init 640 = .ok (.putfield 259, 3) := dk_181 1 3 (dk_at dksX2_init_27 5 rfl rfl)
theorem dX2_init_643 : decode cX2_init 643 = .ok (.aload_n 0, 1) := dk_42 (dk_at dksX2_init_27 8 rfl rfl)
theorem dX2_init_644 : decode cX2_init 644 = .ok (.sipush 4000, 3) := dk_17 15 160 (dk_at dksX2_init_27 9 rfl rfl)
theorem dX2_init_647 : decode cX2_init 647 = .ok (.newarray .int, 2) := dk_188_10 (dk_at dksX2_init_27 12 rfl rfl)
theorem dX2_init_649 : decode cX2_init 649 = .ok (.putfield 262, 3) := dk_181 1 6 (dk_at dksX2_init_27 14 rfl rfl)
theorem dX2_init_652 : decode cX2_init 652 = .ok (.aload_n 0, 1) := dk_42 (dk_at dksX2_init_27 17 rfl rfl)
theorem dX2_init_653 : decode cX2_init 653 = .ok (.sipush 4000, 3) := dk_17 15 160 (dk_at dksX2_init_27 18 rfl rfl)
theorem dX2_init_656 : decode cX2_init 656 = .ok (.newarray .int, 2) := dk_188_10 (dk_at dksX2_init_27 21 rfl rfl)
theorem dX2_init_658 : decode cX2_init 658 = .ok (.putfield 265, 3) := dk_181 1 9 (dk_at dksX2_init_28 0 rfl rfl)
theorem dX2_init_661 : decode cX2_init 661 = .ok (.aload_n 0, 1) := dk_42 (dk_at dksX2_init_28 3 rfl rfl)
theorem dX2_init_662 : decode cX2_init 662 = .ok (.sipush 4000, 3) := dk_17 15 160 (dk_at dksX2_init_28 4 rfl rfl)
theorem dX2_init_665 : decode cX2_init 665 = .ok (.newarray .int, 2) := dk_188_10 (dk_at dksX2_init_28 7 rfl rfl)
theorem dX2_init_667 : decode cX2_init 667 = .ok (.putfield 268, 3) := dk_181 1 12 (dk_at dksX2_init_28 9 rfl rfl)
theorem dX2_init_670 : decode cX2_init 670 = .ok (.aload_n 0, 1) := dk_42 (dk_at dksX2_init_28 12 rfl rfl)
theorem dX2_init_671 : decode cX2_init 671 = .ok (.sipush 4000, 3) := dk_17 15 160 (dk_at dksX2_init_28 13 rfl rfl)
theorem dX2_init_674 : decode cX2_init 674 = .ok (.newarray .int, 2) := dk_188_10 (dk_at dksX2_init_28 16 rfl rfl)
theorem dX2_init_676 : decode cX2_init 676 = .ok (.putfield 271, 3) := dk_181 1 15 (dk_at dksX2_init_28 18 rfl rfl)
theorem dX2_init_679 : decode cX2_init 679 = .ok (.aload_n 0, 1) := dk_42 (dk_at dksX2_init_28 21 rfl rfl)
theorem dX2_init_680 : decode cX2_init 680 = .ok (.bipush 60, 2) := dk_16 60 (dk_at dksX2_init_28 22 rfl rfl)
theorem dX2_init_682 : decode cX2_init 682 = .ok (.newarray .int, 2) := dk_188_10 (dk_at dksX2_init_29 0 rfl rfl)
theorem dX2_init_684 : decode cX2_init 684 = .ok (.putfield 274, 3) := dk_181 1 18 (dk_at dksX2_init_29 2 rfl rfl)
theorem dX2_init_687 : decode cX2_init 687 = .ok (.aload_n 0, 1) := dk_42 (dk_at dksX2_init_29 5 rfl rfl)
theorem dX2_init_688 : decode cX2_init 688 = .ok (.ldc_w 277, 3) := dk_19 1 21 (dk_at dksX2_init_29 6 rfl rfl)
theorem dX2_init_691 : decode cX2_init 691 = .ok (.newarray .int, 2) := dk_188_10 (dk_at dksX2_init_29 9 rfl rfl)
theorem dX2_init_693 : decode cX2_init 693 = .ok (.putfield 278, 3) := dk_181 1 22 (dk_at dksX2_init_29 11 rfl rfl)
theorem dX2_init_696 : decode cX2_init 696 = .ok (.aload_n 0, 1) := dk_42 (dk_at dksX2_init_29 14 rfl rfl)
theorem dX2_init_697 : decode cX2_init 697 = .ok (.iconst 1, 1) := dk_4 (dk_at dksX2_init_29 15 rfl rfl)
theorem dX2_init_698 : decode cX2_init 698 = .ok (.putfield 281, 3) := dk_181 1 25 (dk_at dksX2_init_29 16 rfl rfl)
theorem dX2_init_701 : decode cX2_init 701 = .ok (.aload_n 0, 1) := dk_42 (dk_at dksX2_init_29 19 rfl rfl)
theorem dX2_init_702 : decode cX2_init 702 = .ok (.ldc_w 284, 3) := dk_19 1 28 (dk_at dksX2_init_29 20 rfl rfl)
theorem dX2_init_705 : decode cX2_init 705 = .ok (.putfield 285, 3) := dk_181 1 29 (dk_at dksX2_init_30 0 rfl rfl)
theorem dX2_init_708 : decode cX2_init 708 = .ok (.aload_n 0, 1) := dk_42 (dk_at dksX2_init_30 3 rfl rfl)
theorem dX2_init_709 : decode cX2_init 709 = .ok (.ldc_w 288, 3) := dk_19 1 32 (dk_at dksX2_init_30 4 rfl rfl)
theorem dX2_init_712 : decode cX2_init 712 = .ok (.newarray .int, 2) := dk_188_10 (dk_at dksX2_init_30 7 rfl rfl)
theorem dX2_init_714 : decode cX2_init 714 = .ok (.putfield 289, 3) := dk_181 1 33 (dk_at dksX2_init_30 9 rfl rfl)
theorem dX2_init_717 : decode cX2_init 717 = .ok (.aload_n 0, 1) := dk_42 (dk_at dksX2_init_30 12 rfl rfl)
theorem dX2_init_718 : decode cX2_init 718 = .ok (.ldc_w 292, 3) := dk_19 1 36 (dk_at dksX2_init_30 13 rfl rfl)
theorem dX2_init_721 : decode cX2_init 721 = .ok (.newarray .int, 2) := dk_188_10 (dk_at dksX2_init_30 16 rfl rfl)
theorem dX2_init_723 : decode cX2_init 723 = .ok (.putfield 293, 3) := dk_181 1 37 (dk_at dksX2_init_30 18 rfl rfl)
theorem dX2_init_726 : decode cX2_init 726 = .ok (.aload_n 0, 1) := dk_42 (dk_at dksX2_init_30 21 rfl rfl)
theorem dX2_init_727 : decode cX2_init 727 = .ok (.ldc_w 292, 3) := dk_19 1 36 (dk_at dksX2_init_31 0 rfl rfl)
theorem dX2_init_730 : decode cX2_init 730 = .ok (.newarray .int, 2) := dk_188_10 (dk_at dksX2_init_31 3 rfl rfl)
theorem dX2_init_732 : decode cX2_init 732 = .ok (.putfield 296, 3) := dk_181 1 40 (dk_at dksX2_init_31 5 rfl rfl)
theorem dX2_init_735 : decode cX2_init 735 = .ok (.aload_n 0, 1) := dk_42 (dk_at dksX2_init_31 8 rfl rfl)
theorem dX2_init_736 : decode cX2_init 736 = .ok (.bipush 50, 2) := dk_16 50 (dk_at dksX2_init_31 9 rfl rfl)
theorem dX2_init_738 : decode cX2_init 738 = .ok (.newarray .int, 2) := dk_188_10 (dk_at dksX2_init_31 11 rfl rfl)
theorem dX2_init_740 : decode cX2_init 740 = .ok (.putfield 299, 3) := dk_181 1 43 (dk_at dksX2_init_31 13 rfl rfl)
theorem dX2_init_743 : decode cX2_init 743 = .ok (.aload_n 0, 1) := dk_42 (dk_at dksX2_init_31 16 rfl rfl)
theorem dX2_init_744 : decode cX2_init 744 = .ok (.bipush 51, 2) := dk_16 51 (dk_at dksX2_init_31 17 rfl rfl)
theorem dX2_init_746 : decode cX2_init 746 = .ok (.newarray .int, 2) := dk_188_10 (dk_at dksX2_init_31 19 rfl rfl)
theorem dX2_init_748 : decode cX2_init 748 = .ok (.putfield 302, 3) := dk_181 1 46 (dk_at dksX2_init_31 21 rfl rfl)
theorem dX2_init_751 : decode cX2_init 751 = .ok (.aload_n 0, 1) := dk_42 (dk_at dksX2_init_32 0 rfl rfl)
theorem dX2_init_752 : decode cX2_init 752 = .ok (.sipush 200, 3) := dk_17 0 200 (dk_at dksX2_init_32 1 rfl rfl)
theorem dX2_init_755 : decode cX2_init 755 = .ok (.newarray .int, 2) := dk_188_10 (dk_at dksX2_init_32 4 rfl rfl)
theorem dX2_init_757 : decode cX2_init 757 = .ok (.putfield 305, 3) := dk_181 1 49 (dk_at dksX2_init_32 6 rfl rfl)
theorem dX2_init_760 : decode cX2_init 760 = .ok (.aload_n 0, 1) := dk_42 (dk_at dksX2_init_32 9 rfl rfl)
theorem dX2_init_761 : decode cX2_init 761 = .ok (.sipush 12800, 3) := dk_17 50 0 (dk_at dksX2_init_32 10 rfl rfl)
theorem dX2_init_764 : decode cX2_init 764 = .ok (.newarray .int, 2) := dk_188_10 (dk_at dksX2_init_32 13 rfl rfl)
theorem dX2_init_766 : decode cX2_init 766 = .ok (.putfield 308, 3) := dk_181 1 52 (dk_at dksX2_init_32 15 rfl rfl)
theorem dX2_init_769 : decode cX2_init 769 = .ok (.aload_n 0, 1) := dk_42 (dk_at dksX2_init_32 18 rfl rfl)
theorem dX2_init_770 : decode cX2_init 770 = .ok (.sipush 200, 3) := dk_17 0 200 (dk_at dksX2_init_32 19 rfl rfl)
theorem dX2_init_773 : decode cX2_init 773 = .ok (.newarray .int, 2) := dk_188_10 (dk_at dksX2_init_32 22 rfl rfl)
theorem dX2_init_775 : decode cX2_init 775 = .ok (.putfield 311, 3) := dk_181 1 55 (dk_at dksX2_init_33 0 rfl rfl)
theorem dX2_init_778 : decode cX2_init 778 = .ok (.aload_n 0, 1) := dk_42 (dk_at dksX2_init_33 3 rfl rfl)
theorem dX2_init_779 : decode cX2_init 779 = .ok (.sipush 200, 3) := dk_17 0 200 (dk_at dksX2_init_33 4 rfl rfl)
theorem dX2_init_782 : decode cX2_init 782 = .ok (.newarray .int, 2) := dk_188_10 (dk_at dksX2_init_33 7 rfl rfl)
theorem dX2_init_784 : decode cX2_init 784 = .ok (.putfield 314, 3) := dk_181 1 58 (dk_at dksX2_init_33 9 rfl rfl)
theorem dX2_init_787 : decode cX2_init 787 = .ok (.aload_n 0, 1) := dk_42 (dk_at dksX2_init_33 12 rfl rfl)
theorem dX2_init_788 : decode cX2_init 788 = .ok (.sipush 200, 3) := dk_17 0 200 (dk_at dksX2_init_33 13 rfl rfl)
theorem dX2_init_791 : decode cX2_init 791 = .ok (.newarray .int, 2) := dk_188_10 (dk_at dksX2_init_33 16 rfl rfl)
theorem dX2_init_793 : decode cX2_init 793 = .ok (.putfield 317, 3) := dk_181 1 61 (dk_at dksX2_init_33 18 rfl rfl)
theorem dX2_init_796 : decode cX2_init 796 = .ok (.aload_n 0, 1) := dk_42 (dk_at dksX2_init_33 21 rfl rfl)
theorem dX2_init_797 : decode cX2_init 797 = .ok (.sipush 130, 3) := dk_17 0 130 (dk_at dksX2_init_34 0 rfl rfl)
theorem dX2_init_800 : decode cX2_init 800 = .ok (.newarray .int, 2) := dk_188_10 (dk_at dksX2_init_34 3 rfl rfl)
theorem dX2_init_802 : decode cX2_init 802 = .ok (.putfield 320, 3) := dk_181 1 64 (dk_at dksX2_init_34 5 rfl rfl)
theorem dX2_init_805 : decode cX2_init 805 = .ok (.aload_n 0, 1) := dk_42 (dk_at dksX2_init_34 8 rfl rfl)
theorem dX2_init_806 : decode cX2_init 806 = .ok (.sipush 7300, 3) := dk_17 28 132 (dk_at dksX2_init_34 9 rfl rfl)
theorem dX2_init_809 : decode cX2_init 809 = .ok (.newarray .int, 2) := dk_188_10 (dk_at dksX2_init_34 12 rfl rfl)
theorem dX2_init_811 : decode cX2_init 811 = .ok (.putfield 323, 3) := dk_181 1 67 (dk_at dksX2_init_34 14 rfl rfl)
theorem dX2_init_814 : decode cX2_init 814 = .ok (.aload_n 0, 1) := dk_42 (dk_at dksX2_init_34 17 rfl rfl)
theorem dX2_init_815 : decode cX2_init 815 = .ok (.ldc 180, 2) := dk_18 180 (dk_at dksX2_init_34 18 rfl rfl)
theorem dX2_init_817 : decode cX2_init 817 = .ok (.newarray .int, 2) := dk_188_10 (dk_at dksX2_init_34 20 rfl rfl)
theorem dX2_init_819 : decode cX2_init 819 = .ok (.putfield 326, 3) := dk_181 1 70 (dk_at dksX2_init_35 0 rfl rfl)
theorem dX2_init_822 : decode cX2_init 822 = .ok (.aload_n 0, 1) := dk_42 (dk_at dksX2_init_35 3 rfl rfl)
theorem dX2_init_823 : decode cX2_init 823 = .ok (.bipush 121, 2) := dk_16 121 (dk_at dksX2_init_35 4 rfl rfl)
theorem dX2_init_825 : decode cX2_init 825 = .ok (.newarray .int, 2) := dk_188_10 (dk_at dksX2_init_35 6 rfl rfl)
theorem dX2_init_827 : decode cX2_init 827 = .ok (.putfield 329, 3) := dk_181 1 73 (dk_at dksX2_init_35 8 rfl rfl)
theorem dX2_init_830 : decode cX2_init 830 = .ok (.aload_n 0, 1) := dk_42 (dk_at dksX2_init_35 11 rfl rfl)
theorem dX2_init_831 : decode cX2_init 831 = .ok (.bipush 121, 2) := dk_16 121 (dk_at dksX2_init_35 12 rfl rfl)
theorem dX2_init_833 : decode cX2_init 833 = .ok (.newarray .int, 2) := dk_188_10 (dk_at dksX2_init_35 14 rfl rfl)
theorem dX2_init_835 : decode cX2_init 835 = .ok (.putfield 332, 3) := dk_181 1 76 (dk_at dksX2_init_35 16 rfl rfl)
theorem dX2_init_838 : decode cX2_init 838 = .ok (.aload_n 0, 1) := dk_42 (dk_at dksX2_init_35 19 rfl rfl)
theorem dX2_init_839 : decode cX2_init 839 = .ok (.bipush 121, 2) := dk_16 121 (dk_at dksX2_init_35 20 rfl rfl)
theorem dX2_init_841 : decode cX2_init 841 = .ok (.newarray .int, 2) := dk_188_10 (dk_at dksX2_init_35 22 rfl rfl)
theorem dX2_init_843 : decode cX2_init 843 = .ok (.putfield 335, 3) := dk_181 1 79 (dk_at dksX2_init_36 0 rfl rfl)
theorem dX2_init_846 : decode cX2_init 846 = .ok (.aload_n 0, 1) := dk_42 (dk_at dksX2_init_36 3 rfl rfl)
theorem dX2_init_847 : decode cX2_init 847 = .ok (.bipush 121, 2) := dk_16 121 (dk_at dksX2_init_36 4 rfl rfl)
theorem dX2_init_849 : decode cX2_init 849 = .ok (.newarray .int, 2) := dk_188_10 (dk_at dksX2_init_36 6 rfl rfl)
theorem dX2_init_851 : decode cX2_init 851 = .ok (.putfield 338, 3) := dk_181 1 82 (dk_at dksX2_init_36 8 rfl rfl)
theorem dX2_init_854 : decode cX2_init 854 = .ok (.aload_n 0, 1) := dk_42 (dk_at dksX2_init_36 11 rfl rfl)
theorem dX2_init_855 : decode cX2_init 855 = .ok (.sipush 130, 3) := dk_17 0 130 (dk_at dksX2_init_36 12 rfl rfl)
theorem dX2_init_858 : decode cX2_init 858 = .ok (.newarray .int, 2) := dk_188_10 (dk_at dksX2_init_36 15 rfl rfl)
theorem dX2_init_860 : decode cX2_init 860 = .ok (.putfield 341, 3) := dk_181 1 85 (dk_at dksX2_init_36 17 rfl rfl)
theorem dX2_init_863 : decode cX2_init 863 = .ok (.aload_n 0, 1) := dk_42 (dk_at dksX2_init_36 20 rfl rfl)
theorem dX2_init_864 : decode cX2_init 864 = .ok (.sipush 7300, 3) := dk_17 28 132 (dk_at dksX2_init_36 21 rfl rfl)
theorem dX2_init_867 : decode cX2_init 867 = .ok (.newarray .int, 2) := dk_188_10 (dk_at dksX2_init_37 0 rfl rfl)
theorem dX2_init_869 : decode cX2_init 869 = .ok (.putfield 344, 3) := dk_181 1 88 (dk_at dksX2_init_37 2 rfl rfl)
theorem dX2_init_872 : decode cX2_init 872 = .ok (.aload_n 0, 1) := dk_42 (dk_at dksX2_init_37 5 rfl rfl)
theorem dX2_init_873 : decode cX2_init 873 = .ok (.bipush 120, 2) := dk_16 120 (dk_at dksX2_init_37 6 rfl rfl)
theorem dX2_init_875 : decode cX2_init 875 = .ok (.newarray .boolean, 2) := dk_188_4 (dk_at dksX2_init_37 8 rfl rfl)
theorem dX2_init_877 : decode cX2_init 877 = .ok (.putfield 347, 3) := dk_181 1 91 (dk_at dksX2_init_37 10 rfl rfl)
theorem dX2_init_880 : decode cX2_init 880 = .ok (.aload_n 0, 1) := dk_42 (dk_at dksX2_init_37 13 rfl rfl)
theorem dX2_init_881 : decode cX2_init 881 = .ok (.bipush 120, 2) := dk_16 120 (dk_at dksX2_init_37 14 rfl rfl)
theorem dX2_init_883 : decode cX2_init 883 = .ok (.newarray .boolean, 2) := dk_188_4 (dk_at dksX2_init_37 16 rfl rfl)
theorem dX2_init_885 : decode cX2_init 885 = .ok (.putfield 350, 3) := dk_181 1 94 (dk_at dksX2_init_37 18 rfl rfl)
theorem dX2_init_888 : decode cX2_init 888 = .ok (.aload_n 0, 1) := dk_42 (dk_at dksX2_init_37 21 rfl rfl)
theorem dX2_init_889 : decode cX2_init 889 = .ok (.bipush 120, 2) := dk_16 120 (dk_at dksX2_init_37 22 rfl rfl)
theorem dX2_init_891 : decode cX2_init 891 = .ok (.newarray .boolean, 2) := dk_188_4 (dk_at dksX2_init_38 0 rfl rfl)
theorem dX2_init_893 : decode cX2_init 893 = .ok (.putfield 353, 3) := dk_181 1 97 (dk_at dksX2_init_38 2 rfl rfl)
theorem dX2_init_896 : decode cX2_init 896 = .ok (.aload_n 0, 1) := dk_42 (dk_at dksX2_init_38 5 rfl rfl)
theorem dX2_init_897 : decode cX2_init 897 = .ok (.sipush 200, 3) := dk_17 0 200 (dk_at dksX2_init_38 6 rfl rfl)
theorem dX2_init_900 : decode cX2_init 900 = .ok (.newarray .int, 2) := dk_188_10 (dk_at dksX2_init_38 9 rfl rfl)
theorem dX2_init_902 : decode cX2_init 902 = .ok (.putfield 356, 3) := dk_181 1 100 (dk_at dksX2_init_38 11 rfl rfl)
theorem dX2_init_905 : decode cX2_init 905 = .ok (.aload_n 0, 1) := dk_42 (dk_at dksX2_init_38 14 rfl rfl)
theorem dX2_init_906 : decode cX2_init 906 = .ok (.sipush 200, 3) := dk_17 0 200 (dk_at dksX2_init_38 15 rfl rfl)
theorem dX2_init_909 : decode cX2_init 909 = .ok (.newarray .int, 2) := dk_188_10 (dk_at dksX2_init_38 18 rfl rfl)
theorem dX2_init_911 : decode cX2_init 911 = .ok (.putfield 359, 3) := dk_181 1 103 (dk_at dksX2_init_38 20 rfl rfl)
theorem dX2_init_914 : decode cX2_init 914 = .ok (.aload_n 0, 1) := dk_42 (dk_at dksX2_init_38 23 rfl rfl)
theorem dX2_init_915 : decode cX2_init 915 = .ok (.sipush 200, 3) := dk_17 0 200 (dk_at dksX2_init_39 0 rfl rfl)
theorem dX2_init_918 : decode cX2_init 918 = .ok (.newarray .int, 2) := dk_188_10 (dk_at dksX2_init_39 3 rfl rfl)
theorem dX2_init_920 : decode cX2_init 920 = .ok (.putfield 362, 3) := dk_181 1 106 (dk_at dksX2_init_39 5 rfl rfl)
theorem dX2_init_923 : decode cX2_init 923 = .ok (.aload_n 0, 1) := dk_42 (dk_at dksX2_init_39 8 rfl rfl)
theorem dX2_init_924 : decode cX2_init 924 = .ok (.iconst 5, 1) := dk_8 (dk_at dksX2_init_39 9 rfl rfl)
theorem dX2_init_925 : decode cX2_init 925 = .ok (.newarray .int, 2) := dk_188_10 (dk_at dksX2_init_39 10 rfl rfl)
theorem dX2_init_927 : decode cX2_init 927 = .ok (.putfield 365, 3) := dk_181 1 109 (dk_at dksX2_init_39 12 rfl rfl)
theorem dX2_init_930 : decode cX2_init 930 = .ok (.aload_n 0, 1) := dk_42 (dk_at dksX2_init_39 15 rfl rfl)
theorem dX2_init_931 : decode cX2_init 931 = .ok (.sipush 8192, 3) := dk_17 32 0 (dk_at dksX2_init_39 16 rfl rfl)
theorem dX2_init_934 : decode cX2_init 934 = .ok (.newarray .int, 2) := dk_188_10 (dk_at dksX2_init_39 19 rfl rfl)
theorem dX2_init_936 : decode cX2_init 936 = .ok (.putfield 368, 3) := dk_181 1 112 (dk_at dksX2_init_39 21 rfl rfl)
theorem dX2_init_939 : decode cX2_init 939 = .ok (.aload_n 0, 1) := dk_42 (dk_at dksX2_init_40 0 rfl rfl)
theorem dX2_init_940 : decode cX2_init 940 = .ok (.sipush 8192, 3) := dk_17 32 0 (dk_at dksX2_init_40 1 rfl rfl)
theorem dX2_init_943 : decode cX2_init 943 = .ok (.newarray .int, 2) := dk_188_10 (dk_at dksX2_init_40 4 rfl rfl)
theorem dX2_init_945 : decode cX2_init 945 = .ok (.putfield 371, 3) := dk_181 1 115 (dk_at dksX2_init_40 6 rfl rfl)
theorem dX2_init_948 : decode cX2_init 948 = .ok (.aload_n 0, 1) := dk_42 (dk_at dksX2_init_40 9 rfl rfl)
theorem dX2_init_949 : decode cX2_init 949 = .ok (.sipush 8192, 3) := dk_17 32 0 (dk_at dksX2_init_40 10 rfl rfl)
theorem dX2_init_952 : decode cX2_init 952 = .ok (.newarray .int, 2) := dk_188_10 (dk_at dksX2_init_40 13 rfl rfl)
theorem dX2_init_954 : decode cX2_init 954 = .ok (.putfield 374, 3) := dk_181 1 118 (dk_at dksX2_init_40 15 rfl rfl)
theorem dX2_init_957 : decode cX2_init 957 = .ok (.aload_n 0, 1) := dk_42 (dk_at dksX2_init_40 18 rfl rfl)
theorem dX2_init_958 : decode cX2_init 958 = .ok (.sipush 8192, 3) := dk_17 32 0 (dk_at dksX2_init_40 19 rfl rfl)
theorem dX2_init_961 : decode cX2_init 961 = .ok (.newarray .int, 2) := dk_188_10 (dk_at dksX2_init_40 22 rfl rfl)
theorem dX2_init_963 : decode cX2_init 963 = .ok (.putfield 377, 3) := dk_181 1 121 (dk_at dksX2_init_41 0 rfl rfl)
theorem dX2_init_966 : decode cX2_init 966 = .ok (.aload_n 0, 1) := dk_42 (dk_at dksX2_init_41 3 rfl rfl)
theorem dX2_init_967 : decode cX2_init 967 = .ok (.sipush 400, 3) := dk_17 1 144 (dk_at dksX2_init_41 4 rfl rfl)
theorem dX2_init_970 : decode cX2_init 970 = .ok (.newarray .int, 2) := dk_188_10 (dk_at dksX2_init_41 7 rfl rfl)
theorem dX2_init_972 : decode cX2_init 972 = .ok (.putfield 380, 3) := dk_181 1 124 (dk_at dksX2_init_41 9 rfl rfl)
theorem dX2_init_975 : decode cX2_init 975 = .ok (.aload_n 0, 1) := dk_42 (dk_at dksX2_init_41 12 rfl rfl)
theorem dX2_init_976 : decode cX2_init 976 = .ok (.sipush 4000, 3) := dk_17 15 160 (dk_at dksX2_init_41 13 rfl rfl)
theorem dX2_init_979 : decode cX2_init 979 = .ok (.newarray .int, 2) := dk_188_10 (dk_at dksX2_init_41 16 rfl rfl)
theorem dX2_init_981 : decode cX2_init 981 = .ok (.putfield 383, 3) := dk_181 1 127 (dk_at dksX2_init_41 18 rfl rfl)
theorem dX2_init_984 : decode cX2_init 984 = .ok (.aload_n 0, 1) := dk_42 (dk_at dksX2_init_41 21 rfl rfl)
theorem dX2_init_985 : decode cX2_init 985 = .ok (.sipush 4000, 3) := dk_17 15 160 (dk_at dksX2_init_42 0 rfl rfl)
theorem dX2_init_988 : decode cX2_init 988 = .ok (.newarray .int, 2) := dk_188_10 (dk_at dksX2_init_42 3 rfl rfl)
theorem dX2_init_990 : decode cX2_init 990 = .ok (.putfield 386, 3) := dk_181 1 130 (dk_at dksX2_init_42 5 rfl rfl)
theorem dX2_init_993 : decode cX2_init 993 = .ok (.aload_n 0, 1) := dk_42 (dk_at dksX2_init_42 8 rfl rfl)
theorem dX2_init_994 : decode cX2_init 994 = .ok (.sipush 4000, 3) := dk_17 15 160 (dk_at dksX2_init_42 9 rfl rfl)
theorem dX2_init_997 : decode cX2_init 997 = .ok (.newarray .int, 2) := dk_188_10 (dk_at dksX2_init_42 12 rfl rfl)
theorem dX2_init_999 : decode cX2_init 999 = .ok (.putfield 389, 3) := dk_181 1 133 (dk_at dksX2_init_42 14 rfl rfl)
theorem dX2_init_1002 : decode cX2_init 1002 = .ok (.aload_n 0, 1) := dk_42 (dk_at dksX2_init_42 17 rfl rfl)
theorem dX2_init_1003 : decode cX2_init 1003 = .ok (.bipush 60, 2) := dk_16 60 (dk_at dksX2_init_42 18 rfl rfl)
theorem dX2_init_1005 : decode cX2_init 1005 = .ok (.newarray .int, 2) := dk_188_10 (dk_at dksX2_init_42 20 rfl rfl)
theorem dX2_init_1007 : decode cX2_init 1007 = .ok (.putfield 392, 3) := dk_181 1 136 (dk_at dksX2_init_43 0 rfl rfl)
theorem dX2_init_1010 : decode cX2_init 1010 = .ok (.aload_n 0, 1) := dk_42 (dk_at dksX2_init_43 3 rfl rfl)
theorem dX2_init_1011 : decode cX2_init 1011 = .ok (.iconst 0, 1) := dk_3 (dk_at dksX2_init_43 4 rfl rfl)
theorem dX2_init_1012 : decode cX2_init 1012 = .ok (.putfield 1, 3) := dk_181 0 1 (dk_at dksX2_init_43 5 rfl rfl)
theorem dX2_init_1015 : decode cX2_init 1015 = .ok (.aload_n 0, 1) := dk_42 (dk_at dksX2_init_43 8 rfl rfl)
theorem dX2_init_1016 : decode cX2_init 1016 = .ok (.invokevirtual 395, 3) := dk_182 1 139 (dk_at dksX2_init_43 9 rfl rfl)
theorem dX2_init_1019 : decode cX2_init 1019 = .ok (.return_, 1) := dk_177 (dk_at dksX2_init_43 12 rfl rfl)
abbrev cX2_clearModule : ByteArray := prog_4_method_84_code
def yX2_clearModule : MethodName := ⟨RX2, "clearModule", "()V"⟩
def dkwX2_clearModule_3 : List UInt8 := [42, 3, 181, 3, 13, 42, 182, 3, 16, 177]
abbrev dktX2_clearModule_3 : List UInt8 := dkwX2_clearModule_3 ++ []
def dkwX2_clearModule_2 : List UInt8 := [3, 181, 1, 232, 42, 3, 181, 3, 1, 42, 3, 181, 3, 4, 42, 3, 181, 3, 7, 42, 3, 181, 3, 10]
abbrev dktX2_clearModule_2 : List UInt8 := dkwX2_clearModule_2 ++ dktX2_clearModule_3
def dkwX2_clearModule_1 : List UInt8 := [181, 2, 131, 42, 3, 181, 2, 3, 42, 3, 181, 1, 253, 42, 3, 181, 2, 0, 42, 3, 181, 2, 20, 42]
abbrev dktX2_clearModule_1 : List UInt8 := dkwX2_clearModule_1 ++ dktX2_clearModule_2
def dkwX2_clearModule_0 : List UInt8 := [42, 3, 181, 2, 9, 42, 3, 181, 2, 119, 42, 3, 181, 2, 23, 42, 3, 181, 2, 26, 42, 3]
abbrev dktX2_clearModule_0 : List UInt8 := dkwX2_clearModule_0 ++ dktX2_clearModule_1
theorem dksX2_clearModule_0 : cX2_clearModule.data.toList.drop 0 = dktX2_clearModule_0 := by decide +kernel
theorem dksX2_clearModule_1 : cX2_clearModule.data.toList.drop 22 = dktX2_clearModule_1 := dk_seg dksX2_clearModule_0 22 rfl rfl
theorem dksX2_clearModule_2 : cX2_clearModule.data.toList.drop 46 = dktX2_clearModule_2 := dk_seg dksX2_clearModule_1 24 rfl rfl
theorem dksX2_clearModule_3 : cX2_clearModule.data.toList.drop 70 = dktX2_clearModule_3 := dk_seg dksX2_clearModule_2 24 rfl rfl
theorem dX2_clearModule_0 : decode cX2_clearModule 0 = .ok (.aload_n 0, 1) := dk_42 (dk_at dksX2_clearModule_0 0 rfl rfl)
theorem dX2_clearModule_1 : decode cX2_clearModule 1 = .ok (.iconst 0, 1) := dk_3 (dk_at dksX2_clearModule_0 1 rfl rfl)
theorem dX2_clearModule_2 : decode cX2_clearModule 2 = .ok (.putfield 521, 3) := dk_181 2 9 (dk_at dksX2_clearModule_0 2 rfl rfl)
theorem dX2_clearModule_5 : decode cX2_clearModule 5 = .ok (.aload_n 0, 1) := dk_42 (dk_at dksX2_clearModule_0 5 rfl rfl)
theorem dX2_clearModule_6 : decode cX2_clearModule 6 = .ok (.iconst 0, 1) := dk_3 (dk_at dksX2_clearModule_0 6 rfl rfl)
theorem dX2_clearModule_7 : decode cX2_clearModule 7 = .ok (.putfield 631, 3) := dk_181 2 119 (dk_at dksX2_clearModule_0 7 rfl rfl)
theorem dX2_clearModule_10 : decode cX2_clearModule 10 = .ok (.aload_n 0, 1) := dk_42 (dk_at dksX2_clearModule_0 10 rfl rfl)
theorem dX2_clearModule_11 : decode cX2_clearModule 11 = .ok (.iconst 0, 1) := dk_3 (dk_at dksX2_clearModule_0 11 rfl rfl)
theorem dX2_clearModule_12 : decode cX2_clearModule 12 = .ok (.putfield 535, 3) := dk_181 2 23 (dk_at dksX2_clearModule_0 12 rfl rfl)
theorem dX2_clearModule_15 : decode cX2_clearModule 15 = .ok (.aload_n 0, 1) := dk_42 (dk_at dksX2_clearModule_0 15 rfl rfl)
theorem dX2_clearModule_16 : decode cX2_clearModule 16 = .ok (.iconst 0, 1) := dk_3 (dk_at dksX2_clearModule_0 16 rfl rfl)
theorem dX2_clearModule_17 : decode cX2_clearModule 17 = .ok (.putfield 538, 3) := dk_181 2 26 (dk_at dksX2_clearModule_0 17 rfl rfl)
theorem dX2_clearModule_20 : decode cX2_clearModule 20 = .ok (.aload_n 0, 1) := dk_42 (dk_at dksX2_clearModule_0 20 rfl rfl)
theorem dX2_clearModule_21 : decode cX2_clearModule 21 = .ok (.iconst 0, 1) := dk_3 (dk_at dksX2_clearModule_0 21 rfl rfl)
theorem dX2_clearModule_22 : decode cX2_clearModule 22 = .ok (.putfield 643, 3) := dk_181 2 131 (dk_at dksX2_clearModule_1 0 rfl rfl)
theorem dX2_clearModule_25 : decode cX2_clearModule 25 = .ok (.aload_n 0, 1) := dk_42 (dk_at dksX2_clearModule_1 3 rfl rfl)
theorem dX2_clearModule_26 : decode cX2_clearModule 26 = .ok (.iconst 0, 1) := dk_3 (dk_at dksX2_clearModule_1 4 rfl rfl)
theorem dX2_clearModule_27 : decode cX2_clearModule 27 = .ok (.putfield 515, 3) := dk_181 2 3 (dk_at dksX2_clearModule_1 5 rfl rfl)
theorem dX2_clearModule_30 : decode cX2_clearModule 30 = .ok (.aload_n 0, 1) := dk_42 (dk_at dksX2_clearModule_1 8 rfl rfl)
theorem dX2_clearModule_31 : decode cX2_clearModule 31 = .ok (.iconst 0, 1) := dk_3 (dk_at dksX2_clearModule_1 9 rfl rfl)
theorem dX2_clearModule_32 : decode cX2_clearModule 32 = .ok (.putfield 509, 3) := dk_181 1 253 (dk_at dksX2_clearModule_1 10 rfl rfl)
theorem dX2_clearModule_35 : decode cX2_clearModule 35 = .ok (.aload_n 0, 1) := dk_42 (dk_at dksX2_clearModule_1 13 rfl rfl)
theorem dX2_clearModule_36 : decode cX2_clearModule 36 = .ok (.iconst 0, 1) := dk_3 (dk_at dksX2_clearModule_1 14 rfl rfl)
theorem dX2_clearModule_37 : decode cX2_clearModule 37 = .ok (.putfield 512, 3) := dk_181 2 0 (dk_at dksX2_clearModule_1 15 rfl rfl)
theorem dX2_clearModule_40 : decode cX2_clearModule 40 = .ok (.aload_n 0, 1) := dk_42 (dk_at dksX2_clearModule_1 18 rfl rfl)
theorem dX2_clearModule_41 : decode cX2_clearModule 41 = .ok (.iconst 0, 1) := dk_3 (dk_at dksX2_clearModule_1 19 rfl rfl)
theorem dX2_clearModule_42 : decode cX2_clearModule 42 = .ok (.putfield 532, 3) := dk_181 2 20 (dk_at dksX2_clearModule_1 20 rfl rfl)
theorem dX2_clearModule_45 : decode cX2_clearModule 45 = .ok (.aload_n 0, 1) := dk_42 (dk_at dksX2_clearModule_1 23 rfl rfl)
theorem dX2_clearModule_46 : decode cX2_clearModule 46 = .ok (.iconst 0, 1) := dk_3 (dk_at dksX2_clearModule_2 0 rfl rfl)
theorem dX2_clearModule_47 : decode cX2_clearModule 47 = .ok (.putfield 488, 3) := dk_181 1 232 (dk_at dksX2_clearModule_2 1 rfl rfl)
theorem dX2_clearModule_50 : decode cX2_clearModule 50 = .ok (.aload_n 0, 1) := dk_42 (dk_at dksX2_clearModule_2 4 rfl rfl)
theorem dX2_clearModule_51 : decode cX2_clearModule 51 = .ok (.iconst 0, 1) := dk_3 (dk_at dksX2_clearModule_2 5 rfl rfl)
theorem dX2_clearModule_52 : decode cX2_clearModule 52 = .ok (.putfield 769, 3) := dk_181 3 1 (dk_at dksX2_clearModule_2 6 rfl rfl)
theorem dX2_clearModule_55 : decode cX2_clearModule 55 = .ok (.aload_n 0, 1) := dk_42 (dk_at dksX2_clearModule_2 9 rfl rfl)
theorem dX2_clearModule_56 : decode cX2_clearModule 56 = .ok (.iconst 0, 1) := dk_3 (dk_at dksX2_clearModule_2 10 rfl rfl)
theorem dX2_clearModule_57 : decode cX2_clearModule 57 = .ok (.putfield 772, 3) := dk_181 3 4 (dk_at dksX2_clearModule_2 11 rfl rfl)
theorem dX2_clearModule_60 : decode cX2_clearModule 60 = .ok (.aload_n 0, 1) := dk_42 (dk_at dksX2_clearModule_2 14 rfl rfl)
theorem dX2_clearModule_61 : decode cX2_clearModule 61 = .ok (.iconst 0, 1) := dk_3 (dk_at dksX2_clearModule_2 15 rfl rfl)
theorem dX2_clearModule_62 : decode cX2_clearModule 62 = .ok (.putfield 775, 3) := dk_181 3 7 (dk_at dksX2_clearModule_2 16 rfl rfl)
theorem dX2_clearModule_65 : decode cX2_clearModule 65 = .ok (.aload_n 0, 1) := dk_42 (dk_at dksX2_clearModule_2 19 rfl rfl)
theorem dX2_clearModule_66 : decode cX2_clearModule 66 = .ok (.iconst 0, 1) := dk_3 (dk_at dksX2_clearModule_2 20 rfl rfl)
theorem dX2_clearModule_67 : decode cX2_clearModule 67 = .ok (.putfield 778, 3) := dk_181 3 10 (dk_at dksX2_clearModule_2 21 rfl rfl)
theorem dX2_clearModule_70 : decode cX2_clearModule 70 = .ok (.aload_n 0, 1) := dk_42 (dk_at dksX2_clearModule_3 0 rfl rfl)
theorem dX2_clearModule_71 : decode cX2_clearModule 71 = .ok (.iconst 0, 1) := dk_3 (dk_at dksX2_clearModule_3 1 rfl rfl)
theorem dX2_clearModule_72 : decode cX2_clearModule 72 = .ok (.putfield 781, 3) := dk_181 3 13 (dk_at dksX2_clearModule_3 2 rfl rfl)
theorem dX2_clearModule_75 : decode cX2_clearModule 75 = .ok (.aload_n 0, 1) := dk_42 (dk_at dksX2_clearModule_3 5 rfl rfl)
theorem dX2_clearModule_76 : decode cX2_clearModule 76 = .ok (.invokevirtual 784, 3) := dk_182 3 16 (dk_at dksX2_clearModule_3 6 rfl rfl)
theorem dX2_clearModule_79 : decode cX2_clearModule 79 = .ok (.return_, 1) := dk_177 (dk_at dksX2_clearModule_3 9 rfl rfl)
abbrev cX2_clearPool : ByteArray := prog_4_method_56_code
def yX2_clearPool : MethodName := ⟨RX2, "clearPool", "()V"⟩
def dkwX2_clearPool_1 : List UInt8 := [79, 132, 1, 1, 167, 255, 240, 177]
abbrev dktX2_clearPool_1 : List UInt8 := dkwX2_clearPool_1 ++ []
def dkwX2_clearPool_0 : List UInt8 := [42, 3, 181, 2, 152, 42, 3, 181, 2, 155, 3, 60, 27, 18, 209, 162, 0, 16, 42, 180, 0, 210, 27, 2]
abbrev dktX2_clearPool_0 : List UInt8 := dkwX2_clearPool_0 ++ dktX2_clearPool_1
theorem dksX2_clearPool_0 : cX2_clearPool.data.toList.drop 0 = dktX2_clearPool_0 := by decide +kernel
theorem dksX2_clearPool_1 : cX2_clearPool.data.toList.drop 24 = dktX2_clearPool_1 := dk_seg dksX2_clearPool_0 24 rfl rfl
theorem dX2_clearPool_0 : decode cX2_clearPool 0 = .ok (.aload_n 0, 1) := dk_42 (dk_at dksX2_clearPool_0 0 rfl rfl)
theorem dX2_clearPool_1 : decode cX2_clearPool 1 = .ok (.iconst 0, 1) := dk_3 (dk_at dksX2_clearPool_0 1 rfl rfl)
theorem dX2_clearPool_2 : decode cX2_clearPool 2 = .ok (.putfield 664, 3) := dk_181 2 152 (dk_at dksX2_clearPool_0 2 rfl rfl)
theorem dX2_clearPool_5 : decode cX2_clearPool 5 = .ok (.aload_n 0, 1) := dk_42 (dk_at dksX2_clearPool_0 5 rfl rfl)
theorem dX2_clearPool_6 : decode cX2_clearPool 6 = .ok (.iconst 0, 1) := dk_3 (dk_at dksX2_clearPool_0 6 rfl rfl)
theorem dX2_clearPool_7 : decode cX2_clearPool 7 = .ok (.putfield 667, 3) := dk_181 2 155 (dk_at dksX2_clearPool_0 7 rfl rfl)
theorem dX2_clearPool_10 : decode cX2_clearPool 10 = .ok (.iconst 0, 1) := dk_3 (dk_at dksX2_clearPool_0 10 rfl rfl)
theorem dX2_clearPool_11 : decode cX2_clearPool 11 = .ok (.istore_n 1, 1) := dk_60 (dk_at dksX2_clearPool_0 11 rfl rfl)
theorem dX2_clearPool_12 : decode cX2_clearPool 12 = .ok (.iload_n 1, 1) := dk_27 (dk_at dksX2_clearPool_0 12 rfl rfl)
theorem dX2_clearPool_13 : decode cX2_clearPool 13 = .ok (.ldc 209, 2) := dk_18 209 (dk_at dksX2_clearPool_0 13 rfl rfl)
theorem dX2_clearPool_15 : decode cX2_clearPool 15 = .ok (.if_icmp .ge 16, 3) := dk_162 0 16 (dk_at dksX2_clearPool_0 15 rfl rfl)
theorem dX2_clearPool_18 : decode cX2_clearPool 18 = .ok (.aload_n 0, 1) := dk_42 (dk_at dksX2_clearPool_0 18 rfl rfl)
theorem dX2_clearPool_19 : decode cX2_clearPool 19 = .ok (.getfield 210, 3) := dk_180 0 210 (dk_at dksX2_clearPool_0 19 rfl rfl)
theorem dX2_clearPool_22 : decode cX2_clearPool 22 = .ok (.iload_n 1, 1) := dk_27 (dk_at dksX2_clearPool_0 22 rfl rfl)
theorem dX2_clearPool_23 : decode cX2_clearPool 23 = .ok (.iconst (-1), 1) := dk_2 (dk_at dksX2_clearPool_0 23 rfl rfl)
theorem dX2_clearPool_24 : decode cX2_clearPool 24 = .ok (.iastore, 1) := dk_79 (dk_at dksX2_clearPool_1 0 rfl rfl)
theorem dX2_clearPool_25 : decode cX2_clearPool 25 = .ok (.iinc 1 1, 3) := dk_132 1 1 (dk_at dksX2_clearPool_1 1 rfl rfl)
theorem dX2_clearPool_28 : decode cX2_clearPool 28 = .ok (.goto (-16), 3) := dk_167 255 240 (dk_at dksX2_clearPool_1 4 rfl rfl)
theorem dX2_clearPool_31 : decode cX2_clearPool 31 = .ok (.return_, 1) := dk_177 (dk_at dksX2_clearPool_1 7 rfl rfl)
abbrev cX2_feed : ByteArray := prog_4_method_5_code
def yX2_feed : MethodName := ⟨RX2, "feed", "(IIIII)I"⟩
def dkwX2_feed_5 : List UInt8 := [181, 1, 142, 42, 180, 1, 142, 172]
abbrev dktX2_feed_5 : List UInt8 := dkwX2_feed_5 ++ []
def dkwX2_feed_4 : List UInt8 := [21, 6, 7, 112, 104, 100, 124, 145, 84, 132, 6, 1, 167, 255, 172, 42, 42, 180, 1, 142, 16, 20, 96]
abbrev dktX2_feed_4 : List UInt8 := dkwX2_feed_4 ++ dktX2_feed_5
def dkwX2_feed_3 : List UInt8 := [167, 0, 5, 21, 5, 54, 7, 42, 180, 0, 26, 42, 180, 1, 142, 21, 6, 96, 21, 7, 16, 24, 16, 8]
abbrev dktX2_feed_3 : List UInt8 := dkwX2_feed_3 ++ dktX2_feed_4
def dkwX2_feed_2 : List UInt8 := [28, 167, 0, 28, 21, 6, 16, 12, 162, 0, 7, 29, 167, 0, 17, 21, 6, 16, 16, 162, 0, 8, 21, 4]
abbrev dktX2_feed_2 : List UInt8 := dkwX2_feed_2 ++ dktX2_feed_3
def dkwX2_feed_1 : List UInt8 := [21, 6, 16, 20, 162, 0, 83, 21, 6, 7, 162, 0, 7, 27, 167, 0, 39, 21, 6, 16, 8, 162, 0, 7]
abbrev dktX2_feed_1 : List UInt8 := dkwX2_feed_1 ++ dktX2_feed_2
def dkwX2_feed_0 : List UInt8 := [42, 3, 181, 0, 1, 42, 180, 1, 142, 16, 20, 96, 17, 23, 112, 164, 0, 6, 16, 253, 172, 3, 54, 6]
abbrev dktX2_feed_0 : List UInt8 := dkwX2_feed_0 ++ dktX2_feed_1
theorem dksX2_feed_0 : cX2_feed.data.toList.drop 0 = dktX2_feed_0 := by decide +kernel
theorem dksX2_feed_1 : cX2_feed.data.toList.drop 24 = dktX2_feed_1 := dk_seg dksX2_feed_0 24 rfl rfl
theorem dksX2_feed_2 : cX2_feed.data.toList.drop 48 = dktX2_feed_2 := dk_seg dksX2_feed_1 24 rfl rfl
theorem dksX2_feed_3 : cX2_feed.data.toList.drop 72 = dktX2_feed_3 := dk_seg dksX2_feed_2 24 rfl rfl
theorem dksX2_feed_4 : cX2_feed.data.toList.drop 96 = dktX2_feed_4 := dk_seg dksX2_feed_3 24 rfl rfl
theorem dksX2_feed_5 : cX2_feed.data.toList.drop 119 = dktX2_feed_5 := dk_seg dksX2_feed_4 23 rfl rfl
theorem dX2_feed_0 : decode cX2_feed 0 = .ok (.aload_n 0, 1) := dk_42 (dk_at dksX2_feed_0 0 rfl rfl)
theorem dX2_feed_1 : decode cX2_feed 1 = .ok (.iconst 0, 1) := dk_3 (dk_at dksX2_feed_0 1 rfl rfl)
theorem dX2_feed_2 : decode cX2_feed 2 = .ok (.putfield 1, 3) := dk_181 0 1 (dk_at dksX2_feed_0 2 rfl rfl)
theorem dX2_feed_5 : decode cX2_feed 5 = .ok (.aload_n 0, 1) := dk_42 (dk_at dksX2_feed_0 5 rfl rfl)
theorem dX2_feed_6 : decode cX2_feed 6 = .ok (.getfield 398, 3) := dk_180 1 142 (dk_at dksX2_feed_0 6 rfl rfl)
theorem dX2_feed_9 : decode cX2_feed 9 = .ok (.bipush 20, 2) := dk_16 20 (dk_at dksX2_feed_0 9 rfl rfl)
theorem dX2_feed_11 : decode cX2_feed 11 = .ok (.iadd, 1) := dk_96 (dk_at dksX2_feed_0 11 rfl rfl)
theorem dX2_feed_12 : decode cX2_feed 12 = .ok (.sipush 6000, 3) := dk_17 23 112 (dk_at dksX2_feed_0 12 rfl rfl)
theorem dX2_feed_15 : decode cX2_feed 15 = .ok (.if_icmp .le 6, 3) := dk_164 0 6 (dk_at dksX2_feed_0 15 rfl rfl)
theorem dX2_feed_18 : decode cX2_feed 18 = .ok (.bipush (-3), 2) := dk_16 253 (dk_at dksX2_feed_0 18 rfl rfl)
theorem dX2_feed_20 : decode cX2_feed 20 = .ok (.ireturn, 1) := dk_172 (dk_at dksX2_feed_0 20 rfl rfl)
theorem dX2_feed_21 : decode cX2_feed 21 = .ok (.iconst 0, 1) := dk_3 (dk_at dksX2_feed_0 21 rfl rfl)
theorem dX2_feed_22 : decode cX2_feed 22 = .ok (.istore 6, 2) := dk_54 6 (dk_at dksX2_feed_0 22 rfl rfl)
theorem dX2_feed_24 : decode cX2_feed 24 = .ok (.iload 6, 2) := dk_21 6 (dk_at dksX2_feed_1 0 rfl rfl)
theorem dX2_feed_26 : decode cX2_feed 26 = .ok (.bipush 20, 2) := dk_16 20 (dk_at dksX2_feed_1 2 rfl rfl)
theorem dX2_feed_28 : decode cX2_feed 28 = .ok (.if_icmp .ge 83, 3) := dk_162 0 83 (dk_at dksX2_feed_1 4 rfl rfl)
theorem dX2_feed_31 : decode cX2_feed 31 = .ok (.iload 6, 2) := dk_21 6 (dk_at dksX2_feed_1 7 rfl rfl)
theorem dX2_feed_33 : decode cX2_feed 33 = .ok (.iconst 4, 1) := dk_7 (dk_at dksX2_feed_1 9 rfl rfl)
theorem dX2_feed_34 : decode cX2_feed 34 = .ok (.if_icmp .ge 7, 3) := dk_162 0 7 (dk_at dksX2_feed_1 10 rfl rfl)
theorem dX2_feed_37 : decode cX2_feed 37 = .ok (.iload_n 1, 1) := dk_27 (dk_at dksX2_feed_1 13 rfl rfl)
theorem dX2_feed_38 : decode cX2_feed 38 = .ok (.goto 39, 3) := dk_167 0 39 (dk_at dksX2_feed_1 14 rfl rfl)
theorem dX2_feed_41 : decode cX2_feed 41 = .ok (.iload 6, 2) := dk_21 6 (dk_at dksX2_feed_1 17 rfl rfl)
theorem dX2_feed_43 : decode cX2_feed 43 = .ok (.bipush 8, 2) := dk_16 8 (dk_at dksX2_feed_1 19 rfl rfl)
theorem dX2_feed_45 : decode cX2_feed 45 = .ok (.if_icmp .ge 7, 3) := dk_162 0 7 (dk_at dksX2_feed_1 21 rfl rfl)
theorem dX2_feed_48 : decode cX2_feed 48 = .ok (.iload_n 2, 1) := dk_28 (dk_at dksX2_feed_2 0 rfl rfl)
theorem dX2_feed_49 : decode cX2_feed 49 = .ok (.goto 28, 3) := dk_167 0 28 (dk_at dksX2_feed_2 1 rfl rfl)
theorem dX2_feed_52 : decode cX2_feed 52 = .ok (.iload 6, 2) := dk_21 6 (dk_at dksX2_feed_2 4 rfl rfl)
theorem dX2_feed_54 : decode cX2_feed 54 = .ok (.bipush 12, 2) := dk_16 12 (dk_at dksX2_feed_2 6 rfl rfl)
theorem dX2_feed_56 : decode cX2_feed 56 = .ok (.if_icmp .ge 7, 3) := dk_162 0 7 (dk_at dksX2_feed_2 8 rfl rfl)
theorem dX2_feed_59 : decode cX2_feed 59 = .ok (.iload_n 3, 1) := dk_29 (dk_at dksX2_feed_2 11 rfl rfl)
theorem dX2_feed_60 : decode cX2_feed 60 = .ok (.goto 17, 3) := dk_167 0 17 (dk_at dksX2_feed_2 12 rfl rfl)
theorem dX2_feed_63 : decode cX2_feed 63 = .ok (.iload 6, 2) := dk_21 6 (dk_at dksX2_feed_2 15 rfl rfl)
theorem dX2_feed_65 : decode cX2_feed 65 = .ok (.bipush 16, 2) := dk_16 16 (dk_at dksX2_feed_2 17 rfl rfl)
theorem dX2_feed_67 : decode cX2_feed 67 = .ok (.if_icmp .ge 8, 3) := dk_162 0 8 (dk_at dksX2_feed_2 19 rfl rfl)
theorem dX2_feed_70 : decode cX2_feed 70 = .ok (.iload 4, 2) := dk_21 4 (dk_at dksX2_feed_2 22 rfl rfl)
theorem dX2_feed_72 : decode cX2_feed 72 = .ok (.goto 5, 3) := dk_167 0 5 (dk_at dksX2_feed_3 0 rfl rfl)
theorem dX2_feed_75 : decode cX2_feed 75 = .ok (.iload 5, 2) := dk_21 5 (dk_at dksX2_feed_3 3 rfl rfl)
theorem dX2_feed_77 : decode cX2_feed 77 = .ok (.istore 7, 2) := dk_54 7 (dk_at dksX2_feed_3 5 rfl rfl)
theorem dX2_feed_79 : decode cX2_feed 79 = .ok (.aload_n 0, 1) := dk_42 (dk_at dksX2_feed_3 7 rfl rfl)
theorem dX2_feed_80 : decode cX2_feed 80 = .ok (.getfield 26, 3) := dk_180 0 26 (dk_at dksX2_feed_3 8 rfl rfl)
theorem dX2_feed_83 : decode cX2_feed 83 = .ok (.aload_n 0, 1) := dk_42 (dk_at dksX2_feed_3 11 rfl rfl)
theorem dX2_feed_84 : decode cX2_feed 84 = .ok (.getfield 398, 3) := dk_180 1 142 (dk_at dksX2_feed_3 12 rfl rfl)
theorem dX2_feed_87 : decode cX2_feed 87 = .ok (.iload 6, 2) := dk_21 6 (dk_at dksX2_feed_3 15 rfl rfl)
theorem dX2_feed_89 : decode cX2_feed 89 = .ok (.iadd, 1) := dk_96 (dk_at dksX2_feed_3 17 rfl rfl)
theorem dX2_feed_90 : decode cX2_feed 90 = .ok (.iload 7, 2) := dk_21 7 (dk_at dksX2_feed_3 18 rfl rfl)
theorem dX2_feed_92 : decode cX2_feed 92 = .ok (.bipush 24, 2) := dk_16 24 (dk_at dksX2_feed_3 20 rfl rfl)
theorem dX2_feed_94 : decode cX2_feed 94 = .ok (.bipush 8, 2) := dk_16 8 (dk_at dksX2_feed_3 22 rfl rfl)
theorem dX2_feed_96 : decode cX2_feed 96 = .ok (.iload 6, 2) := dk_21 6 (dk_at dksX2_feed_4 0 rfl rfl)
theorem dX2_feed_98 : decode cX2_feed 98 = .ok (.iconst 4, 1) := dk_7 (dk_at dksX2_feed_4 2 rfl rfl)
theorem dX2_feed_99 : decode cX2_feed 99 = .ok (.irem, 1) := dk_112 (dk_at dksX2_feed_4 3 rfl rfl)
theorem dX2_feed_100 : decode cX2_feed 100 = .ok (.imul, 1) := dk_104 (dk_at dksX2_feed_4 4 rfl rfl)
theorem dX2_feed_101 : decode cX2_feed 101 = .ok (.isub, 1) := dk_100 (dk_at dksX2_feed_4 5 rfl rfl)
theorem dX2_feed_102 : decode cX2_feed 102 = .ok (.iushr, 1) := dk_124 (dk_at dksX2_feed_4 6 rfl rfl)
theorem dX2_feed_103 : decode cX2_feed 103 = .ok (.i2b, 1) := dk_145 (dk_at dksX2_feed_4 7 rfl rfl)
theorem dX2_feed_104 : decode cX2_feed 104 = .ok (.bastore, 1) := dk_84 (dk_at dksX2_feed_4 8 rfl rfl)
theorem dX2_feed_105 : decode cX2_feed 105 = .ok (.iinc 6 1, 3) := dk_132 6 1 (dk_at dksX2_feed_4 9 rfl rfl)
theorem dX2_feed_108 : decode cX2_feed 108 = .ok (.goto (-84), 3) := dk_167 255 172 (dk_at dksX2_feed_4 12 rfl rfl)
theorem dX2_feed_111 : decode cX2_feed 111 = .ok (.aload_n 0, 1) := dk_42 (dk_at dksX2_feed_4 15 rfl rfl)
theorem dX2_feed_112 : decode cX2_feed 112 = .ok (.aload_n 0, 1) := dk_42 (dk_at dksX2_feed_4 16 rfl rfl)
theorem dX2_feed_113 : decode cX2_feed 113 = .ok (.getfield 398, 3) := dk_180 1 142 (dk_at dksX2_feed_4 17 rfl rfl)
theorem dX2_feed_116 : decode cX2_feed 116 = .ok (.bipush 20, 2) := dk_16 20 (dk_at dksX2_feed_4 20 rfl rfl)
theorem dX2_feed_118 : decode cX2_feed 118 = .ok (.iadd, 1) := dk_96 (dk_at dksX2_feed_4 22 rfl rfl)
theorem dX2_feed_119 : decode cX2_feed 119 = .ok (.putfield 398, 3) := dk_181 1 142 (dk_at dksX2_feed_5 0 rfl rfl)
theorem dX2_feed_122 : decode cX2_feed 122 = .ok (.aload_n 0, 1) := dk_42 (dk_at dksX2_feed_5 3 rfl rfl)
theorem dX2_feed_123 : decode cX2_feed 123 = .ok (.getfield 398, 3) := dk_180 1 142 (dk_at dksX2_feed_5 4 rfl rfl)
theorem dX2_feed_126 : decode cX2_feed 126 = .ok (.ireturn, 1) := dk_172 (dk_at dksX2_feed_5 7 rfl rfl)
abbrev cX2_end : ByteArray := prog_4_method_6_code
def yX2_end : MethodName := ⟨RX2, "end", "(I)I"⟩
def dkwX2_end_1 : List UInt8 := [162, 0, 5, 2, 172, 42, 42, 180, 1, 142, 27, 96, 16, 20, 100, 181, 1, 142, 42, 180, 1, 142, 172]
abbrev dktX2_end_1 : List UInt8 := dkwX2_end_1 ++ []
def dkwX2_end_0 : List UInt8 := [42, 3, 181, 0, 1, 27, 133, 9, 20, 1, 145, 184, 1, 147, 153, 0, 12, 42, 180, 1, 142, 16, 20]
abbrev dktX2_end_0 : List UInt8 := dkwX2_end_0 ++ dktX2_end_1
theorem dksX2_end_0 : cX2_end.data.toList.drop 0 = dktX2_end_0 := by decide +kernel
theorem dksX2_end_1 : cX2_end.data.toList.drop 23 = dktX2_end_1 := dk_seg dksX2_end_0 23 rfl rfl
theorem dX2_end_0 : decode cX2_end 0 = .ok (.aload_n 0, 1) := dk_42 (dk_at dksX2_end_0 0 rfl rfl)
theorem dX2_end_1 : decode cX2_end 1 = .ok (.iconst 0, 1) := dk_3 (dk_at dksX2_end_0 1 rfl rfl)
theorem dX2_end_2 : decode cX2_end 2 = .ok (.putfield 1, 3) := dk_181 0 1 (dk_at dksX2_end_0 2 rfl rfl)
theorem dX2_end_5 : decode cX2_end 5 = .ok (.iload_n 1, 1) := dk_27 (dk_at dksX2_end_0 5 rfl rfl)
theorem dX2_end_6 : decode cX2_end 6 = .ok (.i2l, 1) := dk_133 (dk_at dksX2_end_0 6 rfl rfl)
theorem dX2_end_7 : decode cX2_end 7 = .ok (.lconst 0, 1) := dk_9 (dk_at dksX2_end_0 7 rfl rfl)
theorem dX2_end_8 : decode cX2_end 8 = .ok (.ldc2_w 401, 3) := dk_20 1 145 (dk_at dksX2_end_0 8 rfl rfl)
theorem dX2_end_11 : decode cX2_end 11 = .ok (.invokestatic 403, 3) := dk_184 1 147 (dk_at dksX2_end_0 11 rfl rfl)
theorem dX2_end_14 : decode cX2_end 14 = .ok (.ifCond .eq 12, 3) := dk_153 0 12 (dk_at dksX2_end_0 14 rfl rfl)
theorem dX2_end_17 : decode cX2_end 17 = .ok (.aload_n 0, 1) := dk_42 (dk_at dksX2_end_0 17 rfl rfl)
theorem dX2_end_18 : decode cX2_end 18 = .ok (.getfield 398, 3) := dk_180 1 142 (dk_at dksX2_end_0 18 rfl rfl)
theorem dX2_end_21 : decode cX2_end 21 = .ok (.bipush 20, 2) := dk_16 20 (dk_at dksX2_end_0 21 rfl rfl)
theorem dX2_end_23 : decode cX2_end 23 = .ok (.if_icmp .ge 5, 3) := dk_162 0 5 (dk_at dksX2_end_1 0 rfl rfl)
theorem dX2_end_26 : decode cX2_end 26 = .ok (.iconst (-1), 1) := dk_2 (dk_at dksX2_end_1 3 rfl rfl)
theorem dX2_end_27 : decode cX2_end 27 = .ok (.ireturn, 1) := dk_172 (dk_at dksX2_end_1 4 rfl rfl)
theorem dX2_end_28 : decode cX2_end 28 = .ok (.aload_n 0, 1) := dk_42 (dk_at dksX2_end_1 5 rfl rfl)
theorem dX2_end_29 : decode cX2_end 29 = .ok (.aload_n 0, 1) := dk_42 (dk_at dksX2_end_1 6 rfl rfl)
theorem dX2_end_30 : decode cX2_end 30 = .ok (.getfield 398, 3) := dk_180 1 142 (dk_at dksX2_end_1 7 rfl rfl)
theorem dX2_end_33 : decode cX2_end 33 = .ok (.iload_n 1, 1) := dk_27 (dk_at dksX2_end_1 10 rfl rfl)
theorem dX2_end_34 : decode cX2_end 34 = .ok (.iadd, 1) := dk_96 (dk_at dksX2_end_1 11 rfl rfl)
theorem dX2_end_35 : decode cX2_end 35 = .ok (.bipush 20, 2) := dk_16 20 (dk_at dksX2_end_1 12 rfl rfl)
theorem dX2_end_37 : decode cX2_end 37 = .ok (.isub, 1) := dk_100 (dk_at dksX2_end_1 14 rfl rfl)
theorem dX2_end_38 : decode cX2_end 38 = .ok (.putfield 398, 3) := dk_181 1 142 (dk_at dksX2_end_1 15 rfl rfl)
theorem dX2_end_41 : decode cX2_end 41 = .ok (.aload_n 0, 1) := dk_42 (dk_at dksX2_end_1 18 rfl rfl)
theorem dX2_end_42 : decode cX2_end 42 = .ok (.getfield 398, 3) := dk_180 1 142 (dk_at dksX2_end_1 19 rfl rfl)
theorem dX2_end_45 : decode cX2_end 45 = .ok (.ireturn, 1) := dk_172 (dk_at dksX2_end_1 22 rfl rfl)
abbrev cX2_in : ByteArray := prog_4_method_2_code
def yX2_in : MethodName := ⟨RX2, "in", "(JJJ)Z"⟩
def dkwX2_in_0 : List UInt8 := [30, 32, 148, 155, 0, 14, 30, 22, 4, 148, 157, 0, 7, 4, 167, 0, 4, 3, 172]
abbrev dktX2_in_0 : List UInt8 := dkwX2_in_0 ++ []
theorem dksX2_in_0 : cX2_in.data.toList.drop 0 = dktX2_in_0 := by decide +kernel
theorem dX2_in_0 : decode cX2_in 0 = .ok (.lload_n 0, 1) := dk_30 (dk_at dksX2_in_0 0 rfl rfl)
theorem dX2_in_1 : decode cX2_in 1 = .ok (.lload_n 2, 1) := dk_32 (dk_at dksX2_in_0 1 rfl rfl)
theorem dX2_in_2 : decode cX2_in 2 = .ok (.lcmp, 1) := dk_148 (dk_at dksX2_in_0 2 rfl rfl)
theorem dX2_in_3 : decode cX2_in 3 = .ok (.ifCond .lt 14, 3) := dk_155 0 14 (dk_at dksX2_in_0 3 rfl rfl)
theorem dX2_in_6 : decode cX2_in 6 = .ok (.lload_n 0, 1) := dk_30 (dk_at dksX2_in_0 6 rfl rfl)
theorem dX2_in_7 : decode cX2_in 7 = .ok (.lload 4, 2) := dk_22 4 (dk_at dksX2_in_0 7 rfl rfl)
theorem dX2_in_9 : decode cX2_in 9 = .ok (.lcmp, 1) := dk_148 (dk_at dksX2_in_0 9 rfl rfl)
theorem dX2_in_10 : decode cX2_in 10 = .ok (.ifCond .gt 7, 3) := dk_157 0 7 (dk_at dksX2_in_0 10 rfl rfl)
theorem dX2_in_13 : decode cX2_in 13 = .ok (.iconst 1, 1) := dk_4 (dk_at dksX2_in_0 13 rfl rfl)
theorem dX2_in_14 : decode cX2_in 14 = .ok (.goto 4, 3) := dk_167 0 4 (dk_at dksX2_in_0 14 rfl rfl)
theorem dX2_in_17 : decode cX2_in 17 = .ok (.iconst 0, 1) := dk_3 (dk_at dksX2_in_0 17 rfl rfl)
theorem dX2_in_18 : decode cX2_in 18 = .ok (.ireturn, 1) := dk_172 (dk_at dksX2_in_0 18 rfl rfl)
abbrev cX2_module : ByteArray := prog_4_method_92_code
def yX2_module : MethodName := ⟨RX2, "module", "()I"⟩
def dkwX2_module_1 : List UInt8 := [76, 42, 182, 1, 139, 42, 182, 3, 74, 172, 42, 180, 2, 131, 172]
abbrev dktX2_module_1 : List UInt8 := dkwX2_module_1 ++ []
def dkwX2_module_0 : List UInt8 := [42, 3, 181, 0, 1, 42, 182, 1, 139, 42, 182, 3, 65, 42, 182, 3, 68, 42, 182, 3, 71, 167, 0, 13]
abbrev dktX2_module_0 : List UInt8 := dkwX2_module_0 ++ dktX2_module_1
theorem dksX2_module_0 : cX2_module.data.toList.drop 0 = dktX2_module_0 := by decide +kernel
theorem dksX2_module_1 : cX2_module.data.toList.drop 24 = dktX2_module_1 := dk_seg dksX2_module_0 24 rfl rfl
theorem dX2_module_0 : decode cX2_module 0 = .ok (.aload_n 0, 1) := dk_42 (dk_at dksX2_module_0 0 rfl rfl)
theorem dX2_module_1 : decode cX2_module 1 = .ok (.iconst 0, 1) := dk_3 (dk_at dksX2_module_0 1 rfl rfl)
theorem dX2_module_2 : decode cX2_module 2 = .ok (.putfield 1, 3) := dk_181 0 1 (dk_at dksX2_module_0 2 rfl rfl)
theorem dX2_module_5 : decode cX2_module 5 = .ok (.aload_n 0, 1) := dk_42 (dk_at dksX2_module_0 5 rfl rfl)
theorem dX2_module_6 : decode cX2_module 6 = .ok (.invokevirtual 395, 3) := dk_182 1 139 (dk_at dksX2_module_0 6 rfl rfl)
theorem dX2_module_9 : decode cX2_module 9 = .ok (.aload_n 0, 1) := dk_42 (dk_at dksX2_module_0 9 rfl rfl)
theorem dX2_module_10 : decode cX2_module 10 = .ok (.invokevirtual 833, 3) := dk_182 3 65 (dk_at dksX2_module_0 10 rfl rfl)
theorem dX2_module_13 : decode cX2_module 13 = .ok (.aload_n 0, 1) := dk_42 (dk_at dksX2_module_0 13 rfl rfl)
theorem dX2_module_14 : decode cX2_module 14 = .ok (.invokevirtual 836, 3) := dk_182 3 68 (dk_at dksX2_module_0 14 rfl rfl)
theorem dX2_module_17 : decode cX2_module 17 = .ok (.aload_n 0, 1) := dk_42 (dk_at dksX2_module_0 17 rfl rfl)
theorem dX2_module_18 : decode cX2_module 18 = .ok (.invokevirtual 839, 3) := dk_182 3 71 (dk_at dksX2_module_0 18 rfl rfl)
theorem dX2_module_21 : decode cX2_module 21 = .ok (.goto 13, 3) := dk_167 0 13 (dk_at dksX2_module_0 21 rfl rfl)
theorem dX2_module_24 : decode cX2_module 24 = .ok (.astore_n 1, 1) := dk_76 (dk_at dksX2_module_1 0 rfl rfl)
theorem dX2_module_25 : decode cX2_module 25 = .ok (.aload_n 0, 1) := dk_42 (dk_at dksX2_module_1 1 rfl rfl)
theorem dX2_module_26 : decode cX2_module 26 = .ok (.invokevirtual 395, 3) := dk_182 1 139 (dk_at dksX2_module_1 2 rfl rfl)
theorem dX2_module_29 : decode cX2_module 29 = .ok (.aload_n 0, 1) := dk_42 (dk_at dksX2_module_1 5 rfl rfl)
theorem dX2_module_30 : decode cX2_module 30 = .ok (.invokevirtual 842, 3) := dk_182 3 74 (dk_at dksX2_module_1 6 rfl rfl)
theorem dX2_module_33 : decode cX2_module 33 = .ok (.ireturn, 1) := dk_172 (dk_at dksX2_module_1 9 rfl rfl)
theorem dX2_module_34 : decode cX2_module 34 = .ok (.aload_n 0, 1) := dk_42 (dk_at dksX2_module_1 10 rfl rfl)
theorem dX2_module_35 : decode cX2_module 35 = .ok (.getfield 643, 3) := dk_180 2 131 (dk_at dksX2_module_1 11 rfl rfl)
theorem dX2_module_38 : decode cX2_module 38 = .ok (.ireturn, 1) := dk_172 (dk_at dksX2_module_1 14 rfl rfl)
abbrev cX2_findWords : ByteArray := prog_4_method_10_code
def yX2_findWords : MethodName := ⟨RX2, "findWords", "()V"⟩
def dkwX2_findWords_15 : List UInt8 := [177]
abbrev dktX2_findWords_15 : List UInt8 := dkwX2_findWords_15 ++ []
def dkwX2_findWords_14 : List UInt8 := [180, 0, 37, 42, 180, 1, 154, 27, 29, 100, 79, 42, 89, 180, 1, 154, 4, 96, 181, 1, 154, 167, 254, 222]
abbrev dktX2_findWords_14 : List UInt8 := dkwX2_findWords_14 ++ dktX2_findWords_15
def dkwX2_findWords_13 : List UInt8 := [155, 0, 12, 42, 21, 4, 181, 1, 157, 167, 0, 35, 42, 180, 0, 33, 42, 180, 1, 154, 29, 79, 42]
abbrev dktX2_findWords_13 : List UInt8 := dkwX2_findWords_13 ++ dktX2_findWords_14
def dkwX2_findWords_12 : List UInt8 := [132, 1, 1, 167, 255, 234, 27, 29, 100, 16, 16, 164, 0, 11, 42, 29, 181, 1, 157, 167, 0, 49, 21, 4]
abbrev dktX2_findWords_12 : List UInt8 := dkwX2_findWords_12 ++ dktX2_findWords_13
def dkwX2_findWords_11 : List UInt8 := [160, 0, 28, 27, 42, 180, 1, 151, 162, 0, 82, 42, 180, 0, 30, 27, 51, 16, 10, 159, 0, 71]
abbrev dktX2_findWords_11 : List UInt8 := dkwX2_findWords_11 ++ dktX2_findWords_12
def dkwX2_findWords_10 : List UInt8 := [42, 180, 0, 30, 29, 4, 96, 51, 16, 42, 160, 0, 41, 42, 180, 0, 30, 29, 5, 96, 51, 16, 42]
abbrev dktX2_findWords_10 : List UInt8 := dkwX2_findWords_10 ++ dktX2_findWords_11
def dkwX2_findWords_9 : List UInt8 := [132, 1, 1, 167, 255, 192, 27, 29, 100, 6, 161, 0, 65, 42, 180, 0, 30, 29, 51, 16, 42, 160, 0, 54]
abbrev dktX2_findWords_9 : List UInt8 := dkwX2_findWords_9 ++ dktX2_findWords_10
def dkwX2_findWords_8 : List UInt8 := [182, 1, 163, 133, 20, 1, 174, 20, 1, 176, 184, 1, 147, 154, 0, 7, 27, 167, 0, 5, 21, 4, 54, 4]
abbrev dktX2_findWords_8 : List UInt8 := dkwX2_findWords_8 ++ dktX2_findWords_9
def dkwX2_findWords_7 : List UInt8 := [184, 1, 167, 154, 0, 51, 42, 27, 182, 1, 163, 184, 1, 171, 154, 0, 40, 21, 4, 156, 0, 25, 42, 27]
abbrev dktX2_findWords_7 : List UInt8 := dkwX2_findWords_7 ++ dktX2_findWords_8
def dkwX2_findWords_6 : List UInt8 := [132, 1, 1, 167, 0, 206, 27, 62, 2, 54, 4, 27, 42, 180, 1, 151, 162, 0, 62, 42, 27, 182, 1, 163]
abbrev dktX2_findWords_6 : List UInt8 := dkwX2_findWords_6 ++ dktX2_findWords_7
def dkwX2_findWords_5 : List UInt8 := [27, 79, 42, 180, 0, 37, 42, 180, 1, 154, 4, 79, 42, 89, 180, 1, 154, 4, 96, 181, 1, 154]
abbrev dktX2_findWords_5 : List UInt8 := dkwX2_findWords_5 ++ dktX2_findWords_6
def dkwX2_findWords_4 : List UInt8 := [153, 0, 9, 132, 1, 1, 167, 0, 249, 28, 184, 1, 171, 153, 0, 39, 42, 180, 0, 33, 42, 180, 1, 154]
abbrev dktX2_findWords_4 : List UInt8 := dkwX2_findWords_4 ++ dktX2_findWords_5
def dkwX2_findWords_3 : List UInt8 := [156, 1, 25, 42, 180, 1, 154, 17, 3, 132, 163, 1, 15, 42, 27, 182, 1, 163, 61, 28, 184, 1, 167]
abbrev dktX2_findWords_3 : List UInt8 := dkwX2_findWords_3 ++ dktX2_findWords_4
def dkwX2_findWords_2 : List UInt8 := [181, 1, 157, 42, 3, 181, 1, 160, 3, 60, 27, 42, 180, 1, 151, 162, 1, 32, 42, 180, 1, 157]
abbrev dktX2_findWords_2 : List UInt8 := dkwX2_findWords_2 ++ dktX2_findWords_3
def dkwX2_findWords_1 : List UInt8 := [180, 0, 26, 27, 51, 84, 132, 1, 1, 167, 255, 233, 42, 3, 181, 1, 142, 42, 3, 181, 1, 154, 42, 2]
abbrev dktX2_findWords_1 : List UInt8 := dkwX2_findWords_1 ++ dktX2_findWords_2
def dkwX2_findWords_0 : List UInt8 := [42, 42, 180, 1, 142, 181, 1, 151, 3, 60, 27, 42, 180, 1, 142, 162, 0, 21, 42, 180, 0, 30, 27, 42]
abbrev dktX2_findWords_0 : List UInt8 := dkwX2_findWords_0 ++ dktX2_findWords_1
theorem dksX2_findWords_0 : cX2_findWords.data.toList.drop 0 = dktX2_findWords_0 := by decide +kernel
theorem dksX2_findWords_1 : cX2_findWords.data.toList.drop 24 = dktX2_findWords_1 := dk_seg dksX2_findWords_0 24 rfl rfl
theorem dksX2_findWords_2 : cX2_findWords.data.toList.drop 48 = dktX2_findWords_2 := dk_seg dksX2_findWords_1 24 rfl rfl
theorem dksX2_findWords_3 : cX2_findWords.data.toList.drop 70 = dktX2_findWords_3 := dk_seg dksX2_findWords_2 22 rfl rfl
theorem dksX2_findWords_4 : cX2_findWords.data.toList.drop 93 = dktX2_findWords_4 := dk_seg dksX2_findWords_3 23 rfl rfl
theorem dksX2_findWords_5 : cX2_findWords.data.toList.drop 117 = dktX2_findWords_5 := dk_seg dksX2_findWords_4 24 rfl rfl
theorem dksX2_findWords_6 : cX2_findWords.data.toList.drop 139 = dktX2_findWords_6 := dk_seg dksX2_findWords_5 22 rfl rfl
theorem dksX2_findWords_7 : cX2_findWords.data.toList.drop 163 = dktX2_findWords_7 := dk_seg dksX2_findWords_6 24 rfl rfl
theorem dksX2_findWords_8 : cX2_findWords.data.toList.drop 187 = dktX2_findWords_8 := dk_seg dksX2_findWords_7 24 rfl rfl
theorem dksX2_findWords_9 : cX2_findWords.data.toList.drop 211 = dktX2_findWords_9 := dk_seg dksX2_findWords_8 24 rfl rfl
theorem dksX2_findWords_10 : cX2_findWords.data.toList.drop 235 = dktX2_findWords_10 := dk_seg dksX2_findWords_9 24 rfl rfl
theorem dksX2_findWords_11 : cX2_findWords.data.toList.drop 258 = dktX2_findWords_11 := dk_seg dksX2_findWords_10 23 rfl rfl
theorem dksX2_findWords_12 : cX2_findWords.data.toList.drop 280 = dktX2_findWords_12 := dk_seg dksX2_findWords_11 22 rfl rfl
theorem dksX2_findWords_13 : cX2_findWords.data.toList.drop 304 = dktX2_findWords_13 := dk_seg dksX2_findWords_12 24 rfl rfl
theorem dksX2_findWords_14 : cX2_findWords.data.toList.drop 327 = dktX2_findWords_14 := dk_seg dksX2_findWords_13 23 rfl rfl
theorem dksX2_findWords_15 : cX2_findWords.data.toList.drop 351 = dktX2_findWords_15 := dk_seg dksX2_findWords_14 24 rfl rfl
theorem dX2_findWords_0 : decode cX2_findWords 0 = .ok (.aload_n 0, 1) := dk_42 (dk_at dksX2_findWords_0 0 rfl rfl)
theorem dX2_findWords_1 : decode cX2_findWords 1 = .ok (.aload_n 0, 1) := dk_42 (dk_at dksX2_findWords_0 1 rfl rfl)
theorem dX2_findWords_2 : decode cX2_findWords 2 = .ok (.getfield 398, 3) := dk_180 1 142 (dk_at dksX2_findWords_0 2 rfl rfl)
theorem dX2_findWords_5 : decode cX2_findWords 5 = .ok (.putfield 407, 3) := dk_181 1 151 (dk_at dksX2_findWords_0 5 rfl rfl)
theorem dX2_findWords_8 : decode cX2_findWords 8 = .ok (.iconst 0, 1) := dk_3 (dk_at dksX2_findWords_0 8 rfl rfl)
theorem dX2_findWords_9 : decode cX2_findWords 9 = .ok (.istore_n 1, 1) := dk_60 (dk_at dksX2_findWords_0 9 rfl rfl)
theorem dX2_findWords_10 : decode cX2_findWords 10 = .ok (.iload_n 1, 1) := dk_27 (dk_at dksX2_findWords_0 10 rfl rfl)
theorem dX2_findWords_11 : decode cX2_findWords 11 = .ok (.aload_n 0, 1) := dk_42 (dk_at dksX2_findWords_0 11 rfl rfl)
theorem dX2_findWords_12 : decode cX2_findWords 12 = .ok (.getfield 398, 3) := dk_180 1 142 (dk_at dksX2_findWords_0 12 rfl rfl)
theorem dX2_findWords_15 : decode cX2_findWords 15 = .ok (.if_icmp .ge 21, 3) := dk_162 0 21 (dk_at dksX2_findWords_0 15 rfl rfl)
theorem dX2_findWords_18 : decode cX2_findWords 18 = .ok (.aload_n 0, 1) := dk_42 (dk_at dksX2_findWords_0 18 rfl rfl)
theorem dX2_findWords_19 : decode cX2_findWords 19 = .ok (.getfield 30, 3) := dk_180 0 30 (dk_at dksX2_findWords_0 19 rfl rfl)
theorem dX2_findWords_22 : decode cX2_findWords 22 = .ok (.iload_n 1, 1) := dk_27 (dk_at dksX2_findWords_0 22 rfl rfl)
theorem dX2_findWords_23 : decode cX2_findWords 23 = .ok (.aload_n 0, 1) := dk_42 (dk_at dksX2_findWords_0 23 rfl rfl)
theorem dX2_findWords_24 : decode cX2_findWords 24 = .ok (.getfield 26, 3) := dk_180 0 26 (dk_at dksX2_findWords_1 0 rfl rfl)
theorem dX2_findWords_27 : decode cX2_findWords 27 = .ok (.iload_n 1, 1) := dk_27 (dk_at dksX2_findWords_1 3 rfl rfl)
theorem dX2_findWords_28 : decode cX2_findWords 28 = .ok (.baload, 1) := dk_51 (dk_at dksX2_findWords_1 4 rfl rfl)
theorem dX2_findWords_29 : decode cX2_findWords 29 = .ok (.bastore, 1) := dk_84 (dk_at dksX2_findWords_1 5 rfl rfl)
theorem dX2_findWords_30 : decode cX2_findWords 30 = .ok (.iinc 1 1, 3) := dk_132 1 1 (dk_at dksX2_findWords_1 6 rfl rfl)
theorem dX2_findWords_33 : decode cX2_findWords 33 = .ok (.goto (-23), 3) := dk_167 255 233 (dk_at dksX2_findWords_1 9 rfl rfl)
theorem dX2_findWords_36 : decode cX2_findWords 36 = .ok (.aload_n 0, 1) := dk_42 (dk_at dksX2_findWords_1 12 rfl rfl)
theorem dX2_findWords_37 : decode cX2_findWords 37 = .ok (.iconst 0, 1) := dk_3 (dk_at dksX2_findWords_1 13 rfl rfl)
theorem dX2_findWords_38 : decode cX2_findWords 38 = .ok (.putfield 398, 3) := dk_181 1 142 (dk_at dksX2_findWords_1 14 rfl rfl)
theorem dX2_findWords_41 : decode cX2_findWords 41 = .ok (.aload_n 0, 1) := dk_42 (dk_at dksX2_findWords_1 17 rfl rfl)
theorem dX2_findWords_42 : decode cX2_findWords 42 = .ok (.iconst 0, 1) := dk_3 (dk_at dksX2_findWords_1 18 rfl rfl)
theorem dX2_findWords_43 : decode cX2_findWords 43 = .ok (.putfield 410, 3) := dk_181 1 154 (dk_at dksX2_findWords_1 19 rfl rfl)
theorem dX2_findWords_46 : decode cX2_findWords 46 = .ok (.aload_n 0, 1) := dk_42 (dk_at dksX2_findWords_1 22 rfl rfl)
theorem dX2_findWords_47 : decode cX2_findWords 47 = .ok (.iconst (-1), 1) := dk_2 (dk_at dksX2_findWords_1 23 rfl rfl)
theorem dX2_findWords_48 : decode cX2_findWords 48 = .ok (.putfield 413, 3) := dk_181 1 157 (dk_at dksX2_findWords_2 0 rfl rfl)
theorem dX2_findWords_51 : decode cX2_findWords 51 = .ok (.aload_n 0, 1) := dk_42 (dk_at dksX2_findWords_2 3 rfl rfl)
theorem dX2_findWords_52 : decode cX2_findWords 52 = .ok (.iconst 0, 1) := dk_3 (dk_at dksX2_findWords_2 4 rfl rfl)
theorem dX2_findWords_53 : decode cX2_findWords 53 = .ok (.putfield 416, 3) := dk_181 1 160 (dk_at dksX2_findWords_2 5 rfl rfl)
theorem dX2_findWords_56 : decode cX2_findWords 56 = .ok (.iconst 0, 1) := dk_3 (dk_at dksX2_findWords_2 8 rfl rfl)
theorem dX2_findWords_57 : decode cX2_findWords 57 = .ok (.istore_n 1, 1) := dk_60 (dk_at dksX2_findWords_2 9 rfl rfl)
theorem dX2_findWords_58 : decode cX2_findWords 58 = .ok (.iload_n 1, 1) := dk_27 (dk_at dksX2_findWords_2 10 rfl rfl)
theorem dX2_findWords_59 : decode cX2_findWords 59 = .ok (.aload_n 0, 1) := dk_42 (dk_at dksX2_findWords_2 11 rfl rfl)
theorem dX2_findWords_60 : decode cX2_findWords 60 = .ok (.getfield 407, 3) := dk_180 1 151 (dk_at dksX2_findWords_2 12 rfl rfl)
theorem dX2_findWords_63 : decode cX2_findWords 63 = .ok (.if_icmp .ge 288, 3) := dk_162 1 32 (dk_at dksX2_findWords_2 15 rfl rfl)
theorem dX2_findWords_66 : decode cX2_findWords 66 = .ok (.aload_n 0, 1) := dk_42 (dk_at dksX2_findWords_2 18 rfl rfl)
theorem dX2_findWords_67 : decode cX2_findWords 67 = .ok (.getfield 413, 3) := dk_180 1 157 (dk_at dksX2_findWords_2 19 rfl rfl)
theorem dX2_findWords_70 : decode cX2_findWords 70 = .ok (.ifCond .ge 281, 3) := dk_156 1 25 (dk_at dksX2_findWords_3 0 rfl rfl)
theorem dX2_findWords_73 : decode cX2_findWords 73 = .ok (.aload_n 0, 1) := dk_42 (dk_at dksX2_findWords_3 3 rfl rfl)
theorem dX2_findWords_74 : decode cX2_findWords 74 = .ok (.getfield 410, 3) := dk_180 1 154 (dk_at dksX2_findWords_3 4 rfl rfl)
theorem dX2_findWords_77 : decode cX2_findWords 77 = .ok (.sipush 900, 3) := dk_17 3 132 (dk_at dksX2_findWords_3 7 rfl rfl)
theorem dX2_findWords_80 : decode cX2_findWords 80 = .ok (.if_icmp .gt 271, 3) := dk_163 1 15 (dk_at dksX2_findWords_3 10 rfl rfl)
theorem dX2_findWords_83 : decode cX2_findWords 83 = .ok (.aload_n 0, 1) := dk_42 (dk_at dksX2_findWords_3 13 rfl rfl)
theorem dX2_findWords_84 : decode cX2_findWords 84 = .ok (.iload_n 1, 1) := dk_27 (dk_at dksX2_findWords_3 14 rfl rfl)
theorem dX2_findWords_85 : decode cX2_findWords 85 = .ok (.invokevirtual 419, 3) := dk_182 1 163 (dk_at dksX2_findWords_3 15 rfl rfl)
theorem dX2_findWords_88 : decode cX2_findWords 88 = .ok (.istore_n 2, 1) := dk_61 (dk_at dksX2_findWords_3 18 rfl rfl)
theorem dX2_findWords_89 : decode cX2_findWords 89 = .ok (.iload_n 2, 1) := dk_28 (dk_at dksX2_findWords_3 19 rfl rfl)
theorem dX2_findWords_90 : decode cX2_findWords 90 = .ok (.invokestatic 423, 3) := dk_184 1 167 (dk_at dksX2_findWords_3 20 rfl rfl)
theorem dX2_findWords_93 : decode cX2_findWords 93 = .ok (.ifCond .eq 9, 3) := dk_153 0 9 (dk_at dksX2_findWords_4 0 rfl rfl)
theorem dX2_findWords_96 : decode cX2_findWords 96 = .ok (.iinc 1 1, 3) := dk_132 1 1 (dk_at dksX2_findWords_4 3 rfl rfl)
theorem dX2_findWords_99 : decode cX2_findWords 99 = .ok (.goto 249, 3) := dk_167 0 249 (dk_at dksX2_findWords_4 6 rfl rfl)
theorem dX2_findWords_102 : decode cX2_findWords 102 = .ok (.iload_n 2, 1) := dk_28 (dk_at dksX2_findWords_4 9 rfl rfl)
theorem dX2_findWords_103 : decode cX2_findWords 103 = .ok (.invokestatic 427, 3) := dk_184 1 171 (dk_at dksX2_findWords_4 10 rfl rfl)
theorem dX2_findWords_106 : decode cX2_findWords 106 = .ok (.ifCond .eq 39, 3) := dk_153 0 39 (dk_at dksX2_findWords_4 13 rfl rfl)
theorem dX2_findWords_109 : decode cX2_findWords 109 = .ok (.aload_n 0, 1) := dk_42 (dk_at dksX2_findWords_4 16 rfl rfl)
theorem dX2_findWords_110 : decode cX2_findWords 110 = .ok (.getfield 33, 3) := dk_180 0 33 (dk_at dksX2_findWords_4 17 rfl rfl)
theorem dX2_findWords_113 : decode cX2_findWords 113 = .ok (.aload_n 0, 1) := dk_42 (dk_at dksX2_findWords_4 20 rfl rfl)
theorem dX2_findWords_114 : decode cX2_findWords 114 = .ok (.getfield 410, 3) := dk_180 1 154 (dk_at dksX2_findWords_4 21 rfl rfl)
theorem dX2_findWords_117 : decode cX2_findWords 117 = .ok (.iload_n 1, 1) := dk_27 (dk_at dksX2_findWords_5 0 rfl rfl)
theorem dX2_findWords_118 : decode cX2_findWords 118 = .ok (.iastore, 1) := dk_79 (dk_at dksX2_findWords_5 1 rfl rfl)
theorem dX2_findWords_119 : decode cX2_findWords 119 = .ok (.aload_n 0, 1) := dk_42 (dk_at dksX2_findWords_5 2 rfl rfl)
theorem dX2_findWords_120 : decode cX2_findWords 120 = .ok (.getfield 37, 3) := dk_180 0 37 (dk_at dksX2_findWords_5 3 rfl rfl)
theorem dX2_findWords_123 : decode cX2_findWords 123 = .ok (.aload_n 0, 1) := dk_42 (dk_at dksX2_findWords_5 6 rfl rfl)
theorem dX2_findWords_124 : decode cX2_findWords 124 = .ok (.getfield 410, 3) := dk_180 1 154 (dk_at dksX2_findWords_5 7 rfl rfl)
theorem dX2_findWords_127 : decode cX2_findWords 127 = .ok (.iconst 1, 1) := dk_4 (dk_at dksX2_findWords_5 10 rfl rfl)
theorem dX2_findWords_128 : decode cX2_findWords 128 = .ok (.iastore, 1) := dk_79 (dk_at dksX2_findWords_5 11 rfl rfl)
theorem dX2_findWords_129 : decode cX2_findWords 129 = .ok (.aload_n 0, 1) := dk_42 (dk_at dksX2_findWords_5 12 rfl rfl)
theorem dX2_findWords_130 : decode cX2_findWords 130 = .ok (.dup, 1) := dk_89 (dk_at dksX2_findWords_5 13 rfl rfl)
theorem dX2_findWords_131 : decode cX2_findWords 131 = .ok (.getfield 410, 3) := dk_180 1 154 (dk_at dksX2_findWords_5 14 rfl rfl)
theorem dX2_findWords_134 : decode cX2_findWords 134 = .ok (.iconst 1, 1) := dk_4 (dk_at dksX2_findWords_5 17 rfl rfl)
theorem dX2_findWords_135 : decode cX2_findWords 135 = .ok (.iadd, 1) := dk_96 (dk_at dksX2_findWords_5 18 rfl rfl)
theorem dX2_findWords_136 : decode cX2_findWords 136 = .ok (.putfield 410, 3) := dk_181 1 154 (dk_at dksX2_findWords_5 19 rfl rfl)
theorem dX2_findWords_139 : decode cX2_findWords 139 = .ok (.iinc 1 1, 3) := dk_132 1 1 (dk_at dksX2_findWords_6 0 rfl rfl)
theorem dX2_findWords_142 : decode cX2_findWords 142 = .ok (.goto 206, 3) := dk_167 0 206 (dk_at dksX2_findWords_6 3 rfl rfl)
theorem dX2_findWords_145 : decode cX2_findWords 145 = .ok (.iload_n 1, 1) := dk_27 (dk_at dksX2_findWords_6 6 rfl rfl)
theorem dX2_findWords_146 : decode cX2_findWords 146 = .ok (.istore_n 3, 1) := dk_62 (dk_at dksX2_findWords_6 7 rfl rfl)
theorem dX2_findWords_147 : decode cX2_findWords 147 = .ok (.iconst (-1), 1) := dk_2 (dk_at dksX2_findWords_6 8 rfl rfl)
theorem dX2_findWords_148 : decode cX2_findWords 148 = .ok (.istore 4, 2) := dk_54 4 (dk_at dksX2_findWords_6 9 rfl rfl)
theorem dX2_findWords_150 : decode cX2_findWords 150 = .ok (.iload_n 1, 1) := dk_27 (dk_at dksX2_findWords_6 11 rfl rfl)
theorem dX2_findWords_151 : decode cX2_findWords 151 = .ok (.aload_n 0, 1) := dk_42 (dk_at dksX2_findWords_6 12 rfl rfl)
theorem dX2_findWords_152 : decode cX2_findWords 152 = .ok (.getfield 407, 3) := dk_180 1 151 (dk_at dksX2_findWords_6 13 rfl rfl)
theorem dX2_findWords_155 : decode cX2_findWords 155 = .ok (.if_icmp .ge 62, 3) := dk_162 0 62 (dk_at dksX2_findWords_6 16 rfl rfl)
theorem dX2_findWords_158 : decode cX2_findWords 158 = .ok (.aload_n 0, 1) := dk_42 (dk_at dksX2_findWords_6 19 rfl rfl)
theorem dX2_findWords_159 : decode cX2_findWords 159 = .ok (.iload_n 1, 1) := dk_27 (dk_at dksX2_findWords_6 20 rfl rfl)
theorem dX2_findWords_160 : decode cX2_findWords 160 = .ok (.invokevirtual 419, 3) := dk_182 1 163 (dk_at dksX2_findWords_6 21 rfl rfl)
theorem dX2_findWords_163 : decode cX2_findWords 163 = .ok (.invokestatic 423, 3) := dk_184 1 167 (dk_at dksX2_findWords_7 0 rfl rfl)
theorem dX2_findWords_166 : decode cX2_findWords 166 = .ok (.ifCond .ne 51, 3) := dk_154 0 51 (dk_at dksX2_findWords_7 3 rfl rfl)
theorem dX2_findWords_169 : decode cX2_findWords 169 = .ok (.aload_n 0, 1) := dk_42 (dk_at dksX2_findWords_7 6 rfl rfl)
theorem dX2_findWords_170 : decode cX2_findWords 170 = .ok (.iload_n 1, 1) := dk_27 (dk_at dksX2_findWords_7 7 rfl rfl)
theorem dX2_findWords_171 : decode cX2_findWords 171 = .ok (.invokevirtual 419, 3) := dk_182 1 163 (dk_at dksX2_findWords_7 8 rfl rfl)
theorem dX2_findWords_174 : decode cX2_findWords 174 = .ok (.invokestatic 427, 3) := dk_184 1 171 (dk_at dksX2_findWords_7 11 rfl rfl)
theorem dX2_findWords_177 : decode cX2_findWords 177 = .ok (.ifCond .ne 40, 3) := dk_154 0 40 (dk_at dksX2_findWords_7 14 rfl rfl)
theorem dX2_findWords_180 : decode cX2_findWords 180 = .ok (.iload 4, 2) := dk_21 4 (dk_at dksX2_findWords_7 17 rfl rfl)
theorem dX2_findWords_182 : decode cX2_findWords 182 = .ok (.ifCond .ge 25, 3) := dk_156 0 25 (dk_at dksX2_findWords_7 19 rfl rfl)
theorem dX2_findWords_185 : decode cX2_findWords 185 = .ok (.aload_n 0, 1) := dk_42 (dk_at dksX2_findWords_7 22 rfl rfl)
theorem dX2_findWords_186 : decode cX2_findWords 186 = .ok (.iload_n 1, 1) := dk_27 (dk_at dksX2_findWords_7 23 rfl rfl)
theorem dX2_findWords_187 : decode cX2_findWords 187 = .ok (.invokevirtual 419, 3) := dk_182 1 163 (dk_at dksX2_findWords_8 0 rfl rfl)
theorem dX2_findWords_190 : decode cX2_findWords 190 = .ok (.i2l, 1) := dk_133 (dk_at dksX2_findWords_8 3 rfl rfl)
theorem dX2_findWords_191 : decode cX2_findWords 191 = .ok (.ldc2_w 430, 3) := dk_20 1 174 (dk_at dksX2_findWords_8 4 rfl rfl)
theorem dX2_findWords_194 : decode cX2_findWords 194 = .ok (.ldc2_w 432, 3) := dk_20 1 176 (dk_at dksX2_findWords_8 7 rfl rfl)
theorem dX2_findWords_197 : decode cX2_findWords 197 = .ok (.invokestatic 403, 3) := dk_184 1 147 (dk_at dksX2_findWords_8 10 rfl rfl)
theorem dX2_findWords_200 : decode cX2_findWords 200 = .ok (.ifCond .ne 7, 3) := dk_154 0 7 (dk_at dksX2_findWords_8 13 rfl rfl)
theorem dX2_findWords_203 : decode cX2_findWords 203 = .ok (.iload_n 1, 1) := dk_27 (dk_at dksX2_findWords_8 16 rfl rfl)
theorem dX2_findWords_204 : decode cX2_findWords 204 = .ok (.goto 5, 3) := dk_167 0 5 (dk_at dksX2_findWords_8 17 rfl rfl)
theorem dX2_findWords_207 : decode cX2_findWords 207 = .ok (.iload 4, 2) := dk_21 4 (dk_at dksX2_findWords_8 20 rfl rfl)
theorem dX2_findWords_209 : decode cX2_findWords 209 = .ok (.istore 4, 2) := dk_54 4 (dk_at dksX2_findWords_8 22 rfl rfl)
theorem dX2_findWords_211 : decode cX2_findWords 211 = .ok (.iinc 1 1, 3) := dk_132 1 1 (dk_at dksX2_findWords_9 0 rfl rfl)
theorem dX2_findWords_214 : decode cX2_findWords 214 = .ok (.goto (-64), 3) := dk_167 255 192 (dk_at dksX2_findWords_9 3 rfl rfl)
theorem dX2_findWords_217 : decode cX2_findWords 217 = .ok (.iload_n 1, 1) := dk_27 (dk_at dksX2_findWords_9 6 rfl rfl)
theorem dX2_findWords_218 : decode cX2_findWords 218 = .ok (.iload_n 3, 1) := dk_29 (dk_at dksX2_findWords_9 7 rfl rfl)
theorem dX2_findWords_219 : decode cX2_findWords 219 = .ok (.isub, 1) := dk_100 (dk_at dksX2_findWords_9 8 rfl rfl)
theorem dX2_findWords_220 : decode cX2_findWords 220 = .ok (.iconst 3, 1) := dk_6 (dk_at dksX2_findWords_9 9 rfl rfl)
theorem dX2_findWords_221 : decode cX2_findWords 221 = .ok (.if_icmp .lt 65, 3) := dk_161 0 65 (dk_at dksX2_findWords_9 10 rfl rfl)
theorem dX2_findWords_224 : decode cX2_findWords 224 = .ok (.aload_n 0, 1) := dk_42 (dk_at dksX2_findWords_9 13 rfl rfl)
theorem dX2_findWords_225 : decode cX2_findWords 225 = .ok (.getfield 30, 3) := dk_180 0 30 (dk_at dksX2_findWords_9 14 rfl rfl)
theorem dX2_findWords_228 : decode cX2_findWords 228 = .ok (.iload_n 3, 1) := dk_29 (dk_at dksX2_findWords_9 17 rfl rfl)
theorem dX2_findWords_229 : decode cX2_findWords 229 = .ok (.baload, 1) := dk_51 (dk_at dksX2_findWords_9 18 rfl rfl)
theorem dX2_findWords_230 : decode cX2_findWords 230 = .ok (.bipush 42, 2) := dk_16 42 (dk_at dksX2_findWords_9 19 rfl rfl)
theorem dX2_findWords_232 : decode cX2_findWords 232 = .ok (.if_icmp .ne 54, 3) := dk_160 0 54 (dk_at dksX2_findWords_9 21 rfl rfl)
theorem dX2_findWords_235 : decode cX2_findWords 235 = .ok (.aload_n 0, 1) := dk_42 (dk_at dksX2_findWords_10 0 rfl rfl)
theorem dX2_findWords_236 : decode cX2_findWords 236 = .ok (.getfield 30, 3) := dk_180 0 30 (dk_at dksX2_findWords_10 1 rfl rfl)
theorem dX2_findWords_239 : decode cX2_findWords 239 = .ok (.iload_n 3, 1) := dk_29 (dk_at dksX2_findWords_10 4 rfl rfl)
theorem dX2_findWords_240 : decode cX2_findWords 240 = .ok (.iconst 1, 1) := dk_4 (dk_at dksX2_findWords_10 5 rfl rfl)
theorem dX2_findWords_241 : decode cX2_findWords 241 = .ok (.iadd, 1) := dk_96 (dk_at dksX2_findWords_10 6 rfl rfl)
theorem dX2_findWords_242 : decode cX2_findWords 242 = .ok (.baload, 1) := dk_51 (dk_at dksX2_findWords_10 7 rfl rfl)
theorem dX2_findWords_243 : decode cX2_findWords 243 = .ok (.bipush 42, 2) := dk_16 42 (dk_at dksX2_findWords_10 8 rfl rfl)
theorem dX2_findWords_245 : decode cX2_findWords 245 = .ok (.if_icmp .ne 41, 3) := dk_160 0 41 (dk_at dksX2_findWords_10 10 rfl rfl)
theorem dX2_findWords_248 : decode cX2_findWords 248 = .ok (.aload_n 0, 1) := dk_42 (dk_at dksX2_findWords_10 13 rfl rfl)
theorem dX2_findWords_249 : decode cX2_findWords 249 = .ok (.getfield 30, 3) := dk_180 0 30 (dk_at dksX2_findWords_10 14 rfl rfl)
theorem dX2_findWords_252 : decode cX2_findWords 252 = .ok (.iload_n 3, 1) := dk_29 (dk_at dksX2_findWords_10 17 rfl rfl)
theorem dX2_findWords_253 : decode cX2_findWords 253 = .ok (.iconst 2, 1) := dk_5 (dk_at dksX2_findWords_10 18 rfl rfl)
theorem dX2_findWords_254 : decode cX2_findWords 254 = .ok (.iadd, 1) := dk_96 (dk_at dksX2_findWords_10 19 rfl rfl)
theorem dX2_findWords_255 : decode cX2_findWords 255 = .ok (.baload, 1) := dk_51 (dk_at dksX2_findWords_10 20 rfl rfl)
theorem dX2_findWords_256 : decode cX2_findWords 256 = .ok (.bipush 42, 2) := dk_16 42 (dk_at dksX2_findWords_10 21 rfl rfl)
theorem dX2_findWords_258 : decode cX2_findWords 258 = .ok (.if_icmp .ne 28, 3) := dk_160 0 28 (dk_at dksX2_findWords_11 0 rfl rfl)
theorem dX2_findWords_261 : decode cX2_findWords 261 = .ok (.iload_n 1, 1) := dk_27 (dk_at dksX2_findWords_11 3 rfl rfl)
theorem dX2_findWords_262 : decode cX2_findWords 262 = .ok (.aload_n 0, 1) := dk_42 (dk_at dksX2_findWords_11 4 rfl rfl)
theorem dX2_findWords_263 : decode cX2_findWords 263 = .ok (.getfield 407, 3) := dk_180 1 151 (dk_at dksX2_findWords_11 5 rfl rfl)
theorem dX2_findWords_266 : decode cX2_findWords 266 = .ok (.if_icmp .ge 82, 3) := dk_162 0 82 (dk_at dksX2_findWords_11 8 rfl rfl)
theorem dX2_findWords_269 : decode cX2_findWords 269 = .ok (.aload_n 0, 1) := dk_42 (dk_at dksX2_findWords_11 11 rfl rfl)
theorem dX2_findWords_270 : decode cX2_findWords 270 = .ok (.getfield 30, 3) := dk_180 0 30 (dk_at dksX2_findWords_11 12 rfl rfl)
theorem dX2_findWords_273 : decode cX2_findWords 273 = .ok (.iload_n 1, 1) := dk_27 (dk_at dksX2_findWords_11 15 rfl rfl)
theorem dX2_findWords_274 : decode cX2_findWords 274 = .ok (.baload, 1) := dk_51 (dk_at dksX2_findWords_11 16 rfl rfl)
theorem dX2_findWords_275 : decode cX2_findWords 275 = .ok (.bipush 10, 2) := dk_16 10 (dk_at dksX2_findWords_11 17 rfl rfl)
theorem dX2_findWords_277 : decode cX2_findWords 277 = .ok (.if_icmp .eq 71, 3) := dk_159 0 71 (dk_at dksX2_findWords_11 19 rfl rfl)
theorem dX2_findWords_280 : decode cX2_findWords 280 = .ok (.iinc 1 1, 3) := dk_132 1 1 (dk_at dksX2_findWords_12 0 rfl rfl)
theorem dX2_findWords_283 : decode cX2_findWords 283 = .ok (.goto (-22), 3) := dk_167 255 234 (dk_at dksX2_findWords_12 3 rfl rfl)
theorem dX2_findWords_286 : decode cX2_findWords 286 = .ok (.iload_n 1, 1) := dk_27 (dk_at dksX2_findWords_12 6 rfl rfl)
theorem dX2_findWords_287 : decode cX2_findWords 287 = .ok (.iload_n 3, 1) := dk_29 (dk_at dksX2_findWords_12 7 rfl rfl)
theorem dX2_findWords_288 : decode cX2_findWords 288 = .ok (.isub, 1) := dk_100 (dk_at dksX2_findWords_12 8 rfl rfl)
theorem dX2_findWords_289 : decode cX2_findWords 289 = .ok (.bipush 16, 2) := dk_16 16 (dk_at dksX2_findWords_12 9 rfl rfl)
theorem dX2_findWords_291 : decode cX2_findWords 291 = .ok (.if_icmp .le 11, 3) := dk_164 0 11 (dk_at dksX2_findWords_12 11 rfl rfl)
theorem dX2_findWords_294 : decode cX2_findWords 294 = .ok (.aload_n 0, 1) := dk_42 (dk_at dksX2_findWords_12 14 rfl rfl)
theorem dX2_findWords_295 : decode cX2_findWords 295 = .ok (.iload_n 3, 1) := dk_29 (dk_at dksX2_findWords_12 15 rfl rfl)
theorem dX2_findWords_296 : decode cX2_findWords 296 = .ok (.putfield 413, 3) := dk_181 1 157 (dk_at dksX2_findWords_12 16 rfl rfl)
theorem dX2_findWords_299 : decode cX2_findWords 299 = .ok (.goto 49, 3) := dk_167 0 49 (dk_at dksX2_findWords_12 19 rfl rfl)
theorem dX2_findWords_302 : decode cX2_findWords 302 = .ok (.iload 4, 2) := dk_21 4 (dk_at dksX2_findWords_12 22 rfl rfl)
theorem dX2_findWords_304 : decode cX2_findWords 304 = .ok (.ifCond .lt 12, 3) := dk_155 0 12 (dk_at dksX2_findWords_13 0 rfl rfl)
theorem dX2_findWords_307 : decode cX2_findWords 307 = .ok (.aload_n 0, 1) := dk_42 (dk_at dksX2_findWords_13 3 rfl rfl)
theorem dX2_findWords_308 : decode cX2_findWords 308 = .ok (.iload 4, 2) := dk_21 4 (dk_at dksX2_findWords_13 4 rfl rfl)
theorem dX2_findWords_310 : decode cX2_findWords 310 = .ok (.putfield 413, 3) := dk_181 1 157 (dk_at dksX2_findWords_13 6 rfl rfl)
theorem dX2_findWords_313 : decode cX2_findWords 313 = .ok (.goto 35, 3) := dk_167 0 35 (dk_at dksX2_findWords_13 9 rfl rfl)
theorem dX2_findWords_316 : decode cX2_findWords 316 = .ok (.aload_n 0, 1) := dk_42 (dk_at dksX2_findWords_13 12 rfl rfl)
theorem dX2_findWords_317 : decode cX2_findWords 317 = .ok (.getfield 33, 3) := dk_180 0 33 (dk_at dksX2_findWords_13 13 rfl rfl)
theorem dX2_findWords_320 : decode cX2_findWords 320 = .ok (.aload_n 0, 1) := dk_42 (dk_at dksX2_findWords_13 16 rfl rfl)
theorem dX2_findWords_321 : decode cX2_findWords 321 = .ok (.getfield 410, 3) := dk_180 1 154 (dk_at dksX2_findWords_13 17 rfl rfl)
theorem dX2_findWords_324 : decode cX2_findWords 324 = .ok (.iload_n 3, 1) := dk_29 (dk_at dksX2_findWords_13 20 rfl rfl)
theorem dX2_findWords_325 : decode cX2_findWords 325 = .ok (.iastore, 1) := dk_79 (dk_at dksX2_findWords_13 21 rfl rfl)
theorem dX2_findWords_326 : decode cX2_findWords 326 = .ok (.aload_n 0, 1) := dk_42 (dk_at dksX2_findWords_13 22 rfl rfl)
theorem dX2_findWords_327 : decode cX2_findWords 327 = .ok (.getfield 37, 3) := dk_180 0 37 (dk_at dksX2_findWords_14 0 rfl rfl)
theorem dX2_findWords_330 : decode cX2_findWords 330 = .ok (.aload_n 0, 1) := dk_42 (dk_at dksX2_findWords_14 3 rfl rfl)
theorem dX2_findWords_331 : decode cX2_findWords 331 = .ok (.getfield 410, 3) := dk_180 1 154 (dk_at dksX2_findWords_14 4 rfl rfl)
theorem dX2_findWords_334 : decode cX2_findWords 334 = .ok (.iload_n 1, 1) := dk_27 (dk_at dksX2_findWords_14 7 rfl rfl)
theorem dX2_findWords_335 : decode cX2_findWords 335 = .ok (.iload_n 3, 1) := dk_29 (dk_at dksX2_findWords_14 8 rfl rfl)
theorem dX2_findWords_336 : decode cX2_findWords 336 = .ok (.isub, 1) := dk_100 (dk_at dksX2_findWords_14 9 rfl rfl)
theorem dX2_findWords_337 : decode cX2_findWords 337 = .ok (.iastore, 1) := dk_79 (dk_at dksX2_findWords_14 10 rfl rfl)
theorem dX2_findWords_338 : decode cX2_findWords 338 = .ok (.aload_n 0, 1) := dk_42 (dk_at dksX2_findWords_14 11 rfl rfl)
theorem dX2_findWords_339 : decode cX2_findWords 339 = .ok (.dup, 1) := dk_89 (dk_at dksX2_findWords_14 12 rfl rfl)
theorem dX2_findWords_340 : decode cX2_findWords 340 = .ok (.getfield 410, 3) := dk_180 1 154 (dk_at dksX2_findWords_14 13 rfl rfl)
theorem dX2_findWords_343 : decode cX2_findWords 343 = .ok (.iconst 1, 1) := dk_4 (dk_at dksX2_findWords_14 16 rfl rfl)
theorem dX2_findWords_344 : decode cX2_findWords 344 = .ok (.iadd, 1) := dk_96 (dk_at dksX2_findWords_14 17 rfl rfl)
theorem dX2_findWords_345 : decode cX2_findWords 345 = .ok (.putfield 410, 3) := dk_181 1 154 (dk_at dksX2_findWords_14 18 rfl rfl)
theorem dX2_findWords_348 : decode cX2_findWords 348 = .ok (.goto (-290), 3) := dk_167 254 222 (dk_at dksX2_findWords_14 21 rfl rfl)
theorem dX2_findWords_351 : decode cX2_findWords 351 = .ok (.return_, 1) := dk_177 (dk_at dksX2_findWords_15 0 rfl rfl)
abbrev cX2_byteAt : ByteArray := prog_4_method_7_code
def yX2_byteAt : MethodName := ⟨RX2, "byteAt", "(I)I"⟩
def dkwX2_byteAt_0 : List UInt8 := [42, 180, 0, 30, 27, 51, 17, 0, 255, 126, 172]
abbrev dktX2_byteAt_0 : List UInt8 := dkwX2_byteAt_0 ++ []
theorem dksX2_byteAt_0 : cX2_byteAt.data.toList.drop 0 = dktX2_byteAt_0 := by decide +kernel
theorem dX2_byteAt_0 : decode cX2_byteAt 0 = .ok (.aload_n 0, 1) := dk_42 (dk_at dksX2_byteAt_0 0 rfl rfl)
theorem dX2_byteAt_1 : decode cX2_byteAt 1 = .ok (.getfield 30, 3) := dk_180 0 30 (dk_at dksX2_byteAt_0 1 rfl rfl)
theorem dX2_byteAt_4 : decode cX2_byteAt 4 = .ok (.iload_n 1, 1) := dk_27 (dk_at dksX2_byteAt_0 4 rfl rfl)
theorem dX2_byteAt_5 : decode cX2_byteAt 5 = .ok (.baload, 1) := dk_51 (dk_at dksX2_byteAt_0 5 rfl rfl)
theorem dX2_byteAt_6 : decode cX2_byteAt 6 = .ok (.sipush 255, 3) := dk_17 0 255 (dk_at dksX2_byteAt_0 6 rfl rfl)
theorem dX2_byteAt_9 : decode cX2_byteAt 9 = .ok (.iand, 1) := dk_126 (dk_at dksX2_byteAt_0 9 rfl rfl)
theorem dX2_byteAt_10 : decode cX2_byteAt 10 = .ok (.ireturn, 1) := dk_172 (dk_at dksX2_byteAt_0 10 rfl rfl)
abbrev cX2_isBlank : ByteArray := prog_4_method_8_code
def yX2_isBlank : MethodName := ⟨RX2, "isBlank", "(I)Z"⟩
def dkwX2_isBlank_0 : List UInt8 := [26, 16, 32, 159, 0, 9, 26, 16, 10, 160, 0, 7, 4, 167, 0, 4, 3, 172]
abbrev dktX2_isBlank_0 : List UInt8 := dkwX2_isBlank_0 ++ []
theorem dksX2_isBlank_0 : cX2_isBlank.data.toList.drop 0 = dktX2_isBlank_0 := by decide +kernel
theorem dX2_isBlank_0 : decode cX2_isBlank 0 = .ok (.iload_n 0, 1) := dk_26 (dk_at dksX2_isBlank_0 0 rfl rfl)
theorem dX2_isBlank_1 : decode cX2_isBlank 1 = .ok (.bipush 32, 2) := dk_16 32 (dk_at dksX2_isBlank_0 1 rfl rfl)
theorem dX2_isBlank_3 : decode cX2_isBlank 3 = .ok (.if_icmp .eq 9, 3) := dk_159 0 9 (dk_at dksX2_isBlank_0 3 rfl rfl)
theorem dX2_isBlank_6 : decode cX2_isBlank 6 = .ok (.iload_n 0, 1) := dk_26 (dk_at dksX2_isBlank_0 6 rfl rfl)
theorem dX2_isBlank_7 : decode cX2_isBlank 7 = .ok (.bipush 10, 2) := dk_16 10 (dk_at dksX2_isBlank_0 7 rfl rfl)
theorem dX2_isBlank_9 : decode cX2_isBlank 9 = .ok (.if_icmp .ne 7, 3) := dk_160 0 7 (dk_at dksX2_isBlank_0 9 rfl rfl)
theorem dX2_isBlank_12 : decode cX2_isBlank 12 = .ok (.iconst 1, 1) := dk_4 (dk_at dksX2_isBlank_0 12 rfl rfl)
theorem dX2_isBlank_13 : decode cX2_isBlank 13 = .ok (.goto 4, 3) := dk_167 0 4 (dk_at dksX2_isBlank_0 13 rfl rfl)
theorem dX2_isBlank_16 : decode cX2_isBlank 16 = .ok (.iconst 0, 1) := dk_3 (dk_at dksX2_isBlank_0 16 rfl rfl)
theorem dX2_isBlank_17 : decode cX2_isBlank 17 = .ok (.ireturn, 1) := dk_172 (dk_at dksX2_isBlank_0 17 rfl rfl)
abbrev cX2_isAlone : ByteArray := prog_4_method_9_code
def yX2_isAlone : MethodName := ⟨RX2, "isAlone", "(I)Z"⟩
def dkwX2_isAlone_1 : List UInt8 := [26, 16, 123, 159, 0, 15, 26, 16, 125, 159, 0, 9, 26, 16, 44, 160, 0, 7, 4, 167, 0, 4, 3, 172]
abbrev dktX2_isAlone_1 : List UInt8 := dkwX2_isAlone_1 ++ []
def dkwX2_isAlone_0 : List UInt8 := [26, 16, 40, 159, 0, 39, 26, 16, 41, 159, 0, 33, 26, 16, 91, 159, 0, 27, 26, 16, 93, 159, 0, 21]
abbrev dktX2_isAlone_0 : List UInt8 := dkwX2_isAlone_0 ++ dktX2_isAlone_1
theorem dksX2_isAlone_0 : cX2_isAlone.data.toList.drop 0 = dktX2_isAlone_0 := by decide +kernel
theorem dksX2_isAlone_1 : cX2_isAlone.data.toList.drop 24 = dktX2_isAlone_1 := dk_seg dksX2_isAlone_0 24 rfl rfl
theorem dX2_isAlone_0 : decode cX2_isAlone 0 = .ok (.iload_n 0, 1) := dk_26 (dk_at dksX2_isAlone_0 0 rfl rfl)
theorem dX2_isAlone_1 : decode cX2_isAlone 1 = .ok (.bipush 40, 2) := dk_16 40 (dk_at dksX2_isAlone_0 1 rfl rfl)
theorem dX2_isAlone_3 : decode cX2_isAlone 3 = .ok (.if_icmp .eq 39, 3) := dk_159 0 39 (dk_at dksX2_isAlone_0 3 rfl rfl)
theorem dX2_isAlone_6 : decode cX2_isAlone 6 = .ok (.iload_n 0, 1) := dk_26 (dk_at dksX2_isAlone_0 6 rfl rfl)
theorem dX2_isAlone_7 : decode cX2_isAlone 7 = .ok (.bipush 41, 2) := dk_16 41 (dk_at dksX2_isAlone_0 7 rfl rfl)
theorem dX2_isAlone_9 : decode cX2_isAlone 9 = .ok (.if_icmp .eq 33, 3) := dk_159 0 33 (dk_at dksX2_isAlone_0 9 rfl rfl)
theorem dX2_isAlone_12 : decode cX2_isAlone 12 = .ok (.iload_n 0, 1) := dk_26 (dk_at dksX2_isAlone_0 12 rfl rfl)
theorem dX2_isAlone_13 : decode cX2_isAlone 13 = .ok (.bipush 91, 2) := dk_16 91 (dk_at dksX2_isAlone_0 13 rfl rfl)
theorem dX2_isAlone_15 : decode cX2_isAlone 15 = .ok (.if_icmp .eq 27, 3) := dk_159 0 27 (dk_at dksX2_isAlone_0 15 rfl rfl)
theorem dX2_isAlone_18 : decode cX2_isAlone 18 = .ok (.iload_n 0, 1) := dk_26 (dk_at dksX2_isAlone_0 18 rfl rfl)
theorem dX2_isAlone_19 : decode cX2_isAlone 19 = .ok (.bipush 93, 2) := dk_16 93 (dk_at dksX2_isAlone_0 19 rfl rfl)
theorem dX2_isAlone_21 : decode cX2_isAlone 21 = .ok (.if_icmp .eq 21, 3) := dk_159 0 21 (dk_at dksX2_isAlone_0 21 rfl rfl)
theorem dX2_isAlone_24 : decode cX2_isAlone 24 = .ok (.iload_n 0, 1) := dk_26 (dk_at dksX2_isAlone_1 0 rfl rfl)
theorem dX2_isAlone_25 : decode cX2_isAlone 25 = .ok (.bipush 123, 2) := dk_16 123 (dk_at dksX2_isAlone_1 1 rfl rfl)
theorem dX2_isAlone_27 : decode cX2_isAlone 27 = .ok (.if_icmp .eq 15, 3) := dk_159 0 15 (dk_at dksX2_isAlone_1 3 rfl rfl)
theorem dX2_isAlone_30 : decode cX2_isAlone 30 = .ok (.iload_n 0, 1) := dk_26 (dk_at dksX2_isAlone_1 6 rfl rfl)
theorem dX2_isAlone_31 : decode cX2_isAlone 31 = .ok (.bipush 125, 2) := dk_16 125 (dk_at dksX2_isAlone_1 7 rfl rfl)
theorem dX2_isAlone_33 : decode cX2_isAlone 33 = .ok (.if_icmp .eq 9, 3) := dk_159 0 9 (dk_at dksX2_isAlone_1 9 rfl rfl)
theorem dX2_isAlone_36 : decode cX2_isAlone 36 = .ok (.iload_n 0, 1) := dk_26 (dk_at dksX2_isAlone_1 12 rfl rfl)
theorem dX2_isAlone_37 : decode cX2_isAlone 37 = .ok (.bipush 44, 2) := dk_16 44 (dk_at dksX2_isAlone_1 13 rfl rfl)
theorem dX2_isAlone_39 : decode cX2_isAlone 39 = .ok (.if_icmp .ne 7, 3) := dk_160 0 7 (dk_at dksX2_isAlone_1 15 rfl rfl)
theorem dX2_isAlone_42 : decode cX2_isAlone 42 = .ok (.iconst 1, 1) := dk_4 (dk_at dksX2_isAlone_1 18 rfl rfl)
theorem dX2_isAlone_43 : decode cX2_isAlone 43 = .ok (.goto 4, 3) := dk_167 0 4 (dk_at dksX2_isAlone_1 19 rfl rfl)
theorem dX2_isAlone_46 : decode cX2_isAlone 46 = .ok (.iconst 0, 1) := dk_3 (dk_at dksX2_isAlone_1 22 rfl rfl)
theorem dX2_isAlone_47 : decode cX2_isAlone 47 = .ok (.ireturn, 1) := dk_172 (dk_at dksX2_isAlone_1 23 rfl rfl)
abbrev cX2_noFault : ByteArray := prog_4_method_90_code
def yX2_noFault : MethodName := ⟨RX2, "noFault", "()V"⟩
def dkwX2_noFault_0 : List UInt8 := [42, 16, 254, 181, 0, 40, 42, 16, 254, 181, 0, 43, 177]
abbrev dktX2_noFault_0 : List UInt8 := dkwX2_noFault_0 ++ []
theorem dksX2_noFault_0 : cX2_noFault.data.toList.drop 0 = dktX2_noFault_0 := by decide +kernel
theorem dX2_noFault_0 : decode cX2_noFault 0 = .ok (.aload_n 0, 1) := dk_42 (dk_at dksX2_noFault_0 0 rfl rfl)
theorem dX2_noFault_1 : decode cX2_noFault 1 = .ok (.bipush (-2), 2) := dk_16 254 (dk_at dksX2_noFault_0 1 rfl rfl)
theorem dX2_noFault_3 : decode cX2_noFault 3 = .ok (.putfield 40, 3) := dk_181 0 40 (dk_at dksX2_noFault_0 3 rfl rfl)
theorem dX2_noFault_6 : decode cX2_noFault 6 = .ok (.aload_n 0, 1) := dk_42 (dk_at dksX2_noFault_0 6 rfl rfl)
theorem dX2_noFault_7 : decode cX2_noFault 7 = .ok (.bipush (-2), 2) := dk_16 254 (dk_at dksX2_noFault_0 7 rfl rfl)
theorem dX2_noFault_9 : decode cX2_noFault 9 = .ok (.putfield 43, 3) := dk_181 0 43 (dk_at dksX2_noFault_0 9 rfl rfl)
theorem dX2_noFault_12 : decode cX2_noFault 12 = .ok (.return_, 1) := dk_177 (dk_at dksX2_noFault_0 12 rfl rfl)
abbrev cX2_readModule : ByteArray := prog_4_method_89_code
def yX2_readModule : MethodName := ⟨RX2, "readModule", "()V"⟩
def dkwX2_readModule_6 : List UInt8 := [162, 0, 14, 42, 27, 182, 3, 62, 132, 1, 1, 167, 255, 240, 177]
abbrev dktX2_readModule_6 : List UInt8 := dkwX2_readModule_6 ++ []
def dkwX2_readModule_5 : List UInt8 := [158, 0, 15, 42, 42, 180, 2, 90, 42, 180, 2, 93, 182, 1, 178, 3, 60, 27, 42, 180, 2, 3]
abbrev dktX2_readModule_5 : List UInt8 := dkwX2_readModule_5 ++ dktX2_readModule_6
def dkwX2_readModule_4 : List UInt8 := [42, 180, 2, 93, 182, 1, 178, 42, 182, 3, 53, 42, 182, 3, 56, 42, 182, 3, 59, 42, 180, 2, 90]
abbrev dktX2_readModule_4 : List UInt8 := dkwX2_readModule_4 ++ dktX2_readModule_5
def dkwX2_readModule_3 : List UInt8 := [132, 2, 1, 167, 255, 214, 132, 1, 1, 167, 255, 198, 42, 180, 2, 90, 158, 0, 15, 42, 42, 180, 2, 90]
abbrev dktX2_readModule_3 : List UInt8 := dkwX2_readModule_3 ++ dktX2_readModule_4
def dkwX2_readModule_2 : List UInt8 := [96, 62, 42, 180, 0, 117, 29, 46, 5, 160, 0, 15, 42, 42, 180, 0, 120, 29, 46, 182, 2, 109, 54, 4]
abbrev dktX2_readModule_2 : List UInt8 := dkwX2_readModule_2 ++ dktX2_readModule_3
def dkwX2_readModule_1 : List UInt8 := [42, 180, 2, 3, 162, 0, 56, 3, 61, 28, 42, 180, 0, 123, 27, 46, 162, 0, 38, 16, 6, 27, 104, 28]
abbrev dktX2_readModule_1 : List UInt8 := dkwX2_readModule_1 ++ dktX2_readModule_2
def dkwX2_readModule_0 : List UInt8 := [42, 182, 3, 41, 42, 3, 181, 2, 90, 42, 182, 3, 44, 42, 182, 3, 47, 42, 182, 3, 50, 3, 60, 27]
abbrev dktX2_readModule_0 : List UInt8 := dkwX2_readModule_0 ++ dktX2_readModule_1
theorem dksX2_readModule_0 : cX2_readModule.data.toList.drop 0 = dktX2_readModule_0 := by decide +kernel
theorem dksX2_readModule_1 : cX2_readModule.data.toList.drop 24 = dktX2_readModule_1 := dk_seg dksX2_readModule_0 24 rfl rfl
theorem dksX2_readModule_2 : cX2_readModule.data.toList.drop 48 = dktX2_readModule_2 := dk_seg dksX2_readModule_1 24 rfl rfl
theorem dksX2_readModule_3 : cX2_readModule.data.toList.drop 72 = dktX2_readModule_3 := dk_seg dksX2_readModule_2 24 rfl rfl
theorem dksX2_readModule_4 : cX2_readModule.data.toList.drop 96 = dktX2_readModule_4 := dk_seg dksX2_readModule_3 24 rfl rfl
theorem dksX2_readModule_5 : cX2_readModule.data.toList.drop 119 = dktX2_readModule_5 := dk_seg dksX2_readModule_4 23 rfl rfl
theorem dksX2_readModule_6 : cX2_readModule.data.toList.drop 141 = dktX2_readModule_6 := dk_seg dksX2_readModule_5 22 rfl rfl
theorem dX2_readModule_0 : decode cX2_readModule 0 = .ok (.aload_n 0, 1) := dk_42 (dk_at dksX2_readModule_0 0 rfl rfl)
theorem dX2_readModule_1 : decode cX2_readModule 1 = .ok (.invokevirtual 809, 3) := dk_182 3 41 (dk_at dksX2_readModule_0 1 rfl rfl)
theorem dX2_readModule_4 : decode cX2_readModule 4 = .ok (.aload_n 0, 1) := dk_42 (dk_at dksX2_readModule_0 4 rfl rfl)
theorem dX2_readModule_5 : decode cX2_readModule 5 = .ok (.iconst 0, 1) := dk_3 (dk_at dksX2_readModule_0 5 rfl rfl)
theorem dX2_readModule_6 : decode cX2_readModule 6 = .ok (.putfield 602, 3) := dk_181 2 90 (dk_at dksX2_readModule_0 6 rfl rfl)
theorem dX2_readModule_9 : decode cX2_readModule 9 = .ok (.aload_n 0, 1) := dk_42 (dk_at dksX2_readModule_0 9 rfl rfl)
theorem dX2_readModule_10 : decode cX2_readModule 10 = .ok (.invokevirtual 812, 3) := dk_182 3 44 (dk_at dksX2_readModule_0 10 rfl rfl)
theorem dX2_readModule_13 : decode cX2_readModule 13 = .ok (.aload_n 0, 1) := dk_42 (dk_at dksX2_readModule_0 13 rfl rfl)
theorem dX2_readModule_14 : decode cX2_readModule 14 = .ok (.invokevirtual 815, 3) := dk_182 3 47 (dk_at dksX2_readModule_0 14 rfl rfl)
theorem dX2_readModule_17 : decode cX2_readModule 17 = .ok (.aload_n 0, 1) := dk_42 (dk_at dksX2_readModule_0 17 rfl rfl)
theorem dX2_readModule_18 : decode cX2_readModule 18 = .ok (.invokevirtual 818, 3) := dk_182 3 50 (dk_at dksX2_readModule_0 18 rfl rfl)
theorem dX2_readModule_21 : decode cX2_readModule 21 = .ok (.iconst 0, 1) := dk_3 (dk_at dksX2_readModule_0 21 rfl rfl)
theorem dX2_readModule_22 : decode cX2_readModule 22 = .ok (.istore_n 1, 1) := dk_60 (dk_at dksX2_readModule_0 22 rfl rfl)
theorem dX2_readModule_23 : decode cX2_readModule 23 = .ok (.iload_n 1, 1) := dk_27 (dk_at dksX2_readModule_0 23 rfl rfl)
theorem dX2_readModule_24 : decode cX2_readModule 24 = .ok (.aload_n 0, 1) := dk_42 (dk_at dksX2_readModule_1 0 rfl rfl)
theorem dX2_readModule_25 : decode cX2_readModule 25 = .ok (.getfield 515, 3) := dk_180 2 3 (dk_at dksX2_readModule_1 1 rfl rfl)
theorem dX2_readModule_28 : decode cX2_readModule 28 = .ok (.if_icmp .ge 56, 3) := dk_162 0 56 (dk_at dksX2_readModule_1 4 rfl rfl)
theorem dX2_readModule_31 : decode cX2_readModule 31 = .ok (.iconst 0, 1) := dk_3 (dk_at dksX2_readModule_1 7 rfl rfl)
theorem dX2_readModule_32 : decode cX2_readModule 32 = .ok (.istore_n 2, 1) := dk_61 (dk_at dksX2_readModule_1 8 rfl rfl)
theorem dX2_readModule_33 : decode cX2_readModule 33 = .ok (.iload_n 2, 1) := dk_28 (dk_at dksX2_readModule_1 9 rfl rfl)
theorem dX2_readModule_34 : decode cX2_readModule 34 = .ok (.aload_n 0, 1) := dk_42 (dk_at dksX2_readModule_1 10 rfl rfl)
theorem dX2_readModule_35 : decode cX2_readModule 35 = .ok (.getfield 123, 3) := dk_180 0 123 (dk_at dksX2_readModule_1 11 rfl rfl)
theorem dX2_readModule_38 : decode cX2_readModule 38 = .ok (.iload_n 1, 1) := dk_27 (dk_at dksX2_readModule_1 14 rfl rfl)
theorem dX2_readModule_39 : decode cX2_readModule 39 = .ok (.iaload, 1) := dk_46 (dk_at dksX2_readModule_1 15 rfl rfl)
theorem dX2_readModule_40 : decode cX2_readModule 40 = .ok (.if_icmp .ge 38, 3) := dk_162 0 38 (dk_at dksX2_readModule_1 16 rfl rfl)
theorem dX2_readModule_43 : decode cX2_readModule 43 = .ok (.bipush 6, 2) := dk_16 6 (dk_at dksX2_readModule_1 19 rfl rfl)
theorem dX2_readModule_45 : decode cX2_readModule 45 = .ok (.iload_n 1, 1) := dk_27 (dk_at dksX2_readModule_1 21 rfl rfl)
theorem dX2_readModule_46 : decode cX2_readModule 46 = .ok (.imul, 1) := dk_104 (dk_at dksX2_readModule_1 22 rfl rfl)
theorem dX2_readModule_47 : decode cX2_readModule 47 = .ok (.iload_n 2, 1) := dk_28 (dk_at dksX2_readModule_1 23 rfl rfl)
theorem dX2_readModule_48 : decode cX2_readModule 48 = .ok (.iadd, 1) := dk_96 (dk_at dksX2_readModule_2 0 rfl rfl)
theorem dX2_readModule_49 : decode cX2_readModule 49 = .ok (.istore_n 3, 1) := dk_62 (dk_at dksX2_readModule_2 1 rfl rfl)
theorem dX2_readModule_50 : decode cX2_readModule 50 = .ok (.aload_n 0, 1) := dk_42 (dk_at dksX2_readModule_2 2 rfl rfl)
theorem dX2_readModule_51 : decode cX2_readModule 51 = .ok (.getfield 117, 3) := dk_180 0 117 (dk_at dksX2_readModule_2 3 rfl rfl)
theorem dX2_readModule_54 : decode cX2_readModule 54 = .ok (.iload_n 3, 1) := dk_29 (dk_at dksX2_readModule_2 6 rfl rfl)
theorem dX2_readModule_55 : decode cX2_readModule 55 = .ok (.iaload, 1) := dk_46 (dk_at dksX2_readModule_2 7 rfl rfl)
theorem dX2_readModule_56 : decode cX2_readModule 56 = .ok (.iconst 2, 1) := dk_5 (dk_at dksX2_readModule_2 8 rfl rfl)
theorem dX2_readModule_57 : decode cX2_readModule 57 = .ok (.if_icmp .ne 15, 3) := dk_160 0 15 (dk_at dksX2_readModule_2 9 rfl rfl)
theorem dX2_readModule_60 : decode cX2_readModule 60 = .ok (.aload_n 0, 1) := dk_42 (dk_at dksX2_readModule_2 12 rfl rfl)
theorem dX2_readModule_61 : decode cX2_readModule 61 = .ok (.aload_n 0, 1) := dk_42 (dk_at dksX2_readModule_2 13 rfl rfl)
theorem dX2_readModule_62 : decode cX2_readModule 62 = .ok (.getfield 120, 3) := dk_180 0 120 (dk_at dksX2_readModule_2 14 rfl rfl)
theorem dX2_readModule_65 : decode cX2_readModule 65 = .ok (.iload_n 3, 1) := dk_29 (dk_at dksX2_readModule_2 17 rfl rfl)
theorem dX2_readModule_66 : decode cX2_readModule 66 = .ok (.iaload, 1) := dk_46 (dk_at dksX2_readModule_2 18 rfl rfl)
theorem dX2_readModule_67 : decode cX2_readModule 67 = .ok (.invokevirtual 621, 3) := dk_182 2 109 (dk_at dksX2_readModule_2 19 rfl rfl)
theorem dX2_readModule_70 : decode cX2_readModule 70 = .ok (.istore 4, 2) := dk_54 4 (dk_at dksX2_readModule_2 22 rfl rfl)
theorem dX2_readModule_72 : decode cX2_readModule 72 = .ok (.iinc 2 1, 3) := dk_132 2 1 (dk_at dksX2_readModule_3 0 rfl rfl)
theorem dX2_readModule_75 : decode cX2_readModule 75 = .ok (.goto (-42), 3) := dk_167 255 214 (dk_at dksX2_readModule_3 3 rfl rfl)
theorem dX2_readModule_78 : decode cX2_readModule 78 = .ok (.iinc 1 1, 3) := dk_132 1 1 (dk_at dksX2_readModule_3 6 rfl rfl)
theorem dX2_readModule_81 : decode cX2_readModule 81 = .ok (.goto (-58), 3) := dk_167 255 198 (dk_at dksX2_readModule_3 9 rfl rfl)
theorem dX2_readModule_84 : decode cX2_readModule 84 = .ok (.aload_n 0, 1) := dk_42 (dk_at dksX2_readModule_3 12 rfl rfl)
theorem dX2_readModule_85 : decode cX2_readModule 85 = .ok (.getfield 602, 3) := dk_180 2 90 (dk_at dksX2_readModule_3 13 rfl rfl)
theorem dX2_readModule_88 : decode cX2_readModule 88 = .ok (.ifCond .le 15, 3) := dk_158 0 15 (dk_at dksX2_readModule_3 16 rfl rfl)
theorem dX2_readModule_91 : decode cX2_readModule 91 = .ok (.aload_n 0, 1) := dk_42 (dk_at dksX2_readModule_3 19 rfl rfl)
theorem dX2_readModule_92 : decode cX2_readModule 92 = .ok (.aload_n 0, 1) := dk_42 (dk_at dksX2_readModule_3 20 rfl rfl)
theorem dX2_readModule_93 : decode cX2_readModule 93 = .ok (.getfield 602, 3) := dk_180 2 90 (dk_at dksX2_readModule_3 21 rfl rfl)
theorem dX2_readModule_96 : decode cX2_readModule 96 = .ok (.aload_n 0, 1) := dk_42 (dk_at dksX2_readModule_4 0 rfl rfl)
theorem dX2_readModule_97 : decode cX2_readModule 97 = .ok (.getfield 605, 3) := dk_180 2 93 (dk_at dksX2_readModule_4 1 rfl rfl)
theorem dX2_readModule_100 : decode cX2_readModule 100 = .ok (.invokevirtual 434, 3) := dk_182 1 178 (dk_at dksX2_readModule_4 4 rfl rfl)
theorem dX2_readModule_103 : decode cX2_readModule 103 = .ok (.aload_n 0, 1) := dk_42 (dk_at dksX2_readModule_4 7 rfl rfl)
theorem dX2_readModule_104 : decode cX2_readModule 104 = .ok (.invokevirtual 821, 3) := dk_182 3 53 (dk_at dksX2_readModule_4 8 rfl rfl)
theorem dX2_readModule_107 : decode cX2_readModule 107 = .ok (.aload_n 0, 1) := dk_42 (dk_at dksX2_readModule_4 11 rfl rfl)
theorem dX2_readModule_108 : decode cX2_readModule 108 = .ok (.invokevirtual 824, 3) := dk_182 3 56 (dk_at dksX2_readModule_4 12 rfl rfl)
theorem dX2_readModule_111 : decode cX2_readModule 111 = .ok (.aload_n 0, 1) := dk_42 (dk_at dksX2_readModule_4 15 rfl rfl)
theorem dX2_readModule_112 : decode cX2_readModule 112 = .ok (.invokevirtual 827, 3) := dk_182 3 59 (dk_at dksX2_readModule_4 16 rfl rfl)
theorem dX2_readModule_115 : decode cX2_readModule 115 = .ok (.aload_n 0, 1) := dk_42 (dk_at dksX2_readModule_4 19 rfl rfl)
theorem dX2_readModule_116 : decode cX2_readModule 116 = .ok (.getfield 602, 3) := dk_180 2 90 (dk_at dksX2_readModule_4 20 rfl rfl)
theorem dX2_readModule_119 : decode cX2_readModule 119 = .ok (.ifCond .le 15, 3) := dk_158 0 15 (dk_at dksX2_readModule_5 0 rfl rfl)
theorem dX2_readModule_122 : decode cX2_readModule 122 = .ok (.aload_n 0, 1) := dk_42 (dk_at dksX2_readModule_5 3 rfl rfl)
theorem dX2_readModule_123 : decode cX2_readModule 123 = .ok (.aload_n 0, 1) := dk_42 (dk_at dksX2_readModule_5 4 rfl rfl)
theorem dX2_readModule_124 : decode cX2_readModule 124 = .ok (.getfield 602, 3) := dk_180 2 90 (dk_at dksX2_readModule_5 5 rfl rfl)
theorem dX2_readModule_127 : decode cX2_readModule 127 = .ok (.aload_n 0, 1) := dk_42 (dk_at dksX2_readModule_5 8 rfl rfl)
theorem dX2_readModule_128 : decode cX2_readModule 128 = .ok (.getfield 605, 3) := dk_180 2 93 (dk_at dksX2_readModule_5 9 rfl rfl)
theorem dX2_readModule_131 : decode cX2_readModule 131 = .ok (.invokevirtual 434, 3) := dk_182 1 178 (dk_at dksX2_readModule_5 12 rfl rfl)
theorem dX2_readModule_134 : decode cX2_readModule 134 = .ok (.iconst 0, 1) := dk_3 (dk_at dksX2_readModule_5 15 rfl rfl)
theorem dX2_readModule_135 : decode cX2_readModule 135 = .ok (.istore_n 1, 1) := dk_60 (dk_at dksX2_readModule_5 16 rfl rfl)
theorem dX2_readModule_136 : decode cX2_readModule 136 = .ok (.iload_n 1, 1) := dk_27 (dk_at dksX2_readModule_5 17 rfl rfl)
theorem dX2_readModule_137 : decode cX2_readModule 137 = .ok (.aload_n 0, 1) := dk_42 (dk_at dksX2_readModule_5 18 rfl rfl)
theorem dX2_readModule_138 : decode cX2_readModule 138 = .ok (.getfield 515, 3) := dk_180 2 3 (dk_at dksX2_readModule_5 19 rfl rfl)
theorem dX2_readModule_141 : decode cX2_readModule 141 = .ok (.if_icmp .ge 14, 3) := dk_162 0 14 (dk_at dksX2_readModule_6 0 rfl rfl)
theorem dX2_readModule_144 : decode cX2_readModule 144 = .ok (.aload_n 0, 1) := dk_42 (dk_at dksX2_readModule_6 3 rfl rfl)
theorem dX2_readModule_145 : decode cX2_readModule 145 = .ok (.iload_n 1, 1) := dk_27 (dk_at dksX2_readModule_6 4 rfl rfl)
theorem dX2_readModule_146 : decode cX2_readModule 146 = .ok (.invokevirtual 830, 3) := dk_182 3 62 (dk_at dksX2_readModule_6 5 rfl rfl)
theorem dX2_readModule_149 : decode cX2_readModule 149 = .ok (.iinc 1 1, 3) := dk_132 1 1 (dk_at dksX2_readModule_6 8 rfl rfl)
theorem dX2_readModule_152 : decode cX2_readModule 152 = .ok (.goto (-16), 3) := dk_167 255 240 (dk_at dksX2_readModule_6 11 rfl rfl)
theorem dX2_readModule_155 : decode cX2_readModule 155 = .ok (.return_, 1) := dk_177 (dk_at dksX2_readModule_6 14 rfl rfl)
abbrev cX2_readItems : ByteArray := prog_4_method_34_code
def yX2_readItems : MethodName := ⟨RX2, "readItems", "()V"⟩
def dkwX2_readItems_6 : List UInt8 := [182, 1, 178, 167, 255, 118, 177]
abbrev dktX2_readItems_6 : List UInt8 := dkwX2_readItems_6 ++ []
def dkwX2_readItems_5 : List UInt8 := [42, 19, 2, 88, 182, 1, 222, 153, 0, 11, 42, 5, 182, 2, 83, 167, 255, 130, 42, 4, 42, 182, 1, 219]
abbrev dktX2_readItems_5 : List UInt8 := dkwX2_readItems_5 ++ dktX2_readItems_6
def dkwX2_readItems_4 : List UInt8 := [182, 2, 83, 167, 255, 166, 42, 19, 2, 86, 182, 1, 222, 153, 0, 11, 42, 4, 182, 2, 83, 167, 255, 148]
abbrev dktX2_readItems_4 : List UInt8 := dkwX2_readItems_4 ++ dktX2_readItems_5
def dkwX2_readItems_3 : List UInt8 := [153, 0, 10, 42, 182, 2, 78, 167, 255, 184, 42, 19, 2, 81, 182, 1, 222, 153, 0, 11, 42, 3]
abbrev dktX2_readItems_3 : List UInt8 := dkwX2_readItems_3 ++ dktX2_readItems_4
def dkwX2_readItems_2 : List UInt8 := [42, 19, 2, 71, 182, 1, 222, 153, 0, 10, 42, 182, 2, 73, 167, 255, 201, 42, 19, 2, 76, 182, 1, 222]
abbrev dktX2_readItems_2 : List UInt8 := dkwX2_readItems_2 ++ dktX2_readItems_3
def dkwX2_readItems_1 : List UInt8 := [42, 182, 2, 63, 167, 255, 235, 42, 19, 2, 66, 182, 1, 222, 153, 0, 10, 42, 182, 2, 68, 167, 255, 218]
abbrev dktX2_readItems_1 : List UInt8 := dkwX2_readItems_1 ++ dktX2_readItems_2
def dkwX2_readItems_0 : List UInt8 := [42, 17, 3, 132, 181, 1, 216, 42, 182, 1, 192, 154, 0, 137, 42, 19, 2, 61, 182, 1, 222, 153, 0, 10]
abbrev dktX2_readItems_0 : List UInt8 := dkwX2_readItems_0 ++ dktX2_readItems_1
theorem dksX2_readItems_0 : cX2_readItems.data.toList.drop 0 = dktX2_readItems_0 := by decide +kernel
theorem dksX2_readItems_1 : cX2_readItems.data.toList.drop 24 = dktX2_readItems_1 := dk_seg dksX2_readItems_0 24 rfl rfl
theorem dksX2_readItems_2 : cX2_readItems.data.toList.drop 48 = dktX2_readItems_2 := dk_seg dksX2_readItems_1 24 rfl rfl
theorem dksX2_readItems_3 : cX2_readItems.data.toList.drop 72 = dktX2_readItems_3 := dk_seg dksX2_readItems_2 24 rfl rfl
theorem dksX2_readItems_4 : cX2_readItems.data.toList.drop 94 = dktX2_readItems_4 := dk_seg dksX2_readItems_3 22 rfl rfl
theorem dksX2_readItems_5 : cX2_readItems.data.toList.drop 118 = dktX2_readItems_5 := dk_seg dksX2_readItems_4 24 rfl rfl
theorem dksX2_readItems_6 : cX2_readItems.data.toList.drop 142 = dktX2_readItems_6 := dk_seg dksX2_readItems_5 24 rfl rfl
theorem dX2_readItems_0 : decode cX2_readItems 0 = .ok (.aload_n 0, 1) := dk_42 (dk_at dksX2_readItems_0 0 rfl rfl)
theorem dX2_readItems_1 : decode cX2_readItems 1 = .ok (.sipush 900, 3) := dk_17 3 132 (dk_at dksX2_readItems_0 1 rfl rfl)
theorem dX2_readItems_4 : decode cX2_readItems 4 = .ok (.putfield 472, 3) := dk_181 1 216 (dk_at dksX2_readItems_0 4 rfl rfl)
theorem dX2_readItems_7 : decode cX2_readItems 7 = .ok (.aload_n 0, 1) := dk_42 (dk_at dksX2_readItems_0 7 rfl rfl)
theorem dX2_readItems_8 : decode cX2_readItems 8 = .ok (.invokevirtual 448, 3) := dk_182 1 192 (dk_at dksX2_readItems_0 8 rfl rfl)
theorem dX2_readItems_11 : decode cX2_readItems 11 = .ok (.ifCond .ne 137, 3) := dk_154 0 137 (dk_at dksX2_readItems_0 11 rfl rfl)
theorem dX2_readItems_14 : decode cX2_readItems 14 = .ok (.aload_n 0, 1) := dk_42 (dk_at dksX2_readItems_0 14 rfl rfl)
theorem dX2_readItems_15 : decode cX2_readItems 15 = .ok (.ldc_w 573, 3) := dk_19 2 61 (dk_at dksX2_readItems_0 15 rfl rfl)
theorem dX2_readItems_18 : decode cX2_readItems 18 = .ok (.invokevirtual 478, 3) := dk_182 1 222 (dk_at dksX2_readItems_0 18 rfl rfl)
theorem dX2_readItems_21 : decode cX2_readItems 21 = .ok (.ifCond .eq 10, 3) := dk_153 0 10 (dk_at dksX2_readItems_0 21 rfl rfl)
theorem dX2_readItems_24 : decode cX2_readItems 24 = .ok (.aload_n 0, 1) := dk_42 (dk_at dksX2_readItems_1 0 rfl rfl)
theorem dX2_readItems_25 : decode cX2_readItems 25 = .ok (.invokevirtual 575, 3) := dk_182 2 63 (dk_at dksX2_readItems_1 1 rfl rfl)
theorem dX2_readItems_28 : decode cX2_readItems 28 = .ok (.goto (-21), 3) := dk_167 255 235 (dk_at dksX2_readItems_1 4 rfl rfl)
theorem dX2_readItems_31 : decode cX2_readItems 31 = .ok (.aload_n 0, 1) := dk_42 (dk_at dksX2_readItems_1 7 rfl rfl)
theorem dX2_readItems_32 : decode cX2_readItems 32 = .ok (.ldc_w 578, 3) := dk_19 2 66 (dk_at dksX2_readItems_1 8 rfl rfl)
theorem dX2_readItems_35 : decode cX2_readItems 35 = .ok (.invokevirtual 478, 3) := dk_182 1 222 (dk_at dksX2_readItems_1 11 rfl rfl)
theorem dX2_readItems_38 : decode cX2_readItems 38 = .ok (.ifCond .eq 10, 3) := dk_153 0 10 (dk_at dksX2_readItems_1 14 rfl rfl)
theorem dX2_readItems_41 : decode cX2_readItems 41 = .ok (.aload_n 0, 1) := dk_42 (dk_at dksX2_readItems_1 17 rfl rfl)
theorem dX2_readItems_42 : decode cX2_readItems 42 = .ok (.invokevirtual 580, 3) := dk_182 2 68 (dk_at dksX2_readItems_1 18 rfl rfl)
theorem dX2_readItems_45 : decode cX2_readItems 45 = .ok (.goto (-38), 3) := dk_167 255 218 (dk_at dksX2_readItems_1 21 rfl rfl)
theorem dX2_readItems_48 : decode cX2_readItems 48 = .ok (.aload_n 0, 1) := dk_42 (dk_at dksX2_readItems_2 0 rfl rfl)
theorem dX2_readItems_49 : decode cX2_readItems 49 = .ok (.ldc_w 583, 3) := dk_19 2 71 (dk_at dksX2_readItems_2 1 rfl rfl)
theorem dX2_readItems_52 : decode cX2_readItems 52 = .ok (.invokevirtual 478, 3) := dk_182 1 222 (dk_at dksX2_readItems_2 4 rfl rfl)
theorem dX2_readItems_55 : decode cX2_readItems 55 = .ok (.ifCond .eq 10, 3) := dk_153 0 10 (dk_at dksX2_readItems_2 7 rfl rfl)
theorem dX2_readItems_58 : decode cX2_readItems 58 = .ok (.aload_n 0, 1) := dk_42 (dk_at dksX2_readItems_2 10 rfl rfl)
theorem dX2_readItems_59 : decode cX2_readItems 59 = .ok (.invokevirtual 585, 3) := dk_182 2 73 (dk_at dksX2_readItems_2 11 rfl rfl)
theorem dX2_readItems_62 : decode cX2_readItems 62 = .ok (.goto (-55), 3) := dk_167 255 201 (dk_at dksX2_readItems_2 14 rfl rfl)
theorem dX2_readItems_65 : decode cX2_readItems 65 = .ok (.aload_n 0, 1) := dk_42 (dk_at dksX2_readItems_2 17 rfl rfl)
theorem dX2_readItems_66 : decode cX2_readItems 66 = .ok (.ldc_w 588, 3) := dk_19 2 76 (dk_at dksX2_readItems_2 18 rfl rfl)
theorem dX2_readItems_69 : decode cX2_readItems 69 = .ok (.invokevirtual 478, 3) := dk_182 1 222 (dk_at dksX2_readItems_2 21 rfl rfl)
theorem dX2_readItems_72 : decode cX2_readItems 72 = .ok (.ifCond .eq 10, 3) := dk_153 0 10 (dk_at dksX2_readItems_3 0 rfl rfl)
theorem dX2_readItems_75 : decode cX2_readItems 75 = .ok (.aload_n 0, 1) := dk_42 (dk_at dksX2_readItems_3 3 rfl rfl)
theorem dX2_readItems_76 : decode cX2_readItems 76 = .ok (.invokevirtual 590, 3) := dk_182 2 78 (dk_at dksX2_readItems_3 4 rfl rfl)
theorem dX2_readItems_79 : decode cX2_readItems 79 = .ok (.goto (-72), 3) := dk_167 255 184 (dk_at dksX2_readItems_3 7 rfl rfl)
theorem dX2_readItems_82 : decode cX2_readItems 82 = .ok (.aload_n 0, 1) := dk_42 (dk_at dksX2_readItems_3 10 rfl rfl)
theorem dX2_readItems_83 : decode cX2_readItems 83 = .ok (.ldc_w 593, 3) := dk_19 2 81 (dk_at dksX2_readItems_3 11 rfl rfl)
theorem dX2_readItems_86 : decode cX2_readItems 86 = .ok (.invokevirtual 478, 3) := dk_182 1 222 (dk_at dksX2_readItems_3 14 rfl rfl)
theorem dX2_readItems_89 : decode cX2_readItems 89 = .ok (.ifCond .eq 11, 3) := dk_153 0 11 (dk_at dksX2_readItems_3 17 rfl rfl)
theorem dX2_readItems_92 : decode cX2_readItems 92 = .ok (.aload_n 0, 1) := dk_42 (dk_at dksX2_readItems_3 20 rfl rfl)
theorem dX2_readItems_93 : decode cX2_readItems 93 = .ok (.iconst 0, 1) := dk_3 (dk_at dksX2_readItems_3 21 rfl rfl)
theorem dX2_readItems_94 : decode cX2_readItems 94 = .ok (.invokevirtual 595, 3) := dk_182 2 83 (dk_at dksX2_readItems_4 0 rfl rfl)
theorem dX2_readItems_97 : decode cX2_readItems 97 = .ok (.goto (-90), 3) := dk_167 255 166 (dk_at dksX2_readItems_4 3 rfl rfl)
theorem dX2_readItems_100 : decode cX2_readItems 100 = .ok (.aload_n 0, 1) := dk_42 (dk_at dksX2_readItems_4 6 rfl rfl)
theorem dX2_readItems_101 : decode cX2_readItems 101 = .ok (.ldc_w 598, 3) := dk_19 2 86 (dk_at dksX2_readItems_4 7 rfl rfl)
theorem dX2_readItems_104 : decode cX2_readItems 104 = .ok (.invokevirtual 478, 3) := dk_182 1 222 (dk_at dksX2_readItems_4 10 rfl rfl)
theorem dX2_readItems_107 : decode cX2_readItems 107 = .ok (.ifCond .eq 11, 3) := dk_153 0 11 (dk_at dksX2_readItems_4 13 rfl rfl)
theorem dX2_readItems_110 : decode cX2_readItems 110 = .ok (.aload_n 0, 1) := dk_42 (dk_at dksX2_readItems_4 16 rfl rfl)
theorem dX2_readItems_111 : decode cX2_readItems 111 = .ok (.iconst 1, 1) := dk_4 (dk_at dksX2_readItems_4 17 rfl rfl)
theorem dX2_readItems_112 : decode cX2_readItems 112 = .ok (.invokevirtual 595, 3) := dk_182 2 83 (dk_at dksX2_readItems_4 18 rfl rfl)
theorem dX2_readItems_115 : decode cX2_readItems 115 = .ok (.goto (-108), 3) := dk_167 255 148 (dk_at dksX2_readItems_4 21 rfl rfl)
theorem dX2_readItems_118 : decode cX2_readItems 118 = .ok (.aload_n 0, 1) := dk_42 (dk_at dksX2_readItems_5 0 rfl rfl)
theorem dX2_readItems_119 : decode cX2_readItems 119 = .ok (.ldc_w 600, 3) := dk_19 2 88 (dk_at dksX2_readItems_5 1 rfl rfl)
theorem dX2_readItems_122 : decode cX2_readItems 122 = .ok (.invokevirtual 478, 3) := dk_182 1 222 (dk_at dksX2_readItems_5 4 rfl rfl)
theorem dX2_readItems_125 : decode cX2_readItems 125 = .ok (.ifCond .eq 11, 3) := dk_153 0 11 (dk_at dksX2_readItems_5 7 rfl rfl)
theorem dX2_readItems_128 : decode cX2_readItems 128 = .ok (.aload_n 0, 1) := dk_42 (dk_at dksX2_readItems_5 10 rfl rfl)
theorem dX2_readItems_129 : decode cX2_readItems 129 = .ok (.iconst 2, 1) := dk_5 (dk_at dksX2_readItems_5 11 rfl rfl)
theorem dX2_readItems_130 : decode cX2_readItems 130 = .ok (.invokevirtual 595, 3) := dk_182 2 83 (dk_at dksX2_readItems_5 12 rfl rfl)
theorem dX2_readItems_133 : decode cX2_readItems 133 = .ok (.goto (-126), 3) := dk_167 255 130 (dk_at dksX2_readItems_5 15 rfl rfl)
theorem dX2_readItems_136 : decode cX2_readItems 136 = .ok (.aload_n 0, 1) := dk_42 (dk_at dksX2_readItems_5 18 rfl rfl)
theorem dX2_readItems_137 : decode cX2_readItems 137 = .ok (.iconst 1, 1) := dk_4 (dk_at dksX2_readItems_5 19 rfl rfl)
theorem dX2_readItems_138 : decode cX2_readItems 138 = .ok (.aload_n 0, 1) := dk_42 (dk_at dksX2_readItems_5 20 rfl rfl)
theorem dX2_readItems_139 : decode cX2_readItems 139 = .ok (.invokevirtual 475, 3) := dk_182 1 219 (dk_at dksX2_readItems_5 21 rfl rfl)
theorem dX2_readItems_142 : decode cX2_readItems 142 = .ok (.invokevirtual 434, 3) := dk_182 1 178 (dk_at dksX2_readItems_6 0 rfl rfl)
theorem dX2_readItems_145 : decode cX2_readItems 145 = .ok (.goto (-138), 3) := dk_167 255 118 (dk_at dksX2_readItems_6 3 rfl rfl)
theorem dX2_readItems_148 : decode cX2_readItems 148 = .ok (.return_, 1) := dk_177 (dk_at dksX2_readItems_6 6 rfl rfl)
abbrev cX2_isOver : ByteArray := prog_4_method_11_code
def yX2_isOver : MethodName := ⟨RX2, "isOver", "()Z"⟩
def dkwX2_isOver_1 : List UInt8 := [180, 1, 157, 182, 1, 178, 4, 172]
abbrev dktX2_isOver_1 : List UInt8 := dkwX2_isOver_1 ++ []
def dkwX2_isOver_0 : List UInt8 := [42, 180, 1, 160, 42, 180, 1, 154, 162, 0, 5, 3, 172, 42, 180, 1, 157, 155, 0, 12, 42, 4, 42]
abbrev dktX2_isOver_0 : List UInt8 := dkwX2_isOver_0 ++ dktX2_isOver_1
theorem dksX2_isOver_0 : cX2_isOver.data.toList.drop 0 = dktX2_isOver_0 := by decide +kernel
theorem dksX2_isOver_1 : cX2_isOver.data.toList.drop 23 = dktX2_isOver_1 := dk_seg dksX2_isOver_0 23 rfl rfl
theorem dX2_isOver_0 : decode cX2_isOver 0 = .ok (.aload_n 0, 1) := dk_42 (dk_at dksX2_isOver_0 0 rfl rfl)
theorem dX2_isOver_1 : decode cX2_isOver 1 = .ok (.getfield 416, 3) := dk_180 1 160 (dk_at dksX2_isOver_0 1 rfl rfl)
theorem dX2_isOver_4 : decode cX2_isOver 4 = .ok (.aload_n 0, 1) := dk_42 (dk_at dksX2_isOver_0 4 rfl rfl)
theorem dX2_isOver_5 : decode cX2_isOver 5 = .ok (.getfield 410, 3) := dk_180 1 154 (dk_at dksX2_isOver_0 5 rfl rfl)
theorem dX2_isOver_8 : decode cX2_isOver 8 = .ok (.if_icmp .ge 5, 3) := dk_162 0 5 (dk_at dksX2_isOver_0 8 rfl rfl)
theorem dX2_isOver_11 : decode cX2_isOver 11 = .ok (.iconst 0, 1) := dk_3 (dk_at dksX2_isOver_0 11 rfl rfl)
theorem dX2_isOver_12 : decode cX2_isOver 12 = .ok (.ireturn, 1) := dk_172 (dk_at dksX2_isOver_0 12 rfl rfl)
theorem dX2_isOver_13 : decode cX2_isOver 13 = .ok (.aload_n 0, 1) := dk_42 (dk_at dksX2_isOver_0 13 rfl rfl)
theorem dX2_isOver_14 : decode cX2_isOver 14 = .ok (.getfield 413, 3) := dk_180 1 157 (dk_at dksX2_isOver_0 14 rfl rfl)
theorem dX2_isOver_17 : decode cX2_isOver 17 = .ok (.ifCond .lt 12, 3) := dk_155 0 12 (dk_at dksX2_isOver_0 17 rfl rfl)
theorem dX2_isOver_20 : decode cX2_isOver 20 = .ok (.aload_n 0, 1) := dk_42 (dk_at dksX2_isOver_0 20 rfl rfl)
theorem dX2_isOver_21 : decode cX2_isOver 21 = .ok (.iconst 1, 1) := dk_4 (dk_at dksX2_isOver_0 21 rfl rfl)
theorem dX2_isOver_22 : decode cX2_isOver 22 = .ok (.aload_n 0, 1) := dk_42 (dk_at dksX2_isOver_0 22 rfl rfl)
theorem dX2_isOver_23 : decode cX2_isOver 23 = .ok (.getfield 413, 3) := dk_180 1 157 (dk_at dksX2_isOver_1 0 rfl rfl)
theorem dX2_isOver_26 : decode cX2_isOver 26 = .ok (.invokevirtual 434, 3) := dk_182 1 178 (dk_at dksX2_isOver_1 3 rfl rfl)
theorem dX2_isOver_29 : decode cX2_isOver 29 = .ok (.iconst 1, 1) := dk_4 (dk_at dksX2_isOver_1 6 rfl rfl)
theorem dX2_isOver_30 : decode cX2_isOver 30 = .ok (.ireturn, 1) := dk_172 (dk_at dksX2_isOver_1 7 rfl rfl)
abbrev cX2_fail : ByteArray := prog_4_method_3_code
def yX2_fail : MethodName := ⟨RX2, "fail", "(II)V"⟩
def dkwX2_fail_0 : List UInt8 := [42, 180, 0, 7, 27, 181, 0, 11, 42, 180, 0, 7, 28, 181, 0, 16, 42, 180, 0, 7, 191]
abbrev dktX2_fail_0 : List UInt8 := dkwX2_fail_0 ++ []
theorem dksX2_fail_0 : cX2_fail.data.toList.drop 0 = dktX2_fail_0 := by decide +kernel
theorem dX2_fail_0 : decode cX2_fail 0 = .ok (.aload_n 0, 1) := dk_42 (dk_at dksX2_fail_0 0 rfl rfl)
theorem dX2_fail_1 : decode cX2_fail 1 = .ok (.getfield 7, 3) := dk_180 0 7 (dk_at dksX2_fail_0 1 rfl rfl)
theorem dX2_fail_4 : decode cX2_fail 4 = .ok (.iload_n 1, 1) := dk_27 (dk_at dksX2_fail_0 4 rfl rfl)
theorem dX2_fail_5 : decode cX2_fail 5 = .ok (.putfield 11, 3) := dk_181 0 11 (dk_at dksX2_fail_0 5 rfl rfl)
theorem dX2_fail_8 : decode cX2_fail 8 = .ok (.aload_n 0, 1) := dk_42 (dk_at dksX2_fail_0 8 rfl rfl)
theorem dX2_fail_9 : decode cX2_fail 9 = .ok (.getfield 7, 3) := dk_180 0 7 (dk_at dksX2_fail_0 9 rfl rfl)
theorem dX2_fail_12 : decode cX2_fail 12 = .ok (.iload_n 2, 1) := dk_28 (dk_at dksX2_fail_0 12 rfl rfl)
theorem dX2_fail_13 : decode cX2_fail 13 = .ok (.putfield 16, 3) := dk_181 0 16 (dk_at dksX2_fail_0 13 rfl rfl)
theorem dX2_fail_16 : decode cX2_fail 16 = .ok (.aload_n 0, 1) := dk_42 (dk_at dksX2_fail_0 16 rfl rfl)
theorem dX2_fail_17 : decode cX2_fail 17 = .ok (.getfield 7, 3) := dk_180 0 7 (dk_at dksX2_fail_0 17 rfl rfl)
theorem dX2_fail_20 : decode cX2_fail 20 = .ok (.athrow, 1) := dk_191 (dk_at dksX2_fail_0 20 rfl rfl)
abbrev cX2_is : ByteArray := prog_4_method_14_code
def yX2_is : MethodName := ⟨RX2, "is", "(Ljava/lang/String;)Z"⟩
def dkwX2_is_1 : List UInt8 := [172]
abbrev dktX2_is_1 : List UInt8 := dkwX2_is_1 ++ []
def dkwX2_is_0 : List UInt8 := [42, 182, 1, 192, 154, 0, 19, 42, 42, 180, 1, 160, 43, 182, 1, 196, 153, 0, 7, 4, 167, 0, 4, 3]
abbrev dktX2_is_0 : List UInt8 := dkwX2_is_0 ++ dktX2_is_1
theorem dksX2_is_0 : cX2_is.data.toList.drop 0 = dktX2_is_0 := by decide +kernel
theorem dksX2_is_1 : cX2_is.data.toList.drop 24 = dktX2_is_1 := dk_seg dksX2_is_0 24 rfl rfl
theorem dX2_is_0 : decode cX2_is 0 = .ok (.aload_n 0, 1) := dk_42 (dk_at dksX2_is_0 0 rfl rfl)
theorem dX2_is_1 : decode cX2_is 1 = .ok (.invokevirtual 448, 3) := dk_182 1 192 (dk_at dksX2_is_0 1 rfl rfl)
theorem dX2_is_4 : decode cX2_is 4 = .ok (.ifCond .ne 19, 3) := dk_154 0 19 (dk_at dksX2_is_0 4 rfl rfl)
theorem dX2_is_7 : decode cX2_is 7 = .ok (.aload_n 0, 1) := dk_42 (dk_at dksX2_is_0 7 rfl rfl)
theorem dX2_is_8 : decode cX2_is 8 = .ok (.aload_n 0, 1) := dk_42 (dk_at dksX2_is_0 8 rfl rfl)
theorem dX2_is_9 : decode cX2_is 9 = .ok (.getfield 416, 3) := dk_180 1 160 (dk_at dksX2_is_0 9 rfl rfl)
theorem dX2_is_12 : decode cX2_is 12 = .ok (.aload_n 1, 1) := dk_43 (dk_at dksX2_is_0 12 rfl rfl)
theorem dX2_is_13 : decode cX2_is 13 = .ok (.invokevirtual 452, 3) := dk_182 1 196 (dk_at dksX2_is_0 13 rfl rfl)
theorem dX2_is_16 : decode cX2_is 16 = .ok (.ifCond .eq 7, 3) := dk_153 0 7 (dk_at dksX2_is_0 16 rfl rfl)
theorem dX2_is_19 : decode cX2_is 19 = .ok (.iconst 1, 1) := dk_4 (dk_at dksX2_is_0 19 rfl rfl)
theorem dX2_is_20 : decode cX2_is 20 = .ok (.goto 4, 3) := dk_167 0 4 (dk_at dksX2_is_0 20 rfl rfl)
theorem dX2_is_23 : decode cX2_is 23 = .ok (.iconst 0, 1) := dk_3 (dk_at dksX2_is_0 23 rfl rfl)
theorem dX2_is_24 : decode cX2_is 24 = .ok (.ireturn, 1) := dk_172 (dk_at dksX2_is_1 0 rfl rfl)
abbrev cX2_isWordAt : ByteArray := prog_4_method_13_code
def yX2_isWordAt : MethodName := ⟨RX2, "isWordAt", "(ILjava/lang/String;)Z"⟩
def dkwX2_isWordAt_3 : List UInt8 := [167, 255, 209, 29, 172]
abbrev dktX2_isWordAt_3 : List UInt8 := dkwX2_isWordAt_3 ++ []
def dkwX2_isWordAt_2 : List UInt8 := [21, 4, 96, 51, 44, 21, 4, 182, 1, 188, 160, 0, 7, 4, 167, 0, 4, 3, 62, 132, 4, 1]
abbrev dktX2_isWordAt_2 : List UInt8 := dkwX2_isWordAt_2 ++ dktX2_isWordAt_3
def dkwX2_isWordAt_1 : List UInt8 := [42, 180, 0, 37, 27, 46, 162, 0, 42, 29, 153, 0, 38, 42, 180, 0, 30, 42, 180, 0, 33, 27, 46]
abbrev dktX2_isWordAt_1 : List UInt8 := dkwX2_isWordAt_1 ++ dktX2_isWordAt_2
def dkwX2_isWordAt_0 : List UInt8 := [42, 180, 0, 37, 27, 46, 44, 182, 1, 182, 160, 0, 7, 4, 167, 0, 4, 3, 62, 3, 54, 4, 21, 4]
abbrev dktX2_isWordAt_0 : List UInt8 := dkwX2_isWordAt_0 ++ dktX2_isWordAt_1
theorem dksX2_isWordAt_0 : cX2_isWordAt.data.toList.drop 0 = dktX2_isWordAt_0 := by decide +kernel
theorem dksX2_isWordAt_1 : cX2_isWordAt.data.toList.drop 24 = dktX2_isWordAt_1 := dk_seg dksX2_isWordAt_0 24 rfl rfl
theorem dksX2_isWordAt_2 : cX2_isWordAt.data.toList.drop 47 = dktX2_isWordAt_2 := dk_seg dksX2_isWordAt_1 23 rfl rfl
theorem dksX2_isWordAt_3 : cX2_isWordAt.data.toList.drop 69 = dktX2_isWordAt_3 := dk_seg dksX2_isWordAt_2 22 rfl rfl
theorem dX2_isWordAt_0 : decode cX2_isWordAt 0 = .ok (.aload_n 0, 1) := dk_42 (dk_at dksX2_isWordAt_0 0 rfl rfl)
theorem dX2_isWordAt_1 : decode cX2_isWordAt 1 = .ok (.getfield 37, 3) := dk_180 0 37 (dk_at dksX2_isWordAt_0 1 rfl rfl)
theorem dX2_isWordAt_4 : decode cX2_isWordAt 4 = .ok (.iload_n 1, 1) := dk_27 (dk_at dksX2_isWordAt_0 4 rfl rfl)
theorem dX2_isWordAt_5 : decode cX2_isWordAt 5 = .ok (.iaload, 1) := dk_46 (dk_at dksX2_isWordAt_0 5 rfl rfl)
theorem dX2_isWordAt_6 : decode cX2_isWordAt 6 = .ok (.aload_n 2, 1) := dk_44 (dk_at dksX2_isWordAt_0 6 rfl rfl)
theorem dX2_isWordAt_7 : decode cX2_isWordAt 7 = .ok (.invokevirtual 438, 3) := dk_182 1 182 (dk_at dksX2_isWordAt_0 7 rfl rfl)
theorem dX2_isWordAt_10 : decode cX2_isWordAt 10 = .ok (.if_icmp .ne 7, 3) := dk_160 0 7 (dk_at dksX2_isWordAt_0 10 rfl rfl)
theorem dX2_isWordAt_13 : decode cX2_isWordAt 13 = .ok (.iconst 1, 1) := dk_4 (dk_at dksX2_isWordAt_0 13 rfl rfl)
theorem dX2_isWordAt_14 : decode cX2_isWordAt 14 = .ok (.goto 4, 3) := dk_167 0 4 (dk_at dksX2_isWordAt_0 14 rfl rfl)
theorem dX2_isWordAt_17 : decode cX2_isWordAt 17 = .ok (.iconst 0, 1) := dk_3 (dk_at dksX2_isWordAt_0 17 rfl rfl)
theorem dX2_isWordAt_18 : decode cX2_isWordAt 18 = .ok (.istore_n 3, 1) := dk_62 (dk_at dksX2_isWordAt_0 18 rfl rfl)
theorem dX2_isWordAt_19 : decode cX2_isWordAt 19 = .ok (.iconst 0, 1) := dk_3 (dk_at dksX2_isWordAt_0 19 rfl rfl)
theorem dX2_isWordAt_20 : decode cX2_isWordAt 20 = .ok (.istore 4, 2) := dk_54 4 (dk_at dksX2_isWordAt_0 20 rfl rfl)
theorem dX2_isWordAt_22 : decode cX2_isWordAt 22 = .ok (.iload 4, 2) := dk_21 4 (dk_at dksX2_isWordAt_0 22 rfl rfl)
theorem dX2_isWordAt_24 : decode cX2_isWordAt 24 = .ok (.aload_n 0, 1) := dk_42 (dk_at dksX2_isWordAt_1 0 rfl rfl)
theorem dX2_isWordAt_25 : decode cX2_isWordAt 25 = .ok (.getfield 37, 3) := dk_180 0 37 (dk_at dksX2_isWordAt_1 1 rfl rfl)
theorem dX2_isWordAt_28 : decode cX2_isWordAt 28 = .ok (.iload_n 1, 1) := dk_27 (dk_at dksX2_isWordAt_1 4 rfl rfl)
theorem dX2_isWordAt_29 : decode cX2_isWordAt 29 = .ok (.iaload, 1) := dk_46 (dk_at dksX2_isWordAt_1 5 rfl rfl)
theorem dX2_isWordAt_30 : decode cX2_isWordAt 30 = .ok (.if_icmp .ge 42, 3) := dk_162 0 42 (dk_at dksX2_isWordAt_1 6 rfl rfl)
theorem dX2_isWordAt_33 : decode cX2_isWordAt 33 = .ok (.iload_n 3, 1) := dk_29 (dk_at dksX2_isWordAt_1 9 rfl rfl)
theorem dX2_isWordAt_34 : decode cX2_isWordAt 34 = .ok (.ifCond .eq 38, 3) := dk_153 0 38 (dk_at dksX2_isWordAt_1 10 rfl rfl)
theorem dX2_isWordAt_37 : decode cX2_isWordAt 37 = .ok (.aload_n 0, 1) := dk_42 (dk_at dksX2_isWordAt_1 13 rfl rfl)
theorem dX2_isWordAt_38 : decode cX2_isWordAt 38 = .ok (.getfield 30, 3) := dk_180 0 30 (dk_at dksX2_isWordAt_1 14 rfl rfl)
theorem dX2_isWordAt_41 : decode cX2_isWordAt 41 = .ok (.aload_n 0, 1) := dk_42 (dk_at dksX2_isWordAt_1 17 rfl rfl)
theorem dX2_isWordAt_42 : decode cX2_isWordAt 42 = .ok (.getfield 33, 3) := dk_180 0 33 (dk_at dksX2_isWordAt_1 18 rfl rfl)
theorem dX2_isWordAt_45 : decode cX2_isWordAt 45 = .ok (.iload_n 1, 1) := dk_27 (dk_at dksX2_isWordAt_1 21 rfl rfl)
theorem dX2_isWordAt_46 : decode cX2_isWordAt 46 = .ok (.iaload, 1) := dk_46 (dk_at dksX2_isWordAt_1 22 rfl rfl)
theorem dX2_isWordAt_47 : decode cX2_isWordAt 47 = .ok (.iload 4, 2) := dk_21 4 (dk_at dksX2_isWordAt_2 0 rfl rfl)
theorem dX2_isWordAt_49 : decode cX2_isWordAt 49 = .ok (.iadd, 1) := dk_96 (dk_at dksX2_isWordAt_2 2 rfl rfl)
theorem dX2_isWordAt_50 : decode cX2_isWordAt 50 = .ok (.baload, 1) := dk_51 (dk_at dksX2_isWordAt_2 3 rfl rfl)
theorem dX2_isWordAt_51 : decode cX2_isWordAt 51 = .ok (.aload_n 2, 1) := dk_44 (dk_at dksX2_isWordAt_2 4 rfl rfl)
theorem dX2_isWordAt_52 : decode cX2_isWordAt 52 = .ok (.iload 4, 2) := dk_21 4 (dk_at dksX2_isWordAt_2 5 rfl rfl)
theorem dX2_isWordAt_54 : decode cX2_isWordAt 54 = .ok (.invokevirtual 444, 3) := dk_182 1 188 (dk_at dksX2_isWordAt_2 7 rfl rfl)
theorem dX2_isWordAt_57 : decode cX2_isWordAt 57 = .ok (.if_icmp .ne 7, 3) := dk_160 0 7 (dk_at dksX2_isWordAt_2 10 rfl rfl)
theorem dX2_isWordAt_60 : decode cX2_isWordAt 60 = .ok (.iconst 1, 1) := dk_4 (dk_at dksX2_isWordAt_2 13 rfl rfl)
theorem dX2_isWordAt_61 : decode cX2_isWordAt 61 = .ok (.goto 4, 3) := dk_167 0 4 (dk_at dksX2_isWordAt_2 14 rfl rfl)
theorem dX2_isWordAt_64 : decode cX2_isWordAt 64 = .ok (.iconst 0, 1) := dk_3 (dk_at dksX2_isWordAt_2 17 rfl rfl)
theorem dX2_isWordAt_65 : decode cX2_isWordAt 65 = .ok (.istore_n 3, 1) := dk_62 (dk_at dksX2_isWordAt_2 18 rfl rfl)
theorem dX2_isWordAt_66 : decode cX2_isWordAt 66 = .ok (.iinc 4 1, 3) := dk_132 4 1 (dk_at dksX2_isWordAt_2 19 rfl rfl)
theorem dX2_isWordAt_69 : decode cX2_isWordAt 69 = .ok (.goto (-47), 3) := dk_167 255 209 (dk_at dksX2_isWordAt_3 0 rfl rfl)
theorem dX2_isWordAt_72 : decode cX2_isWordAt 72 = .ok (.iload_n 3, 1) := dk_29 (dk_at dksX2_isWordAt_3 3 rfl rfl)
theorem dX2_isWordAt_73 : decode cX2_isWordAt 73 = .ok (.ireturn, 1) := dk_172 (dk_at dksX2_isWordAt_3 4 rfl rfl)
abbrev cX2_sortItem : ByteArray := prog_4_method_27_code
def yX2_sortItem : MethodName := ⟨RX2, "sortItem", "()V"⟩
def dkwX2_sortItem_3 : List UInt8 := [182, 1, 250, 79, 42, 89, 180, 2, 9, 4, 96, 181, 2, 9, 4, 60, 167, 255, 174, 42, 182, 1, 226, 177]
abbrev dktX2_sortItem_3 : List UInt8 := dkwX2_sortItem_3 ++ []
def dkwX2_sortItem_2 : List UInt8 := [42, 182, 1, 219, 182, 1, 178, 42, 180, 0, 53, 28, 153, 0, 7, 3, 167, 0, 7, 42, 180, 2, 9, 42]
abbrev dktX2_sortItem_2 : List UInt8 := dkwX2_sortItem_2 ++ dktX2_sortItem_3
def dkwX2_sortItem_1 : List UInt8 := [16, 20, 160, 0, 7, 4, 167, 0, 4, 3, 61, 28, 153, 0, 19, 42, 182, 2, 12, 153, 0, 12, 42, 5]
abbrev dktX2_sortItem_1 : List UInt8 := dkwX2_sortItem_1 ++ dktX2_sortItem_2
def dkwX2_sortItem_0 : List UInt8 := [42, 182, 1, 226, 3, 60, 27, 153, 0, 13, 42, 19, 1, 200, 182, 1, 222, 154, 0, 74, 42, 180, 2, 9]
abbrev dktX2_sortItem_0 : List UInt8 := dkwX2_sortItem_0 ++ dktX2_sortItem_1
theorem dksX2_sortItem_0 : cX2_sortItem.data.toList.drop 0 = dktX2_sortItem_0 := by decide +kernel
theorem dksX2_sortItem_1 : cX2_sortItem.data.toList.drop 24 = dktX2_sortItem_1 := dk_seg dksX2_sortItem_0 24 rfl rfl
theorem dksX2_sortItem_2 : cX2_sortItem.data.toList.drop 48 = dktX2_sortItem_2 := dk_seg dksX2_sortItem_1 24 rfl rfl
theorem dksX2_sortItem_3 : cX2_sortItem.data.toList.drop 72 = dktX2_sortItem_3 := dk_seg dksX2_sortItem_2 24 rfl rfl
theorem dX2_sortItem_0 : decode cX2_sortItem 0 = .ok (.aload_n 0, 1) := dk_42 (dk_at dksX2_sortItem_0 0 rfl rfl)
theorem dX2_sortItem_1 : decode cX2_sortItem 1 = .ok (.invokevirtual 482, 3) := dk_182 1 226 (dk_at dksX2_sortItem_0 1 rfl rfl)
theorem dX2_sortItem_4 : decode cX2_sortItem 4 = .ok (.iconst 0, 1) := dk_3 (dk_at dksX2_sortItem_0 4 rfl rfl)
theorem dX2_sortItem_5 : decode cX2_sortItem 5 = .ok (.istore_n 1, 1) := dk_60 (dk_at dksX2_sortItem_0 5 rfl rfl)
theorem dX2_sortItem_6 : decode cX2_sortItem 6 = .ok (.iload_n 1, 1) := dk_27 (dk_at dksX2_sortItem_0 6 rfl rfl)
theorem dX2_sortItem_7 : decode cX2_sortItem 7 = .ok (.ifCond .eq 13, 3) := dk_153 0 13 (dk_at dksX2_sortItem_0 7 rfl rfl)
theorem dX2_sortItem_10 : decode cX2_sortItem 10 = .ok (.aload_n 0, 1) := dk_42 (dk_at dksX2_sortItem_0 10 rfl rfl)
theorem dX2_sortItem_11 : decode cX2_sortItem 11 = .ok (.ldc_w 456, 3) := dk_19 1 200 (dk_at dksX2_sortItem_0 11 rfl rfl)
theorem dX2_sortItem_14 : decode cX2_sortItem 14 = .ok (.invokevirtual 478, 3) := dk_182 1 222 (dk_at dksX2_sortItem_0 14 rfl rfl)
theorem dX2_sortItem_17 : decode cX2_sortItem 17 = .ok (.ifCond .ne 74, 3) := dk_154 0 74 (dk_at dksX2_sortItem_0 17 rfl rfl)
theorem dX2_sortItem_20 : decode cX2_sortItem 20 = .ok (.aload_n 0, 1) := dk_42 (dk_at dksX2_sortItem_0 20 rfl rfl)
theorem dX2_sortItem_21 : decode cX2_sortItem 21 = .ok (.getfield 521, 3) := dk_180 2 9 (dk_at dksX2_sortItem_0 21 rfl rfl)
theorem dX2_sortItem_24 : decode cX2_sortItem 24 = .ok (.bipush 20, 2) := dk_16 20 (dk_at dksX2_sortItem_1 0 rfl rfl)
theorem dX2_sortItem_26 : decode cX2_sortItem 26 = .ok (.if_icmp .ne 7, 3) := dk_160 0 7 (dk_at dksX2_sortItem_1 2 rfl rfl)
theorem dX2_sortItem_29 : decode cX2_sortItem 29 = .ok (.iconst 1, 1) := dk_4 (dk_at dksX2_sortItem_1 5 rfl rfl)
theorem dX2_sortItem_30 : decode cX2_sortItem 30 = .ok (.goto 4, 3) := dk_167 0 4 (dk_at dksX2_sortItem_1 6 rfl rfl)
theorem dX2_sortItem_33 : decode cX2_sortItem 33 = .ok (.iconst 0, 1) := dk_3 (dk_at dksX2_sortItem_1 9 rfl rfl)
theorem dX2_sortItem_34 : decode cX2_sortItem 34 = .ok (.istore_n 2, 1) := dk_61 (dk_at dksX2_sortItem_1 10 rfl rfl)
theorem dX2_sortItem_35 : decode cX2_sortItem 35 = .ok (.iload_n 2, 1) := dk_28 (dk_at dksX2_sortItem_1 11 rfl rfl)
theorem dX2_sortItem_36 : decode cX2_sortItem 36 = .ok (.ifCond .eq 19, 3) := dk_153 0 19 (dk_at dksX2_sortItem_1 12 rfl rfl)
theorem dX2_sortItem_39 : decode cX2_sortItem 39 = .ok (.aload_n 0, 1) := dk_42 (dk_at dksX2_sortItem_1 15 rfl rfl)
theorem dX2_sortItem_40 : decode cX2_sortItem 40 = .ok (.invokevirtual 524, 3) := dk_182 2 12 (dk_at dksX2_sortItem_1 16 rfl rfl)
theorem dX2_sortItem_43 : decode cX2_sortItem 43 = .ok (.ifCond .eq 12, 3) := dk_153 0 12 (dk_at dksX2_sortItem_1 19 rfl rfl)
theorem dX2_sortItem_46 : decode cX2_sortItem 46 = .ok (.aload_n 0, 1) := dk_42 (dk_at dksX2_sortItem_1 22 rfl rfl)
theorem dX2_sortItem_47 : decode cX2_sortItem 47 = .ok (.iconst 2, 1) := dk_5 (dk_at dksX2_sortItem_1 23 rfl rfl)
theorem dX2_sortItem_48 : decode cX2_sortItem 48 = .ok (.aload_n 0, 1) := dk_42 (dk_at dksX2_sortItem_2 0 rfl rfl)
theorem dX2_sortItem_49 : decode cX2_sortItem 49 = .ok (.invokevirtual 475, 3) := dk_182 1 219 (dk_at dksX2_sortItem_2 1 rfl rfl)
theorem dX2_sortItem_52 : decode cX2_sortItem 52 = .ok (.invokevirtual 434, 3) := dk_182 1 178 (dk_at dksX2_sortItem_2 4 rfl rfl)
theorem dX2_sortItem_55 : decode cX2_sortItem 55 = .ok (.aload_n 0, 1) := dk_42 (dk_at dksX2_sortItem_2 7 rfl rfl)
theorem dX2_sortItem_56 : decode cX2_sortItem 56 = .ok (.getfield 53, 3) := dk_180 0 53 (dk_at dksX2_sortItem_2 8 rfl rfl)
theorem dX2_sortItem_59 : decode cX2_sortItem 59 = .ok (.iload_n 2, 1) := dk_28 (dk_at dksX2_sortItem_2 11 rfl rfl)
theorem dX2_sortItem_60 : decode cX2_sortItem 60 = .ok (.ifCond .eq 7, 3) := dk_153 0 7 (dk_at dksX2_sortItem_2 12 rfl rfl)
theorem dX2_sortItem_63 : decode cX2_sortItem 63 = .ok (.iconst 0, 1) := dk_3 (dk_at dksX2_sortItem_2 15 rfl rfl)
theorem dX2_sortItem_64 : decode cX2_sortItem 64 = .ok (.goto 7, 3) := dk_167 0 7 (dk_at dksX2_sortItem_2 16 rfl rfl)
theorem dX2_sortItem_67 : decode cX2_sortItem 67 = .ok (.aload_n 0, 1) := dk_42 (dk_at dksX2_sortItem_2 19 rfl rfl)
theorem dX2_sortItem_68 : decode cX2_sortItem 68 = .ok (.getfield 521, 3) := dk_180 2 9 (dk_at dksX2_sortItem_2 20 rfl rfl)
theorem dX2_sortItem_71 : decode cX2_sortItem 71 = .ok (.aload_n 0, 1) := dk_42 (dk_at dksX2_sortItem_2 23 rfl rfl)
theorem dX2_sortItem_72 : decode cX2_sortItem 72 = .ok (.invokevirtual 506, 3) := dk_182 1 250 (dk_at dksX2_sortItem_3 0 rfl rfl)
theorem dX2_sortItem_75 : decode cX2_sortItem 75 = .ok (.iastore, 1) := dk_79 (dk_at dksX2_sortItem_3 3 rfl rfl)
theorem dX2_sortItem_76 : decode cX2_sortItem 76 = .ok (.aload_n 0, 1) := dk_42 (dk_at dksX2_sortItem_3 4 rfl rfl)
theorem dX2_sortItem_77 : decode cX2_sortItem 77 = .ok (.dup, 1) := dk_89 (dk_at dksX2_sortItem_3 5 rfl rfl)
theorem dX2_sortItem_78 : decode cX2_sortItem 78 = .ok (.getfield 521, 3) := dk_180 2 9 (dk_at dksX2_sortItem_3 6 rfl rfl)
theorem dX2_sortItem_81 : decode cX2_sortItem 81 = .ok (.iconst 1, 1) := dk_4 (dk_at dksX2_sortItem_3 9 rfl rfl)
theorem dX2_sortItem_82 : decode cX2_sortItem 82 = .ok (.iadd, 1) := dk_96 (dk_at dksX2_sortItem_3 10 rfl rfl)
theorem dX2_sortItem_83 : decode cX2_sortItem 83 = .ok (.putfield 521, 3) := dk_181 2 9 (dk_at dksX2_sortItem_3 11 rfl rfl)
theorem dX2_sortItem_86 : decode cX2_sortItem 86 = .ok (.iconst 1, 1) := dk_4 (dk_at dksX2_sortItem_3 14 rfl rfl)
theorem dX2_sortItem_87 : decode cX2_sortItem 87 = .ok (.istore_n 1, 1) := dk_60 (dk_at dksX2_sortItem_3 15 rfl rfl)
theorem dX2_sortItem_88 : decode cX2_sortItem 88 = .ok (.goto (-82), 3) := dk_167 255 174 (dk_at dksX2_sortItem_3 16 rfl rfl)
theorem dX2_sortItem_91 : decode cX2_sortItem 91 = .ok (.aload_n 0, 1) := dk_42 (dk_at dksX2_sortItem_3 19 rfl rfl)
theorem dX2_sortItem_92 : decode cX2_sortItem 92 = .ok (.invokevirtual 482, 3) := dk_182 1 226 (dk_at dksX2_sortItem_3 20 rfl rfl)
theorem dX2_sortItem_95 : decode cX2_sortItem 95 = .ok (.return_, 1) := dk_177 (dk_at dksX2_sortItem_3 23 rfl rfl)
abbrev cX2_pass : ByteArray := prog_4_method_16_code
def yX2_pass : MethodName := ⟨RX2, "pass", "()V"⟩
def dkwX2_pass_1 : List UInt8 := [180, 1, 160, 4, 96, 181, 1, 160, 177]
abbrev dktX2_pass_1 : List UInt8 := dkwX2_pass_1 ++ []
def dkwX2_pass_0 : List UInt8 := [42, 180, 1, 160, 42, 180, 1, 216, 160, 0, 12, 42, 5, 42, 182, 1, 219, 182, 1, 178, 42, 89]
abbrev dktX2_pass_0 : List UInt8 := dkwX2_pass_0 ++ dktX2_pass_1
theorem dksX2_pass_0 : cX2_pass.data.toList.drop 0 = dktX2_pass_0 := by decide +kernel
theorem dksX2_pass_1 : cX2_pass.data.toList.drop 22 = dktX2_pass_1 := dk_seg dksX2_pass_0 22 rfl rfl
theorem dX2_pass_0 : decode cX2_pass 0 = .ok (.aload_n 0, 1) := dk_42 (dk_at dksX2_pass_0 0 rfl rfl)
theorem dX2_pass_1 : decode cX2_pass 1 = .ok (.getfield 416, 3) := dk_180 1 160 (dk_at dksX2_pass_0 1 rfl rfl)
theorem dX2_pass_4 : decode cX2_pass 4 = .ok (.aload_n 0, 1) := dk_42 (dk_at dksX2_pass_0 4 rfl rfl)
theorem dX2_pass_5 : decode cX2_pass 5 = .ok (.getfield 472, 3) := dk_180 1 216 (dk_at dksX2_pass_0 5 rfl rfl)
theorem dX2_pass_8 : decode cX2_pass 8 = .ok (.if_icmp .ne 12, 3) := dk_160 0 12 (dk_at dksX2_pass_0 8 rfl rfl)
theorem dX2_pass_11 : decode cX2_pass 11 = .ok (.aload_n 0, 1) := dk_42 (dk_at dksX2_pass_0 11 rfl rfl)
theorem dX2_pass_12 : decode cX2_pass 12 = .ok (.iconst 2, 1) := dk_5 (dk_at dksX2_pass_0 12 rfl rfl)
theorem dX2_pass_13 : decode cX2_pass 13 = .ok (.aload_n 0, 1) := dk_42 (dk_at dksX2_pass_0 13 rfl rfl)
theorem dX2_pass_14 : decode cX2_pass 14 = .ok (.invokevirtual 475, 3) := dk_182 1 219 (dk_at dksX2_pass_0 14 rfl rfl)
theorem dX2_pass_17 : decode cX2_pass 17 = .ok (.invokevirtual 434, 3) := dk_182 1 178 (dk_at dksX2_pass_0 17 rfl rfl)
theorem dX2_pass_20 : decode cX2_pass 20 = .ok (.aload_n 0, 1) := dk_42 (dk_at dksX2_pass_0 20 rfl rfl)
theorem dX2_pass_21 : decode cX2_pass 21 = .ok (.dup, 1) := dk_89 (dk_at dksX2_pass_0 21 rfl rfl)
theorem dX2_pass_22 : decode cX2_pass 22 = .ok (.getfield 416, 3) := dk_180 1 160 (dk_at dksX2_pass_1 0 rfl rfl)
theorem dX2_pass_25 : decode cX2_pass 25 = .ok (.iconst 1, 1) := dk_4 (dk_at dksX2_pass_1 3 rfl rfl)
theorem dX2_pass_26 : decode cX2_pass 26 = .ok (.iadd, 1) := dk_96 (dk_at dksX2_pass_1 4 rfl rfl)
theorem dX2_pass_27 : decode cX2_pass 27 = .ok (.putfield 416, 3) := dk_181 1 160 (dk_at dksX2_pass_1 5 rfl rfl)
theorem dX2_pass_30 : decode cX2_pass 30 = .ok (.return_, 1) := dk_177 (dk_at dksX2_pass_1 8 rfl rfl)
abbrev cX2_here : ByteArray := prog_4_method_12_code
def yX2_here : MethodName := ⟨RX2, "here", "()I"⟩
def dkwX2_here_1 : List UInt8 := [180, 1, 151, 172]
abbrev dktX2_here_1 : List UInt8 := dkwX2_here_1 ++ []
def dkwX2_here_0 : List UInt8 := [42, 180, 1, 160, 42, 180, 1, 154, 162, 0, 15, 42, 180, 0, 33, 42, 180, 1, 160, 46, 167, 0, 7, 42]
abbrev dktX2_here_0 : List UInt8 := dkwX2_here_0 ++ dktX2_here_1
theorem dksX2_here_0 : cX2_here.data.toList.drop 0 = dktX2_here_0 := by decide +kernel
theorem dksX2_here_1 : cX2_here.data.toList.drop 24 = dktX2_here_1 := dk_seg dksX2_here_0 24 rfl rfl
theorem dX2_here_0 : decode cX2_here 0 = .ok (.aload_n 0, 1) := dk_42 (dk_at dksX2_here_0 0 rfl rfl)
theorem dX2_here_1 : decode cX2_here 1 = .ok (.getfield 416, 3) := dk_180 1 160 (dk_at dksX2_here_0 1 rfl rfl)
theorem dX2_here_4 : decode cX2_here 4 = .ok (.aload_n 0, 1) := dk_42 (dk_at dksX2_here_0 4 rfl rfl)
theorem dX2_here_5 : decode cX2_here 5 = .ok (.getfield 410, 3) := dk_180 1 154 (dk_at dksX2_here_0 5 rfl rfl)
theorem dX2_here_8 : decode cX2_here 8 = .ok (.if_icmp .ge 15, 3) := dk_162 0 15 (dk_at dksX2_here_0 8 rfl rfl)
theorem dX2_here_11 : decode cX2_here 11 = .ok (.aload_n 0, 1) := dk_42 (dk_at dksX2_here_0 11 rfl rfl)
theorem dX2_here_12 : decode cX2_here 12 = .ok (.getfield 33, 3) := dk_180 0 33 (dk_at dksX2_here_0 12 rfl rfl)
theorem dX2_here_15 : decode cX2_here 15 = .ok (.aload_n 0, 1) := dk_42 (dk_at dksX2_here_0 15 rfl rfl)
theorem dX2_here_16 : decode cX2_here 16 = .ok (.getfield 416, 3) := dk_180 1 160 (dk_at dksX2_here_0 16 rfl rfl)
theorem dX2_here_19 : decode cX2_here 19 = .ok (.iaload, 1) := dk_46 (dk_at dksX2_here_0 19 rfl rfl)
theorem dX2_here_20 : decode cX2_here 20 = .ok (.goto 7, 3) := dk_167 0 7 (dk_at dksX2_here_0 20 rfl rfl)
theorem dX2_here_23 : decode cX2_here 23 = .ok (.aload_n 0, 1) := dk_42 (dk_at dksX2_here_0 23 rfl rfl)
theorem dX2_here_24 : decode cX2_here 24 = .ok (.getfield 407, 3) := dk_180 1 151 (dk_at dksX2_here_1 0 rfl rfl)
theorem dX2_here_27 : decode cX2_here 27 = .ok (.ireturn, 1) := dk_172 (dk_at dksX2_here_1 3 rfl rfl)
abbrev cX2_isPlain : ByteArray := prog_4_method_19_code
def yX2_isPlain : MethodName := ⟨RX2, "isPlain", "()Z"⟩
def dkwX2_isPlain_1 : List UInt8 := [180, 1, 160, 46, 182, 1, 163, 184, 1, 171, 154, 0, 7, 4, 167, 0, 4, 3, 172]
abbrev dktX2_isPlain_1 : List UInt8 := dkwX2_isPlain_1 ++ []
def dkwX2_isPlain_0 : List UInt8 := [42, 182, 1, 192, 154, 0, 37, 42, 42, 180, 1, 160, 182, 1, 229, 154, 0, 26, 42, 42, 180, 0, 33, 42]
abbrev dktX2_isPlain_0 : List UInt8 := dkwX2_isPlain_0 ++ dktX2_isPlain_1
theorem dksX2_isPlain_0 : cX2_isPlain.data.toList.drop 0 = dktX2_isPlain_0 := by decide +kernel
theorem dksX2_isPlain_1 : cX2_isPlain.data.toList.drop 24 = dktX2_isPlain_1 := dk_seg dksX2_isPlain_0 24 rfl rfl
theorem dX2_isPlain_0 : decode cX2_isPlain 0 = .ok (.aload_n 0, 1) := dk_42 (dk_at dksX2_isPlain_0 0 rfl rfl)
theorem dX2_isPlain_1 : decode cX2_isPlain 1 = .ok (.invokevirtual 448, 3) := dk_182 1 192 (dk_at dksX2_isPlain_0 1 rfl rfl)
theorem dX2_isPlain_4 : decode cX2_isPlain 4 = .ok (.ifCond .ne 37, 3) := dk_154 0 37 (dk_at dksX2_isPlain_0 4 rfl rfl)
theorem dX2_isPlain_7 : decode cX2_isPlain 7 = .ok (.aload_n 0, 1) := dk_42 (dk_at dksX2_isPlain_0 7 rfl rfl)
theorem dX2_isPlain_8 : decode cX2_isPlain 8 = .ok (.aload_n 0, 1) := dk_42 (dk_at dksX2_isPlain_0 8 rfl rfl)
theorem dX2_isPlain_9 : decode cX2_isPlain 9 = .ok (.getfield 416, 3) := dk_180 1 160 (dk_at dksX2_isPlain_0 9 rfl rfl)
theorem dX2_isPlain_12 : decode cX2_isPlain 12 = .ok (.invokevirtual 485, 3) := dk_182 1 229 (dk_at dksX2_isPlain_0 12 rfl rfl)
theorem dX2_isPlain_15 : decode cX2_isPlain 15 = .ok (.ifCond .ne 26, 3) := dk_154 0 26 (dk_at dksX2_isPlain_0 15 rfl rfl)
theorem dX2_isPlain_18 : decode cX2_isPlain 18 = .ok (.aload_n 0, 1) := dk_42 (dk_at dksX2_isPlain_0 18 rfl rfl)
theorem dX2_isPlain_19 : decode cX2_isPlain 19 = .ok (.aload_n 0, 1) := dk_42 (dk_at dksX2_isPlain_0 19 rfl rfl)
theorem dX2_isPlain_20 : decode cX2_isPlain 20 = .ok (.getfield 33, 3) := dk_180 0 33 (dk_at dksX2_isPlain_0 20 rfl rfl)
theorem dX2_isPlain_23 : decode cX2_isPlain 23 = .ok (.aload_n 0, 1) := dk_42 (dk_at dksX2_isPlain_0 23 rfl rfl)
theorem dX2_isPlain_24 : decode cX2_isPlain 24 = .ok (.getfield 416, 3) := dk_180 1 160 (dk_at dksX2_isPlain_1 0 rfl rfl)
theorem dX2_isPlain_27 : decode cX2_isPlain 27 = .ok (.iaload, 1) := dk_46 (dk_at dksX2_isPlain_1 3 rfl rfl)
theorem dX2_isPlain_28 : decode cX2_isPlain 28 = .ok (.invokevirtual 419, 3) := dk_182 1 163 (dk_at dksX2_isPlain_1 4 rfl rfl)
theorem dX2_isPlain_31 : decode cX2_isPlain 31 = .ok (.invokestatic 427, 3) := dk_184 1 171 (dk_at dksX2_isPlain_1 7 rfl rfl)
theorem dX2_isPlain_34 : decode cX2_isPlain 34 = .ok (.ifCond .ne 7, 3) := dk_154 0 7 (dk_at dksX2_isPlain_1 10 rfl rfl)
theorem dX2_isPlain_37 : decode cX2_isPlain 37 = .ok (.iconst 1, 1) := dk_4 (dk_at dksX2_isPlain_1 13 rfl rfl)
theorem dX2_isPlain_38 : decode cX2_isPlain 38 = .ok (.goto 4, 3) := dk_167 0 4 (dk_at dksX2_isPlain_1 14 rfl rfl)
theorem dX2_isPlain_41 : decode cX2_isPlain 41 = .ok (.iconst 0, 1) := dk_3 (dk_at dksX2_isPlain_1 17 rfl rfl)
theorem dX2_isPlain_42 : decode cX2_isPlain 42 = .ok (.ireturn, 1) := dk_172 (dk_at dksX2_isPlain_1 18 rfl rfl)
abbrev cX2_isReserved : ByteArray := prog_4_method_15_code
def yX2_isReserved : MethodName := ⟨RX2, "isReserved", "(I)Z"⟩
def dkwX2_isReserved_4 : List UInt8 := [3, 172]
abbrev dktX2_isReserved_4 : List UInt8 := dkwX2_isReserved_4 ++ []
def dkwX2_isReserved_3 : List UInt8 := [19, 1, 212, 182, 1, 196, 154, 0, 14, 42, 27, 19, 1, 214, 182, 1, 196, 153, 0, 7, 4, 167, 0, 4]
abbrev dktX2_isReserved_3 : List UInt8 := dkwX2_isReserved_3 ++ dktX2_isReserved_4
def dkwX2_isReserved_2 : List UInt8 := [19, 1, 208, 182, 1, 196, 154, 0, 36, 42, 27, 19, 1, 210, 182, 1, 196, 154, 0, 25, 42, 27]
abbrev dktX2_isReserved_2 : List UInt8 := dkwX2_isReserved_2 ++ dktX2_isReserved_3
def dkwX2_isReserved_1 : List UInt8 := [19, 1, 204, 182, 1, 196, 154, 0, 58, 42, 27, 19, 1, 206, 182, 1, 196, 154, 0, 47, 42, 27]
abbrev dktX2_isReserved_1 : List UInt8 := dkwX2_isReserved_1 ++ dktX2_isReserved_2
def dkwX2_isReserved_0 : List UInt8 := [42, 27, 19, 1, 200, 182, 1, 196, 154, 0, 80, 42, 27, 19, 1, 202, 182, 1, 196, 154, 0, 69, 42, 27]
abbrev dktX2_isReserved_0 : List UInt8 := dkwX2_isReserved_0 ++ dktX2_isReserved_1
theorem dksX2_isReserved_0 : cX2_isReserved.data.toList.drop 0 = dktX2_isReserved_0 := by decide +kernel
theorem dksX2_isReserved_1 : cX2_isReserved.data.toList.drop 24 = dktX2_isReserved_1 := dk_seg dksX2_isReserved_0 24 rfl rfl
theorem dksX2_isReserved_2 : cX2_isReserved.data.toList.drop 46 = dktX2_isReserved_2 := dk_seg dksX2_isReserved_1 22 rfl rfl
theorem dksX2_isReserved_3 : cX2_isReserved.data.toList.drop 68 = dktX2_isReserved_3 := dk_seg dksX2_isReserved_2 22 rfl rfl
theorem dksX2_isReserved_4 : cX2_isReserved.data.toList.drop 92 = dktX2_isReserved_4 := dk_seg dksX2_isReserved_3 24 rfl rfl
theorem dX2_isReserved_0 : decode cX2_isReserved 0 = .ok (.aload_n 0, 1) := dk_42 (dk_at dksX2_isReserved_0 0 rfl rfl)
theorem dX2_isReserved_1 : decode cX2_isReserved 1 = .ok (.iload_n 1, 1) := dk_27 (dk_at dksX2_isReserved_0 1 rfl rfl)
theorem dX2_isReserved_2 : decode cX2_isReserved 2 = .ok (.ldc_w 456, 3) := dk_19 1 200 (dk_at dksX2_isReserved_0 2 rfl rfl)
theorem dX2_isReserved_5 : decode cX2_isReserved 5 = .ok (.invokevirtual 452, 3) := dk_182 1 196 (dk_at dksX2_isReserved_0 5 rfl rfl)
theorem dX2_isReserved_8 : decode cX2_isReserved 8 = .ok (.ifCond .ne 80, 3) := dk_154 0 80 (dk_at dksX2_isReserved_0 8 rfl rfl)
theorem dX2_isReserved_11 : decode cX2_isReserved 11 = .ok (.aload_n 0, 1) := dk_42 (dk_at dksX2_isReserved_0 11 rfl rfl)
theorem dX2_isReserved_12 : decode cX2_isReserved 12 = .ok (.iload_n 1, 1) := dk_27 (dk_at dksX2_isReserved_0 12 rfl rfl)
theorem dX2_isReserved_13 : decode cX2_isReserved 13 = .ok (.ldc_w 458, 3) := dk_19 1 202 (dk_at dksX2_isReserved_0 13 rfl rfl)
theorem dX2_isReserved_16 : decode cX2_isReserved 16 = .ok (.invokevirtual 452, 3) := dk_182 1 196 (dk_at dksX2_isReserved_0 16 rfl rfl)
theorem dX2_isReserved_19 : decode cX2_isReserved 19 = .ok (.ifCond .ne 69, 3) := dk_154 0 69 (dk_at dksX2_isReserved_0 19 rfl rfl)
theorem dX2_isReserved_22 : decode cX2_isReserved 22 = .ok (.aload_n 0, 1) := dk_42 (dk_at dksX2_isReserved_0 22 rfl rfl)
theorem dX2_isReserved_23 : decode cX2_isReserved 23 = .ok (.iload_n 1, 1) := dk_27 (dk_at dksX2_isReserved_0 23 rfl rfl)
theorem dX2_isReserved_24 : decode cX2_isReserved 24 = .ok (.ldc_w 460, 3) := dk_19 1 204 (dk_at dksX2_isReserved_1 0 rfl rfl)
theorem dX2_isReserved_27 : decode cX2_isReserved 27 = .ok (.invokevirtual 452, 3) := dk_182 1 196 (dk_at dksX2_isReserved_1 3 rfl rfl)
theorem dX2_isReserved_30 : decode cX2_isReserved 30 = .ok (.ifCond .ne 58, 3) := dk_154 0 58 (dk_at dksX2_isReserved_1 6 rfl rfl)
theorem dX2_isReserved_33 : decode cX2_isReserved 33 = .ok (.aload_n 0, 1) := dk_42 (dk_at dksX2_isReserved_1 9 rfl rfl)
theorem dX2_isReserved_34 : decode cX2_isReserved 34 = .ok (.iload_n 1, 1) := dk_27 (dk_at dksX2_isReserved_1 10 rfl rfl)
theorem dX2_isReserved_35 : decode cX2_isReserved 35 = .ok (.ldc_w 462, 3) := dk_19 1 206 (dk_at dksX2_isReserved_1 11 rfl rfl)
theorem dX2_isReserved_38 : decode cX2_isReserved 38 = .ok (.invokevirtual 452, 3) := dk_182 1 196 (dk_at dksX2_isReserved_1 14 rfl rfl)
theorem dX2_isReserved_41 : decode cX2_isReserved 41 = .ok (.ifCond .ne 47, 3) := dk_154 0 47 (dk_at dksX2_isReserved_1 17 rfl rfl)
theorem dX2_isReserved_44 : decode cX2_isReserved 44 = .ok (.aload_n 0, 1) := dk_42 (dk_at dksX2_isReserved_1 20 rfl rfl)
theorem dX2_isReserved_45 : decode cX2_isReserved 45 = .ok (.iload_n 1, 1) := dk_27 (dk_at dksX2_isReserved_1 21 rfl rfl)
theorem dX2_isReserved_46 : decode cX2_isReserved 46 = .ok (.ldc_w 464, 3) := dk_19 1 208 (dk_at dksX2_isReserved_2 0 rfl rfl)
theorem dX2_isReserved_49 : decode cX2_isReserved 49 = .ok (.invokevirtual 452, 3) := dk_182 1 196 (dk_at dksX2_isReserved_2 3 rfl rfl)
theorem dX2_isReserved_52 : decode cX2_isReserved 52 = .ok (.ifCond .ne 36, 3) := dk_154 0 36 (dk_at dksX2_isReserved_2 6 rfl rfl)
theorem dX2_isReserved_55 : decode cX2_isReserved 55 = .ok (.aload_n 0, 1) := dk_42 (dk_at dksX2_isReserved_2 9 rfl rfl)
theorem dX2_isReserved_56 : decode cX2_isReserved 56 = .ok (.iload_n 1, 1) := dk_27 (dk_at dksX2_isReserved_2 10 rfl rfl)
theorem dX2_isReserved_57 : decode cX2_isReserved 57 = .ok (.ldc_w 466, 3) := dk_19 1 210 (dk_at dksX2_isReserved_2 11 rfl rfl)
theorem dX2_isReserved_60 : decode cX2_isReserved 60 = .ok (.invokevirtual 452, 3) := dk_182 1 196 (dk_at dksX2_isReserved_2 14 rfl rfl)
theorem dX2_isReserved_63 : decode cX2_isReserved 63 = .ok (.ifCond .ne 25, 3) := dk_154 0 25 (dk_at dksX2_isReserved_2 17 rfl rfl)
theorem dX2_isReserved_66 : decode cX2_isReserved 66 = .ok (.aload_n 0, 1) := dk_42 (dk_at dksX2_isReserved_2 20 rfl rfl)
theorem dX2_isReserved_67 : decode cX2_isReserved 67 = .ok (.iload_n 1, 1) := dk_27 (dk_at dksX2_isReserved_2 21 rfl rfl)
theorem dX2_isReserved_68 : decode cX2_isReserved 68 = .ok (.ldc_w 468, 3) := dk_19 1 212 (dk_at dksX2_isReserved_3 0 rfl rfl)
theorem dX2_isReserved_71 : decode cX2_isReserved 71 = .ok (.invokevirtual 452, 3) := dk_182 1 196 (dk_at dksX2_isReserved_3 3 rfl rfl)
theorem dX2_isReserved_74 : decode cX2_isReserved 74 = .ok (.ifCond .ne 14, 3) := dk_154 0 14 (dk_at dksX2_isReserved_3 6 rfl rfl)
theorem dX2_isReserved_77 : decode cX2_isReserved 77 = .ok (.aload_n 0, 1) := dk_42 (dk_at dksX2_isReserved_3 9 rfl rfl)
theorem dX2_isReserved_78 : decode cX2_isReserved 78 = .ok (.iload_n 1, 1) := dk_27 (dk_at dksX2_isReserved_3 10 rfl rfl)
theorem dX2_isReserved_79 : decode cX2_isReserved 79 = .ok (.ldc_w 470, 3) := dk_19 1 214 (dk_at dksX2_isReserved_3 11 rfl rfl)
theorem dX2_isReserved_82 : decode cX2_isReserved 82 = .ok (.invokevirtual 452, 3) := dk_182 1 196 (dk_at dksX2_isReserved_3 14 rfl rfl)
theorem dX2_isReserved_85 : decode cX2_isReserved 85 = .ok (.ifCond .eq 7, 3) := dk_153 0 7 (dk_at dksX2_isReserved_3 17 rfl rfl)
theorem dX2_isReserved_88 : decode cX2_isReserved 88 = .ok (.iconst 1, 1) := dk_4 (dk_at dksX2_isReserved_3 20 rfl rfl)
theorem dX2_isReserved_89 : decode cX2_isReserved 89 = .ok (.goto 4, 3) := dk_167 0 4 (dk_at dksX2_isReserved_3 21 rfl rfl)
theorem dX2_isReserved_92 : decode cX2_isReserved 92 = .ok (.iconst 0, 1) := dk_3 (dk_at dksX2_isReserved_4 0 rfl rfl)
theorem dX2_isReserved_93 : decode cX2_isReserved 93 = .ok (.ireturn, 1) := dk_172 (dk_at dksX2_isReserved_4 1 rfl rfl)
abbrev cX2_plainWord : ByteArray := prog_4_method_18_code
def yX2_plainWord : MethodName := ⟨RX2, "plainWord", "()I"⟩
def dkwX2_plainWord_2 : List UInt8 := [180, 1, 160, 60, 42, 182, 1, 226, 27, 172]
abbrev dktX2_plainWord_2 : List UInt8 := dkwX2_plainWord_2 ++ []
def dkwX2_plainWord_1 : List UInt8 := [180, 1, 160, 46, 182, 1, 163, 184, 1, 171, 153, 0, 12, 42, 4, 42, 182, 1, 219, 182, 1, 178, 42]
abbrev dktX2_plainWord_1 : List UInt8 := dkwX2_plainWord_1 ++ dktX2_plainWord_2
def dkwX2_plainWord_0 : List UInt8 := [42, 182, 1, 192, 154, 0, 33, 42, 42, 180, 1, 160, 182, 1, 229, 154, 0, 22, 42, 42, 180, 0, 33, 42]
abbrev dktX2_plainWord_0 : List UInt8 := dkwX2_plainWord_0 ++ dktX2_plainWord_1
theorem dksX2_plainWord_0 : cX2_plainWord.data.toList.drop 0 = dktX2_plainWord_0 := by decide +kernel
theorem dksX2_plainWord_1 : cX2_plainWord.data.toList.drop 24 = dktX2_plainWord_1 := dk_seg dksX2_plainWord_0 24 rfl rfl
theorem dksX2_plainWord_2 : cX2_plainWord.data.toList.drop 47 = dktX2_plainWord_2 := dk_seg dksX2_plainWord_1 23 rfl rfl
theorem dX2_plainWord_0 : decode cX2_plainWord 0 = .ok (.aload_n 0, 1) := dk_42 (dk_at dksX2_plainWord_0 0 rfl rfl)
theorem dX2_plainWord_1 : decode cX2_plainWord 1 = .ok (.invokevirtual 448, 3) := dk_182 1 192 (dk_at dksX2_plainWord_0 1 rfl rfl)
theorem dX2_plainWord_4 : decode cX2_plainWord 4 = .ok (.ifCond .ne 33, 3) := dk_154 0 33 (dk_at dksX2_plainWord_0 4 rfl rfl)
theorem dX2_plainWord_7 : decode cX2_plainWord 7 = .ok (.aload_n 0, 1) := dk_42 (dk_at dksX2_plainWord_0 7 rfl rfl)
theorem dX2_plainWord_8 : decode cX2_plainWord 8 = .ok (.aload_n 0, 1) := dk_42 (dk_at dksX2_plainWord_0 8 rfl rfl)
theorem dX2_plainWord_9 : decode cX2_plainWord 9 = .ok (.getfield 416, 3) := dk_180 1 160 (dk_at dksX2_plainWord_0 9 rfl rfl)
theorem dX2_plainWord_12 : decode cX2_plainWord 12 = .ok (.invokevirtual 485, 3) := dk_182 1 229 (dk_at dksX2_plainWord_0 12 rfl rfl)
theorem dX2_plainWord_15 : decode cX2_plainWord 15 = .ok (.ifCond .ne 22, 3) := dk_154 0 22 (dk_at dksX2_plainWord_0 15 rfl rfl)
theorem dX2_plainWord_18 : decode cX2_plainWord 18 = .ok (.aload_n 0, 1) := dk_42 (dk_at dksX2_plainWord_0 18 rfl rfl)
theorem dX2_plainWord_19 : decode cX2_plainWord 19 = .ok (.aload_n 0, 1) := dk_42 (dk_at dksX2_plainWord_0 19 rfl rfl)
theorem dX2_plainWord_20 : decode cX2_plainWord 20 = .ok (.getfield 33, 3) := dk_180 0 33 (dk_at dksX2_plainWord_0 20 rfl rfl)
theorem dX2_plainWord_23 : decode cX2_plainWord 23 = .ok (.aload_n 0, 1) := dk_42 (dk_at dksX2_plainWord_0 23 rfl rfl)
theorem dX2_plainWord_24 : decode cX2_plainWord 24 = .ok (.getfield 416, 3) := dk_180 1 160 (dk_at dksX2_plainWord_1 0 rfl rfl)
theorem dX2_plainWord_27 : decode cX2_plainWord 27 = .ok (.iaload, 1) := dk_46 (dk_at dksX2_plainWord_1 3 rfl rfl)
theorem dX2_plainWord_28 : decode cX2_plainWord 28 = .ok (.invokevirtual 419, 3) := dk_182 1 163 (dk_at dksX2_plainWord_1 4 rfl rfl)
theorem dX2_plainWord_31 : decode cX2_plainWord 31 = .ok (.invokestatic 427, 3) := dk_184 1 171 (dk_at dksX2_plainWord_1 7 rfl rfl)
theorem dX2_plainWord_34 : decode cX2_plainWord 34 = .ok (.ifCond .eq 12, 3) := dk_153 0 12 (dk_at dksX2_plainWord_1 10 rfl rfl)
theorem dX2_plainWord_37 : decode cX2_plainWord 37 = .ok (.aload_n 0, 1) := dk_42 (dk_at dksX2_plainWord_1 13 rfl rfl)
theorem dX2_plainWord_38 : decode cX2_plainWord 38 = .ok (.iconst 1, 1) := dk_4 (dk_at dksX2_plainWord_1 14 rfl rfl)
theorem dX2_plainWord_39 : decode cX2_plainWord 39 = .ok (.aload_n 0, 1) := dk_42 (dk_at dksX2_plainWord_1 15 rfl rfl)
theorem dX2_plainWord_40 : decode cX2_plainWord 40 = .ok (.invokevirtual 475, 3) := dk_182 1 219 (dk_at dksX2_plainWord_1 16 rfl rfl)
theorem dX2_plainWord_43 : decode cX2_plainWord 43 = .ok (.invokevirtual 434, 3) := dk_182 1 178 (dk_at dksX2_plainWord_1 19 rfl rfl)
theorem dX2_plainWord_46 : decode cX2_plainWord 46 = .ok (.aload_n 0, 1) := dk_42 (dk_at dksX2_plainWord_1 22 rfl rfl)
theorem dX2_plainWord_47 : decode cX2_plainWord 47 = .ok (.getfield 416, 3) := dk_180 1 160 (dk_at dksX2_plainWord_2 0 rfl rfl)
theorem dX2_plainWord_50 : decode cX2_plainWord 50 = .ok (.istore_n 1, 1) := dk_60 (dk_at dksX2_plainWord_2 3 rfl rfl)
theorem dX2_plainWord_51 : decode cX2_plainWord 51 = .ok (.aload_n 0, 1) := dk_42 (dk_at dksX2_plainWord_2 4 rfl rfl)
theorem dX2_plainWord_52 : decode cX2_plainWord 52 = .ok (.invokevirtual 482, 3) := dk_182 1 226 (dk_at dksX2_plainWord_2 5 rfl rfl)
theorem dX2_plainWord_55 : decode cX2_plainWord 55 = .ok (.iload_n 1, 1) := dk_27 (dk_at dksX2_plainWord_2 8 rfl rfl)
theorem dX2_plainWord_56 : decode cX2_plainWord 56 = .ok (.ireturn, 1) := dk_172 (dk_at dksX2_plainWord_2 9 rfl rfl)
abbrev cX2_subsortItem : ByteArray := prog_4_method_28_code
def yX2_subsortItem : MethodName := ⟨RX2, "subsortItem", "()V"⟩
def dkwX2_subsortItem_4 : List UInt8 := [180, 2, 20, 4, 96, 181, 2, 20, 177]
abbrev dktX2_subsortItem_4 : List UInt8 := dkwX2_subsortItem_4 ++ []
def dkwX2_subsortItem_3 : List UInt8 := [167, 255, 212, 42, 19, 1, 200, 182, 1, 246, 42, 180, 0, 56, 42, 180, 2, 20, 2, 79, 42, 89]
abbrev dktX2_subsortItem_3 : List UInt8 := dkwX2_subsortItem_3 ++ dktX2_subsortItem_4
def dkwX2_subsortItem_2 : List UInt8 := [182, 1, 219, 100, 79, 42, 89, 180, 2, 20, 4, 96, 181, 2, 20, 42, 182, 1, 226, 42, 182, 2, 15]
abbrev dktX2_subsortItem_2 : List UInt8 := dkwX2_subsortItem_2 ++ dktX2_subsortItem_3
def dkwX2_subsortItem_1 : List UInt8 := [182, 1, 178, 42, 19, 2, 18, 182, 1, 222, 153, 0, 40, 42, 180, 0, 56, 42, 180, 2, 20, 16, 254, 42]
abbrev dktX2_subsortItem_1 : List UInt8 := dkwX2_subsortItem_1 ++ dktX2_subsortItem_2
def dkwX2_subsortItem_0 : List UInt8 := [42, 182, 1, 226, 42, 182, 2, 15, 42, 19, 2, 18, 182, 1, 222, 154, 0, 12, 42, 4, 42, 182, 1, 219]
abbrev dktX2_subsortItem_0 : List UInt8 := dkwX2_subsortItem_0 ++ dktX2_subsortItem_1
theorem dksX2_subsortItem_0 : cX2_subsortItem.data.toList.drop 0 = dktX2_subsortItem_0 := by decide +kernel
theorem dksX2_subsortItem_1 : cX2_subsortItem.data.toList.drop 24 = dktX2_subsortItem_1 := dk_seg dksX2_subsortItem_0 24 rfl rfl
theorem dksX2_subsortItem_2 : cX2_subsortItem.data.toList.drop 48 = dktX2_subsortItem_2 := dk_seg dksX2_subsortItem_1 24 rfl rfl
theorem dksX2_subsortItem_3 : cX2_subsortItem.data.toList.drop 71 = dktX2_subsortItem_3 := dk_seg dksX2_subsortItem_2 23 rfl rfl
theorem dksX2_subsortItem_4 : cX2_subsortItem.data.toList.drop 93 = dktX2_subsortItem_4 := dk_seg dksX2_subsortItem_3 22 rfl rfl
theorem dX2_subsortItem_0 : decode cX2_subsortItem 0 = .ok (.aload_n 0, 1) := dk_42 (dk_at dksX2_subsortItem_0 0 rfl rfl)
theorem dX2_subsortItem_1 : decode cX2_subsortItem 1 = .ok (.invokevirtual 482, 3) := dk_182 1 226 (dk_at dksX2_subsortItem_0 1 rfl rfl)
theorem dX2_subsortItem_4 : decode cX2_subsortItem 4 = .ok (.aload_n 0, 1) := dk_42 (dk_at dksX2_subsortItem_0 4 rfl rfl)
theorem dX2_subsortItem_5 : decode cX2_subsortItem 5 = .ok (.invokevirtual 527, 3) := dk_182 2 15 (dk_at dksX2_subsortItem_0 5 rfl rfl)
theorem dX2_subsortItem_8 : decode cX2_subsortItem 8 = .ok (.aload_n 0, 1) := dk_42 (dk_at dksX2_subsortItem_0 8 rfl rfl)
theorem dX2_subsortItem_9 : decode cX2_subsortItem 9 = .ok (.ldc_w 530, 3) := dk_19 2 18 (dk_at dksX2_subsortItem_0 9 rfl rfl)
theorem dX2_subsortItem_12 : decode cX2_subsortItem 12 = .ok (.invokevirtual 478, 3) := dk_182 1 222 (dk_at dksX2_subsortItem_0 12 rfl rfl)
theorem dX2_subsortItem_15 : decode cX2_subsortItem 15 = .ok (.ifCond .ne 12, 3) := dk_154 0 12 (dk_at dksX2_subsortItem_0 15 rfl rfl)
theorem dX2_subsortItem_18 : decode cX2_subsortItem 18 = .ok (.aload_n 0, 1) := dk_42 (dk_at dksX2_subsortItem_0 18 rfl rfl)
theorem dX2_subsortItem_19 : decode cX2_subsortItem 19 = .ok (.iconst 1, 1) := dk_4 (dk_at dksX2_subsortItem_0 19 rfl rfl)
theorem dX2_subsortItem_20 : decode cX2_subsortItem 20 = .ok (.aload_n 0, 1) := dk_42 (dk_at dksX2_subsortItem_0 20 rfl rfl)
theorem dX2_subsortItem_21 : decode cX2_subsortItem 21 = .ok (.invokevirtual 475, 3) := dk_182 1 219 (dk_at dksX2_subsortItem_0 21 rfl rfl)
theorem dX2_subsortItem_24 : decode cX2_subsortItem 24 = .ok (.invokevirtual 434, 3) := dk_182 1 178 (dk_at dksX2_subsortItem_1 0 rfl rfl)
theorem dX2_subsortItem_27 : decode cX2_subsortItem 27 = .ok (.aload_n 0, 1) := dk_42 (dk_at dksX2_subsortItem_1 3 rfl rfl)
theorem dX2_subsortItem_28 : decode cX2_subsortItem 28 = .ok (.ldc_w 530, 3) := dk_19 2 18 (dk_at dksX2_subsortItem_1 4 rfl rfl)
theorem dX2_subsortItem_31 : decode cX2_subsortItem 31 = .ok (.invokevirtual 478, 3) := dk_182 1 222 (dk_at dksX2_subsortItem_1 7 rfl rfl)
theorem dX2_subsortItem_34 : decode cX2_subsortItem 34 = .ok (.ifCond .eq 40, 3) := dk_153 0 40 (dk_at dksX2_subsortItem_1 10 rfl rfl)
theorem dX2_subsortItem_37 : decode cX2_subsortItem 37 = .ok (.aload_n 0, 1) := dk_42 (dk_at dksX2_subsortItem_1 13 rfl rfl)
theorem dX2_subsortItem_38 : decode cX2_subsortItem 38 = .ok (.getfield 56, 3) := dk_180 0 56 (dk_at dksX2_subsortItem_1 14 rfl rfl)
theorem dX2_subsortItem_41 : decode cX2_subsortItem 41 = .ok (.aload_n 0, 1) := dk_42 (dk_at dksX2_subsortItem_1 17 rfl rfl)
theorem dX2_subsortItem_42 : decode cX2_subsortItem 42 = .ok (.getfield 532, 3) := dk_180 2 20 (dk_at dksX2_subsortItem_1 18 rfl rfl)
theorem dX2_subsortItem_45 : decode cX2_subsortItem 45 = .ok (.bipush (-2), 2) := dk_16 254 (dk_at dksX2_subsortItem_1 21 rfl rfl)
theorem dX2_subsortItem_47 : decode cX2_subsortItem 47 = .ok (.aload_n 0, 1) := dk_42 (dk_at dksX2_subsortItem_1 23 rfl rfl)
theorem dX2_subsortItem_48 : decode cX2_subsortItem 48 = .ok (.invokevirtual 475, 3) := dk_182 1 219 (dk_at dksX2_subsortItem_2 0 rfl rfl)
theorem dX2_subsortItem_51 : decode cX2_subsortItem 51 = .ok (.isub, 1) := dk_100 (dk_at dksX2_subsortItem_2 3 rfl rfl)
theorem dX2_subsortItem_52 : decode cX2_subsortItem 52 = .ok (.iastore, 1) := dk_79 (dk_at dksX2_subsortItem_2 4 rfl rfl)
theorem dX2_subsortItem_53 : decode cX2_subsortItem 53 = .ok (.aload_n 0, 1) := dk_42 (dk_at dksX2_subsortItem_2 5 rfl rfl)
theorem dX2_subsortItem_54 : decode cX2_subsortItem 54 = .ok (.dup, 1) := dk_89 (dk_at dksX2_subsortItem_2 6 rfl rfl)
theorem dX2_subsortItem_55 : decode cX2_subsortItem 55 = .ok (.getfield 532, 3) := dk_180 2 20 (dk_at dksX2_subsortItem_2 7 rfl rfl)
theorem dX2_subsortItem_58 : decode cX2_subsortItem 58 = .ok (.iconst 1, 1) := dk_4 (dk_at dksX2_subsortItem_2 10 rfl rfl)
theorem dX2_subsortItem_59 : decode cX2_subsortItem 59 = .ok (.iadd, 1) := dk_96 (dk_at dksX2_subsortItem_2 11 rfl rfl)
theorem dX2_subsortItem_60 : decode cX2_subsortItem 60 = .ok (.putfield 532, 3) := dk_181 2 20 (dk_at dksX2_subsortItem_2 12 rfl rfl)
theorem dX2_subsortItem_63 : decode cX2_subsortItem 63 = .ok (.aload_n 0, 1) := dk_42 (dk_at dksX2_subsortItem_2 15 rfl rfl)
theorem dX2_subsortItem_64 : decode cX2_subsortItem 64 = .ok (.invokevirtual 482, 3) := dk_182 1 226 (dk_at dksX2_subsortItem_2 16 rfl rfl)
theorem dX2_subsortItem_67 : decode cX2_subsortItem 67 = .ok (.aload_n 0, 1) := dk_42 (dk_at dksX2_subsortItem_2 19 rfl rfl)
theorem dX2_subsortItem_68 : decode cX2_subsortItem 68 = .ok (.invokevirtual 527, 3) := dk_182 2 15 (dk_at dksX2_subsortItem_2 20 rfl rfl)
theorem dX2_subsortItem_71 : decode cX2_subsortItem 71 = .ok (.goto (-44), 3) := dk_167 255 212 (dk_at dksX2_subsortItem_3 0 rfl rfl)
theorem dX2_subsortItem_74 : decode cX2_subsortItem 74 = .ok (.aload_n 0, 1) := dk_42 (dk_at dksX2_subsortItem_3 3 rfl rfl)
theorem dX2_subsortItem_75 : decode cX2_subsortItem 75 = .ok (.ldc_w 456, 3) := dk_19 1 200 (dk_at dksX2_subsortItem_3 4 rfl rfl)
theorem dX2_subsortItem_78 : decode cX2_subsortItem 78 = .ok (.invokevirtual 502, 3) := dk_182 1 246 (dk_at dksX2_subsortItem_3 7 rfl rfl)
theorem dX2_subsortItem_81 : decode cX2_subsortItem 81 = .ok (.aload_n 0, 1) := dk_42 (dk_at dksX2_subsortItem_3 10 rfl rfl)
theorem dX2_subsortItem_82 : decode cX2_subsortItem 82 = .ok (.getfield 56, 3) := dk_180 0 56 (dk_at dksX2_subsortItem_3 11 rfl rfl)
theorem dX2_subsortItem_85 : decode cX2_subsortItem 85 = .ok (.aload_n 0, 1) := dk_42 (dk_at dksX2_subsortItem_3 14 rfl rfl)
theorem dX2_subsortItem_86 : decode cX2_subsortItem 86 = .ok (.getfield 532, 3) := dk_180 2 20 (dk_at dksX2_subsortItem_3 15 rfl rfl)
theorem dX2_subsortItem_89 : decode cX2_subsortItem 89 = .ok (.iconst (-1), 1) := dk_2 (dk_at dksX2_subsortItem_3 18 rfl rfl)
theorem dX2_subsortItem_90 : decode cX2_subsortItem 90 = .ok (.iastore, 1) := dk_79 (dk_at dksX2_subsortItem_3 19 rfl rfl)
theorem dX2_subsortItem_91 : decode cX2_subsortItem 91 = .ok (.aload_n 0, 1) := dk_42 (dk_at dksX2_subsortItem_3 20 rfl rfl)
theorem dX2_subsortItem_92 : decode cX2_subsortItem 92 = .ok (.dup, 1) := dk_89 (dk_at dksX2_subsortItem_3 21 rfl rfl)
theorem dX2_subsortItem_93 : decode cX2_subsortItem 93 = .ok (.getfield 532, 3) := dk_180 2 20 (dk_at dksX2_subsortItem_4 0 rfl rfl)
theorem dX2_subsortItem_96 : decode cX2_subsortItem 96 = .ok (.iconst 1, 1) := dk_4 (dk_at dksX2_subsortItem_4 3 rfl rfl)
theorem dX2_subsortItem_97 : decode cX2_subsortItem 97 = .ok (.iadd, 1) := dk_96 (dk_at dksX2_subsortItem_4 4 rfl rfl)
theorem dX2_subsortItem_98 : decode cX2_subsortItem 98 = .ok (.putfield 532, 3) := dk_181 2 20 (dk_at dksX2_subsortItem_4 5 rfl rfl)
theorem dX2_subsortItem_101 : decode cX2_subsortItem 101 = .ok (.return_, 1) := dk_177 (dk_at dksX2_subsortItem_4 8 rfl rfl)
abbrev cX2_group : ByteArray := prog_4_method_29_code
def yX2_group : MethodName := ⟨RX2, "group", "()V"⟩
def dkwX2_group_2 : List UInt8 := [180, 2, 20, 42, 182, 1, 250, 79, 42, 89, 180, 2, 20, 4, 96, 181, 2, 20, 4, 60, 167, 255, 191, 177]
abbrev dktX2_group_2 : List UInt8 := dkwX2_group_2 ++ []
def dkwX2_group_1 : List UInt8 := [19, 2, 18, 182, 1, 222, 153, 0, 12, 42, 4, 42, 182, 1, 219, 182, 1, 178, 42, 180, 0, 56, 42]
abbrev dktX2_group_1 : List UInt8 := dkwX2_group_1 ++ dktX2_group_2
def dkwX2_group_0 : List UInt8 := [3, 60, 27, 153, 0, 20, 42, 182, 2, 12, 153, 0, 60, 42, 19, 2, 18, 182, 1, 222, 154, 0, 50, 42]
abbrev dktX2_group_0 : List UInt8 := dkwX2_group_0 ++ dktX2_group_1
theorem dksX2_group_0 : cX2_group.data.toList.drop 0 = dktX2_group_0 := by decide +kernel
theorem dksX2_group_1 : cX2_group.data.toList.drop 24 = dktX2_group_1 := dk_seg dksX2_group_0 24 rfl rfl
theorem dksX2_group_2 : cX2_group.data.toList.drop 47 = dktX2_group_2 := dk_seg dksX2_group_1 23 rfl rfl
theorem dX2_group_0 : decode cX2_group 0 = .ok (.iconst 0, 1) := dk_3 (dk_at dksX2_group_0 0 rfl rfl)
theorem dX2_group_1 : decode cX2_group 1 = .ok (.istore_n 1, 1) := dk_60 (dk_at dksX2_group_0 1 rfl rfl)
theorem dX2_group_2 : decode cX2_group 2 = .ok (.iload_n 1, 1) := dk_27 (dk_at dksX2_group_0 2 rfl rfl)
theorem dX2_group_3 : decode cX2_group 3 = .ok (.ifCond .eq 20, 3) := dk_153 0 20 (dk_at dksX2_group_0 3 rfl rfl)
theorem dX2_group_6 : decode cX2_group 6 = .ok (.aload_n 0, 1) := dk_42 (dk_at dksX2_group_0 6 rfl rfl)
theorem dX2_group_7 : decode cX2_group 7 = .ok (.invokevirtual 524, 3) := dk_182 2 12 (dk_at dksX2_group_0 7 rfl rfl)
theorem dX2_group_10 : decode cX2_group 10 = .ok (.ifCond .eq 60, 3) := dk_153 0 60 (dk_at dksX2_group_0 10 rfl rfl)
theorem dX2_group_13 : decode cX2_group 13 = .ok (.aload_n 0, 1) := dk_42 (dk_at dksX2_group_0 13 rfl rfl)
theorem dX2_group_14 : decode cX2_group 14 = .ok (.ldc_w 530, 3) := dk_19 2 18 (dk_at dksX2_group_0 14 rfl rfl)
theorem dX2_group_17 : decode cX2_group 17 = .ok (.invokevirtual 478, 3) := dk_182 1 222 (dk_at dksX2_group_0 17 rfl rfl)
theorem dX2_group_20 : decode cX2_group 20 = .ok (.ifCond .ne 50, 3) := dk_154 0 50 (dk_at dksX2_group_0 20 rfl rfl)
theorem dX2_group_23 : decode cX2_group 23 = .ok (.aload_n 0, 1) := dk_42 (dk_at dksX2_group_0 23 rfl rfl)
theorem dX2_group_24 : decode cX2_group 24 = .ok (.ldc_w 530, 3) := dk_19 2 18 (dk_at dksX2_group_1 0 rfl rfl)
theorem dX2_group_27 : decode cX2_group 27 = .ok (.invokevirtual 478, 3) := dk_182 1 222 (dk_at dksX2_group_1 3 rfl rfl)
theorem dX2_group_30 : decode cX2_group 30 = .ok (.ifCond .eq 12, 3) := dk_153 0 12 (dk_at dksX2_group_1 6 rfl rfl)
theorem dX2_group_33 : decode cX2_group 33 = .ok (.aload_n 0, 1) := dk_42 (dk_at dksX2_group_1 9 rfl rfl)
theorem dX2_group_34 : decode cX2_group 34 = .ok (.iconst 1, 1) := dk_4 (dk_at dksX2_group_1 10 rfl rfl)
theorem dX2_group_35 : decode cX2_group 35 = .ok (.aload_n 0, 1) := dk_42 (dk_at dksX2_group_1 11 rfl rfl)
theorem dX2_group_36 : decode cX2_group 36 = .ok (.invokevirtual 475, 3) := dk_182 1 219 (dk_at dksX2_group_1 12 rfl rfl)
theorem dX2_group_39 : decode cX2_group 39 = .ok (.invokevirtual 434, 3) := dk_182 1 178 (dk_at dksX2_group_1 15 rfl rfl)
theorem dX2_group_42 : decode cX2_group 42 = .ok (.aload_n 0, 1) := dk_42 (dk_at dksX2_group_1 18 rfl rfl)
theorem dX2_group_43 : decode cX2_group 43 = .ok (.getfield 56, 3) := dk_180 0 56 (dk_at dksX2_group_1 19 rfl rfl)
theorem dX2_group_46 : decode cX2_group 46 = .ok (.aload_n 0, 1) := dk_42 (dk_at dksX2_group_1 22 rfl rfl)
theorem dX2_group_47 : decode cX2_group 47 = .ok (.getfield 532, 3) := dk_180 2 20 (dk_at dksX2_group_2 0 rfl rfl)
theorem dX2_group_50 : decode cX2_group 50 = .ok (.aload_n 0, 1) := dk_42 (dk_at dksX2_group_2 3 rfl rfl)
theorem dX2_group_51 : decode cX2_group 51 = .ok (.invokevirtual 506, 3) := dk_182 1 250 (dk_at dksX2_group_2 4 rfl rfl)
theorem dX2_group_54 : decode cX2_group 54 = .ok (.iastore, 1) := dk_79 (dk_at dksX2_group_2 7 rfl rfl)
theorem dX2_group_55 : decode cX2_group 55 = .ok (.aload_n 0, 1) := dk_42 (dk_at dksX2_group_2 8 rfl rfl)
theorem dX2_group_56 : decode cX2_group 56 = .ok (.dup, 1) := dk_89 (dk_at dksX2_group_2 9 rfl rfl)
theorem dX2_group_57 : decode cX2_group 57 = .ok (.getfield 532, 3) := dk_180 2 20 (dk_at dksX2_group_2 10 rfl rfl)
theorem dX2_group_60 : decode cX2_group 60 = .ok (.iconst 1, 1) := dk_4 (dk_at dksX2_group_2 13 rfl rfl)
theorem dX2_group_61 : decode cX2_group 61 = .ok (.iadd, 1) := dk_96 (dk_at dksX2_group_2 14 rfl rfl)
theorem dX2_group_62 : decode cX2_group 62 = .ok (.putfield 532, 3) := dk_181 2 20 (dk_at dksX2_group_2 15 rfl rfl)
theorem dX2_group_65 : decode cX2_group 65 = .ok (.iconst 1, 1) := dk_4 (dk_at dksX2_group_2 18 rfl rfl)
theorem dX2_group_66 : decode cX2_group 66 = .ok (.istore_n 1, 1) := dk_60 (dk_at dksX2_group_2 19 rfl rfl)
theorem dX2_group_67 : decode cX2_group 67 = .ok (.goto (-65), 3) := dk_167 255 191 (dk_at dksX2_group_2 20 rfl rfl)
theorem dX2_group_70 : decode cX2_group 70 = .ok (.return_, 1) := dk_177 (dk_at dksX2_group_2 23 rfl rfl)
abbrev cX2_must : ByteArray := prog_4_method_17_code
def yX2_must : MethodName := ⟨RX2, "must", "(Ljava/lang/String;)V"⟩
def dkwX2_must_0 : List UInt8 := [42, 43, 182, 1, 222, 154, 0, 12, 42, 4, 42, 182, 1, 219, 182, 1, 178, 42, 182, 1, 226, 177]
abbrev dktX2_must_0 : List UInt8 := dkwX2_must_0 ++ []
theorem dksX2_must_0 : cX2_must.data.toList.drop 0 = dktX2_must_0 := by decide +kernel
theorem dX2_must_0 : decode cX2_must 0 = .ok (.aload_n 0, 1) := dk_42 (dk_at dksX2_must_0 0 rfl rfl)
theorem dX2_must_1 : decode cX2_must 1 = .ok (.aload_n 1, 1) := dk_43 (dk_at dksX2_must_0 1 rfl rfl)
theorem dX2_must_2 : decode cX2_must 2 = .ok (.invokevirtual 478, 3) := dk_182 1 222 (dk_at dksX2_must_0 2 rfl rfl)
theorem dX2_must_5 : decode cX2_must 5 = .ok (.ifCond .ne 12, 3) := dk_154 0 12 (dk_at dksX2_must_0 5 rfl rfl)
theorem dX2_must_8 : decode cX2_must 8 = .ok (.aload_n 0, 1) := dk_42 (dk_at dksX2_must_0 8 rfl rfl)
theorem dX2_must_9 : decode cX2_must 9 = .ok (.iconst 1, 1) := dk_4 (dk_at dksX2_must_0 9 rfl rfl)
theorem dX2_must_10 : decode cX2_must 10 = .ok (.aload_n 0, 1) := dk_42 (dk_at dksX2_must_0 10 rfl rfl)
theorem dX2_must_11 : decode cX2_must 11 = .ok (.invokevirtual 475, 3) := dk_182 1 219 (dk_at dksX2_must_0 11 rfl rfl)
theorem dX2_must_14 : decode cX2_must 14 = .ok (.invokevirtual 434, 3) := dk_182 1 178 (dk_at dksX2_must_0 14 rfl rfl)
theorem dX2_must_17 : decode cX2_must 17 = .ok (.aload_n 0, 1) := dk_42 (dk_at dksX2_must_0 17 rfl rfl)
theorem dX2_must_18 : decode cX2_must 18 = .ok (.invokevirtual 482, 3) := dk_182 1 226 (dk_at dksX2_must_0 18 rfl rfl)
theorem dX2_must_21 : decode cX2_must 21 = .ok (.return_, 1) := dk_177 (dk_at dksX2_must_0 21 rfl rfl)
abbrev cX2_varItem : ByteArray := prog_4_method_30_code
def yX2_varItem : MethodName := ⟨RX2, "varItem", "()V"⟩
def dkwX2_varItem_5 : List UInt8 := [79, 132, 3, 1, 167, 255, 238, 42, 19, 1, 200, 182, 1, 246, 177]
abbrev dktX2_varItem_5 : List UInt8 := dkwX2_varItem_5 ++ []
def dkwX2_varItem_4 : List UInt8 := [182, 1, 226, 42, 182, 1, 250, 61, 27, 62, 29, 42, 180, 2, 23, 162, 0, 16, 42, 180, 0, 62, 29, 28]
abbrev dktX2_varItem_4 : List UInt8 := dkwX2_varItem_4 ++ dktX2_varItem_5
def dkwX2_varItem_3 : List UInt8 := [167, 0, 4, 3, 42, 182, 1, 250, 79, 42, 89, 180, 2, 23, 4, 96, 181, 2, 23, 167, 255, 177, 42]
abbrev dktX2_varItem_3 : List UInt8 := dkwX2_varItem_3 ++ dktX2_varItem_4
def dkwX2_varItem_2 : List UInt8 := [182, 1, 219, 182, 1, 178, 42, 180, 0, 59, 42, 180, 2, 23, 16, 30, 162, 0, 10, 42, 180, 2, 23]
abbrev dktX2_varItem_2 : List UInt8 := dkwX2_varItem_2 ++ dktX2_varItem_3
def dkwX2_varItem_1 : List UInt8 := [154, 0, 67, 42, 180, 2, 23, 16, 30, 160, 0, 19, 42, 182, 2, 12, 153, 0, 12, 42, 5, 42]
abbrev dktX2_varItem_1 : List UInt8 := dkwX2_varItem_1 ++ dktX2_varItem_2
def dkwX2_varItem_0 : List UInt8 := [42, 182, 1, 226, 42, 180, 2, 23, 60, 42, 180, 2, 23, 27, 159, 0, 13, 42, 19, 1, 202, 182, 1, 222]
abbrev dktX2_varItem_0 : List UInt8 := dkwX2_varItem_0 ++ dktX2_varItem_1
theorem dksX2_varItem_0 : cX2_varItem.data.toList.drop 0 = dktX2_varItem_0 := by decide +kernel
theorem dksX2_varItem_1 : cX2_varItem.data.toList.drop 24 = dktX2_varItem_1 := dk_seg dksX2_varItem_0 24 rfl rfl
theorem dksX2_varItem_2 : cX2_varItem.data.toList.drop 46 = dktX2_varItem_2 := dk_seg dksX2_varItem_1 22 rfl rfl
theorem dksX2_varItem_3 : cX2_varItem.data.toList.drop 69 = dktX2_varItem_3 := dk_seg dksX2_varItem_2 23 rfl rfl
theorem dksX2_varItem_4 : cX2_varItem.data.toList.drop 92 = dktX2_varItem_4 := dk_seg dksX2_varItem_3 23 rfl rfl
theorem dksX2_varItem_5 : cX2_varItem.data.toList.drop 116 = dktX2_varItem_5 := dk_seg dksX2_varItem_4 24 rfl rfl
theorem dX2_varItem_0 : decode cX2_varItem 0 = .ok (.aload_n 0, 1) := dk_42 (dk_at dksX2_varItem_0 0 rfl rfl)
theorem dX2_varItem_1 : decode cX2_varItem 1 = .ok (.invokevirtual 482, 3) := dk_182 1 226 (dk_at dksX2_varItem_0 1 rfl rfl)
theorem dX2_varItem_4 : decode cX2_varItem 4 = .ok (.aload_n 0, 1) := dk_42 (dk_at dksX2_varItem_0 4 rfl rfl)
theorem dX2_varItem_5 : decode cX2_varItem 5 = .ok (.getfield 535, 3) := dk_180 2 23 (dk_at dksX2_varItem_0 5 rfl rfl)
theorem dX2_varItem_8 : decode cX2_varItem 8 = .ok (.istore_n 1, 1) := dk_60 (dk_at dksX2_varItem_0 8 rfl rfl)
theorem dX2_varItem_9 : decode cX2_varItem 9 = .ok (.aload_n 0, 1) := dk_42 (dk_at dksX2_varItem_0 9 rfl rfl)
theorem dX2_varItem_10 : decode cX2_varItem 10 = .ok (.getfield 535, 3) := dk_180 2 23 (dk_at dksX2_varItem_0 10 rfl rfl)
theorem dX2_varItem_13 : decode cX2_varItem 13 = .ok (.iload_n 1, 1) := dk_27 (dk_at dksX2_varItem_0 13 rfl rfl)
theorem dX2_varItem_14 : decode cX2_varItem 14 = .ok (.if_icmp .eq 13, 3) := dk_159 0 13 (dk_at dksX2_varItem_0 14 rfl rfl)
theorem dX2_varItem_17 : decode cX2_varItem 17 = .ok (.aload_n 0, 1) := dk_42 (dk_at dksX2_varItem_0 17 rfl rfl)
theorem dX2_varItem_18 : decode cX2_varItem 18 = .ok (.ldc_w 458, 3) := dk_19 1 202 (dk_at dksX2_varItem_0 18 rfl rfl)
theorem dX2_varItem_21 : decode cX2_varItem 21 = .ok (.invokevirtual 478, 3) := dk_182 1 222 (dk_at dksX2_varItem_0 21 rfl rfl)
theorem dX2_varItem_24 : decode cX2_varItem 24 = .ok (.ifCond .ne 67, 3) := dk_154 0 67 (dk_at dksX2_varItem_1 0 rfl rfl)
theorem dX2_varItem_27 : decode cX2_varItem 27 = .ok (.aload_n 0, 1) := dk_42 (dk_at dksX2_varItem_1 3 rfl rfl)
theorem dX2_varItem_28 : decode cX2_varItem 28 = .ok (.getfield 535, 3) := dk_180 2 23 (dk_at dksX2_varItem_1 4 rfl rfl)
theorem dX2_varItem_31 : decode cX2_varItem 31 = .ok (.bipush 30, 2) := dk_16 30 (dk_at dksX2_varItem_1 7 rfl rfl)
theorem dX2_varItem_33 : decode cX2_varItem 33 = .ok (.if_icmp .ne 19, 3) := dk_160 0 19 (dk_at dksX2_varItem_1 9 rfl rfl)
theorem dX2_varItem_36 : decode cX2_varItem 36 = .ok (.aload_n 0, 1) := dk_42 (dk_at dksX2_varItem_1 12 rfl rfl)
theorem dX2_varItem_37 : decode cX2_varItem 37 = .ok (.invokevirtual 524, 3) := dk_182 2 12 (dk_at dksX2_varItem_1 13 rfl rfl)
theorem dX2_varItem_40 : decode cX2_varItem 40 = .ok (.ifCond .eq 12, 3) := dk_153 0 12 (dk_at dksX2_varItem_1 16 rfl rfl)
theorem dX2_varItem_43 : decode cX2_varItem 43 = .ok (.aload_n 0, 1) := dk_42 (dk_at dksX2_varItem_1 19 rfl rfl)
theorem dX2_varItem_44 : decode cX2_varItem 44 = .ok (.iconst 2, 1) := dk_5 (dk_at dksX2_varItem_1 20 rfl rfl)
theorem dX2_varItem_45 : decode cX2_varItem 45 = .ok (.aload_n 0, 1) := dk_42 (dk_at dksX2_varItem_1 21 rfl rfl)
theorem dX2_varItem_46 : decode cX2_varItem 46 = .ok (.invokevirtual 475, 3) := dk_182 1 219 (dk_at dksX2_varItem_2 0 rfl rfl)
theorem dX2_varItem_49 : decode cX2_varItem 49 = .ok (.invokevirtual 434, 3) := dk_182 1 178 (dk_at dksX2_varItem_2 3 rfl rfl)
theorem dX2_varItem_52 : decode cX2_varItem 52 = .ok (.aload_n 0, 1) := dk_42 (dk_at dksX2_varItem_2 6 rfl rfl)
theorem dX2_varItem_53 : decode cX2_varItem 53 = .ok (.getfield 59, 3) := dk_180 0 59 (dk_at dksX2_varItem_2 7 rfl rfl)
theorem dX2_varItem_56 : decode cX2_varItem 56 = .ok (.aload_n 0, 1) := dk_42 (dk_at dksX2_varItem_2 10 rfl rfl)
theorem dX2_varItem_57 : decode cX2_varItem 57 = .ok (.getfield 535, 3) := dk_180 2 23 (dk_at dksX2_varItem_2 11 rfl rfl)
theorem dX2_varItem_60 : decode cX2_varItem 60 = .ok (.bipush 30, 2) := dk_16 30 (dk_at dksX2_varItem_2 14 rfl rfl)
theorem dX2_varItem_62 : decode cX2_varItem 62 = .ok (.if_icmp .ge 10, 3) := dk_162 0 10 (dk_at dksX2_varItem_2 16 rfl rfl)
theorem dX2_varItem_65 : decode cX2_varItem 65 = .ok (.aload_n 0, 1) := dk_42 (dk_at dksX2_varItem_2 19 rfl rfl)
theorem dX2_varItem_66 : decode cX2_varItem 66 = .ok (.getfield 535, 3) := dk_180 2 23 (dk_at dksX2_varItem_2 20 rfl rfl)
theorem dX2_varItem_69 : decode cX2_varItem 69 = .ok (.goto 4, 3) := dk_167 0 4 (dk_at dksX2_varItem_3 0 rfl rfl)
theorem dX2_varItem_72 : decode cX2_varItem 72 = .ok (.iconst 0, 1) := dk_3 (dk_at dksX2_varItem_3 3 rfl rfl)
theorem dX2_varItem_73 : decode cX2_varItem 73 = .ok (.aload_n 0, 1) := dk_42 (dk_at dksX2_varItem_3 4 rfl rfl)
theorem dX2_varItem_74 : decode cX2_varItem 74 = .ok (.invokevirtual 506, 3) := dk_182 1 250 (dk_at dksX2_varItem_3 5 rfl rfl)
theorem dX2_varItem_77 : decode cX2_varItem 77 = .ok (.iastore, 1) := dk_79 (dk_at dksX2_varItem_3 8 rfl rfl)
theorem dX2_varItem_78 : decode cX2_varItem 78 = .ok (.aload_n 0, 1) := dk_42 (dk_at dksX2_varItem_3 9 rfl rfl)
theorem dX2_varItem_79 : decode cX2_varItem 79 = .ok (.dup, 1) := dk_89 (dk_at dksX2_varItem_3 10 rfl rfl)
theorem dX2_varItem_80 : decode cX2_varItem 80 = .ok (.getfield 535, 3) := dk_180 2 23 (dk_at dksX2_varItem_3 11 rfl rfl)
theorem dX2_varItem_83 : decode cX2_varItem 83 = .ok (.iconst 1, 1) := dk_4 (dk_at dksX2_varItem_3 14 rfl rfl)
theorem dX2_varItem_84 : decode cX2_varItem 84 = .ok (.iadd, 1) := dk_96 (dk_at dksX2_varItem_3 15 rfl rfl)
theorem dX2_varItem_85 : decode cX2_varItem 85 = .ok (.putfield 535, 3) := dk_181 2 23 (dk_at dksX2_varItem_3 16 rfl rfl)
theorem dX2_varItem_88 : decode cX2_varItem 88 = .ok (.goto (-79), 3) := dk_167 255 177 (dk_at dksX2_varItem_3 19 rfl rfl)
theorem dX2_varItem_91 : decode cX2_varItem 91 = .ok (.aload_n 0, 1) := dk_42 (dk_at dksX2_varItem_3 22 rfl rfl)
theorem dX2_varItem_92 : decode cX2_varItem 92 = .ok (.invokevirtual 482, 3) := dk_182 1 226 (dk_at dksX2_varItem_4 0 rfl rfl)
theorem dX2_varItem_95 : decode cX2_varItem 95 = .ok (.aload_n 0, 1) := dk_42 (dk_at dksX2_varItem_4 3 rfl rfl)
theorem dX2_varItem_96 : decode cX2_varItem 96 = .ok (.invokevirtual 506, 3) := dk_182 1 250 (dk_at dksX2_varItem_4 4 rfl rfl)
theorem dX2_varItem_99 : decode cX2_varItem 99 = .ok (.istore_n 2, 1) := dk_61 (dk_at dksX2_varItem_4 7 rfl rfl)
theorem dX2_varItem_100 : decode cX2_varItem 100 = .ok (.iload_n 1, 1) := dk_27 (dk_at dksX2_varItem_4 8 rfl rfl)
theorem dX2_varItem_101 : decode cX2_varItem 101 = .ok (.istore_n 3, 1) := dk_62 (dk_at dksX2_varItem_4 9 rfl rfl)
theorem dX2_varItem_102 : decode cX2_varItem 102 = .ok (.iload_n 3, 1) := dk_29 (dk_at dksX2_varItem_4 10 rfl rfl)
theorem dX2_varItem_103 : decode cX2_varItem 103 = .ok (.aload_n 0, 1) := dk_42 (dk_at dksX2_varItem_4 11 rfl rfl)
theorem dX2_varItem_104 : decode cX2_varItem 104 = .ok (.getfield 535, 3) := dk_180 2 23 (dk_at dksX2_varItem_4 12 rfl rfl)
theorem dX2_varItem_107 : decode cX2_varItem 107 = .ok (.if_icmp .ge 16, 3) := dk_162 0 16 (dk_at dksX2_varItem_4 15 rfl rfl)
theorem dX2_varItem_110 : decode cX2_varItem 110 = .ok (.aload_n 0, 1) := dk_42 (dk_at dksX2_varItem_4 18 rfl rfl)
theorem dX2_varItem_111 : decode cX2_varItem 111 = .ok (.getfield 62, 3) := dk_180 0 62 (dk_at dksX2_varItem_4 19 rfl rfl)
theorem dX2_varItem_114 : decode cX2_varItem 114 = .ok (.iload_n 3, 1) := dk_29 (dk_at dksX2_varItem_4 22 rfl rfl)
theorem dX2_varItem_115 : decode cX2_varItem 115 = .ok (.iload_n 2, 1) := dk_28 (dk_at dksX2_varItem_4 23 rfl rfl)
theorem dX2_varItem_116 : decode cX2_varItem 116 = .ok (.iastore, 1) := dk_79 (dk_at dksX2_varItem_5 0 rfl rfl)
theorem dX2_varItem_117 : decode cX2_varItem 117 = .ok (.iinc 3 1, 3) := dk_132 3 1 (dk_at dksX2_varItem_5 1 rfl rfl)
theorem dX2_varItem_120 : decode cX2_varItem 120 = .ok (.goto (-18), 3) := dk_167 255 238 (dk_at dksX2_varItem_5 4 rfl rfl)
theorem dX2_varItem_123 : decode cX2_varItem 123 = .ok (.aload_n 0, 1) := dk_42 (dk_at dksX2_varItem_5 7 rfl rfl)
theorem dX2_varItem_124 : decode cX2_varItem 124 = .ok (.ldc_w 456, 3) := dk_19 1 200 (dk_at dksX2_varItem_5 8 rfl rfl)
theorem dX2_varItem_127 : decode cX2_varItem 127 = .ok (.invokevirtual 502, 3) := dk_182 1 246 (dk_at dksX2_varItem_5 11 rfl rfl)
theorem dX2_varItem_130 : decode cX2_varItem 130 = .ok (.return_, 1) := dk_177 (dk_at dksX2_varItem_5 14 rfl rfl)
abbrev cX2_opItem : ByteArray := prog_4_method_31_code
def yX2_opItem : MethodName := ⟨RX2, "opItem", "()V"⟩
def dkwX2_opItem_12 : List UInt8 := [19, 1, 200, 182, 1, 246, 42, 89, 180, 2, 26, 4, 96, 181, 2, 26, 177]
abbrev dktX2_opItem_12 : List UInt8 := dkwX2_opItem_12 ++ []
def dkwX2_opItem_11 : List UInt8 := [19, 2, 34, 182, 1, 222, 154, 0, 11, 42, 27, 182, 2, 31, 167, 255, 241, 42, 182, 1, 226, 42]
abbrev dktX2_opItem_11 : List UInt8 := dkwX2_opItem_11 ++ dktX2_opItem_12
def dkwX2_opItem_10 : List UInt8 := [3, 84, 42, 19, 2, 29, 182, 1, 222, 153, 0, 34, 42, 182, 1, 226, 42, 27, 182, 2, 31, 42]
abbrev dktX2_opItem_10 : List UInt8 := dkwX2_opItem_10 ++ dktX2_opItem_11
def dkwX2_opItem_9 : List UInt8 := [16, 254, 79, 42, 180, 0, 93, 27, 16, 254, 79, 42, 180, 0, 96, 27, 16, 254, 79, 42, 180, 0, 102, 27]
abbrev dktX2_opItem_9 : List UInt8 := dkwX2_opItem_9 ++ dktX2_opItem_10
def dkwX2_opItem_8 : List UInt8 := [182, 1, 250, 79, 42, 180, 0, 83, 27, 3, 84, 42, 180, 0, 87, 27, 3, 84, 42, 180, 0, 90, 27]
abbrev dktX2_opItem_8 : List UInt8 := dkwX2_opItem_8 ++ dktX2_opItem_9
def dkwX2_opItem_7 : List UInt8 := [180, 0, 74, 27, 92, 46, 4, 96, 79, 167, 255, 203, 42, 182, 1, 226, 42, 180, 0, 80, 27, 42]
abbrev dktX2_opItem_7 : List UInt8 := dkwX2_opItem_7 ++ dktX2_opItem_8
def dkwX2_opItem_6 : List UInt8 := [16, 20, 162, 0, 20, 42, 180, 0, 77, 16, 20, 27, 104, 42, 180, 0, 74, 27, 46, 96, 28, 79, 42]
abbrev dktX2_opItem_6 : List UInt8 := dkwX2_opItem_6 ++ dktX2_opItem_7
def dkwX2_opItem_5 : List UInt8 := [3, 79, 42, 19, 1, 204, 182, 1, 222, 154, 0, 49, 42, 182, 1, 250, 61, 42, 180, 0, 74, 27, 46]
abbrev dktX2_opItem_5 : List UInt8 := dkwX2_opItem_5 ++ dktX2_opItem_6
def dkwX2_opItem_4 : List UInt8 := [154, 0, 12, 42, 4, 42, 182, 1, 219, 182, 1, 178, 42, 19, 1, 202, 182, 1, 246, 42, 180, 0, 74, 27]
abbrev dktX2_opItem_4 : List UInt8 := dkwX2_opItem_4 ++ dktX2_opItem_5
def dkwX2_opItem_3 : List UInt8 := [42, 180, 0, 71, 27, 42, 180, 1, 160, 42, 180, 0, 68, 27, 46, 100, 79, 42, 180, 0, 71, 27, 46]
abbrev dktX2_opItem_3 : List UInt8 := dkwX2_opItem_3 ++ dktX2_opItem_4
def dkwX2_opItem_2 : List UInt8 := [182, 1, 192, 154, 0, 21, 42, 42, 180, 1, 160, 182, 1, 229, 154, 0, 10, 42, 182, 1, 226, 167, 255, 234]
abbrev dktX2_opItem_2 : List UInt8 := dkwX2_opItem_2 ++ dktX2_opItem_3
def dkwX2_opItem_1 : List UInt8 := [180, 0, 65, 27, 42, 182, 1, 219, 79, 42, 182, 1, 226, 42, 180, 0, 68, 27, 42, 180, 1, 160, 79, 42]
abbrev dktX2_opItem_1 : List UInt8 := dkwX2_opItem_1 ++ dktX2_opItem_2
def dkwX2_opItem_0 : List UInt8 := [42, 180, 2, 26, 16, 50, 160, 0, 12, 42, 5, 42, 182, 1, 219, 182, 1, 178, 42, 180, 2, 26, 60, 42]
abbrev dktX2_opItem_0 : List UInt8 := dkwX2_opItem_0 ++ dktX2_opItem_1
theorem dksX2_opItem_0 : cX2_opItem.data.toList.drop 0 = dktX2_opItem_0 := by decide +kernel
theorem dksX2_opItem_1 : cX2_opItem.data.toList.drop 24 = dktX2_opItem_1 := dk_seg dksX2_opItem_0 24 rfl rfl
theorem dksX2_opItem_2 : cX2_opItem.data.toList.drop 48 = dktX2_opItem_2 := dk_seg dksX2_opItem_1 24 rfl rfl
theorem dksX2_opItem_3 : cX2_opItem.data.toList.drop 72 = dktX2_opItem_3 := dk_seg dksX2_opItem_2 24 rfl rfl
theorem dksX2_opItem_4 : cX2_opItem.data.toList.drop 95 = dktX2_opItem_4 := dk_seg dksX2_opItem_3 23 rfl rfl
theorem dksX2_opItem_5 : cX2_opItem.data.toList.drop 119 = dktX2_opItem_5 := dk_seg dksX2_opItem_4 24 rfl rfl
theorem dksX2_opItem_6 : cX2_opItem.data.toList.drop 142 = dktX2_opItem_6 := dk_seg dksX2_opItem_5 23 rfl rfl
theorem dksX2_opItem_7 : cX2_opItem.data.toList.drop 165 = dktX2_opItem_7 := dk_seg dksX2_opItem_6 23 rfl rfl
theorem dksX2_opItem_8 : cX2_opItem.data.toList.drop 187 = dktX2_opItem_8 := dk_seg dksX2_opItem_7 22 rfl rfl
theorem dksX2_opItem_9 : cX2_opItem.data.toList.drop 210 = dktX2_opItem_9 := dk_seg dksX2_opItem_8 23 rfl rfl
theorem dksX2_opItem_10 : cX2_opItem.data.toList.drop 234 = dktX2_opItem_10 := dk_seg dksX2_opItem_9 24 rfl rfl
theorem dksX2_opItem_11 : cX2_opItem.data.toList.drop 256 = dktX2_opItem_11 := dk_seg dksX2_opItem_10 22 rfl rfl
theorem dksX2_opItem_12 : cX2_opItem.data.toList.drop 278 = dktX2_opItem_12 := dk_seg dksX2_opItem_11 22 rfl rfl
theorem dX2_opItem_0 : decode cX2_opItem 0 = .ok (.aload_n 0, 1) := dk_42 (dk_at dksX2_opItem_0 0 rfl rfl)
theorem dX2_opItem_1 : decode cX2_opItem 1 = .ok (.getfield 538, 3) := dk_180 2 26 (dk_at dksX2_opItem_0 1 rfl rfl)
theorem dX2_opItem_4 : decode cX2_opItem 4 = .ok (.bipush 50, 2) := dk_16 50 (dk_at dksX2_opItem_0 4 rfl rfl)
theorem dX2_opItem_6 : decode cX2_opItem 6 = .ok (.if_icmp .ne 12, 3) := dk_160 0 12 (dk_at dksX2_opItem_0 6 rfl rfl)
theorem dX2_opItem_9 : decode cX2_opItem 9 = .ok (.aload_n 0, 1) := dk_42 (dk_at dksX2_opItem_0 9 rfl rfl)
theorem dX2_opItem_10 : decode cX2_opItem 10 = .ok (.iconst 2, 1) := dk_5 (dk_at dksX2_opItem_0 10 rfl rfl)
theorem dX2_opItem_11 : decode cX2_opItem 11 = .ok (.aload_n 0, 1) := dk_42 (dk_at dksX2_opItem_0 11 rfl rfl)
theorem dX2_opItem_12 : decode cX2_opItem 12 = .ok (.invokevirtual 475, 3) := dk_182 1 219 (dk_at dksX2_opItem_0 12 rfl rfl)
theorem dX2_opItem_15 : decode cX2_opItem 15 = .ok (.invokevirtual 434, 3) := dk_182 1 178 (dk_at dksX2_opItem_0 15 rfl rfl)
theorem dX2_opItem_18 : decode cX2_opItem 18 = .ok (.aload_n 0, 1) := dk_42 (dk_at dksX2_opItem_0 18 rfl rfl)
theorem dX2_opItem_19 : decode cX2_opItem 19 = .ok (.getfield 538, 3) := dk_180 2 26 (dk_at dksX2_opItem_0 19 rfl rfl)
theorem dX2_opItem_22 : decode cX2_opItem 22 = .ok (.istore_n 1, 1) := dk_60 (dk_at dksX2_opItem_0 22 rfl rfl)
theorem dX2_opItem_23 : decode cX2_opItem 23 = .ok (.aload_n 0, 1) := dk_42 (dk_at dksX2_opItem_0 23 rfl rfl)
theorem dX2_opItem_24 : decode cX2_opItem 24 = .ok (.getfield 65, 3) := dk_180 0 65 (dk_at dksX2_opItem_1 0 rfl rfl)
theorem dX2_opItem_27 : decode cX2_opItem 27 = .ok (.iload_n 1, 1) := dk_27 (dk_at dksX2_opItem_1 3 rfl rfl)
theorem dX2_opItem_28 : decode cX2_opItem 28 = .ok (.aload_n 0, 1) := dk_42 (dk_at dksX2_opItem_1 4 rfl rfl)
theorem dX2_opItem_29 : decode cX2_opItem 29 = .ok (.invokevirtual 475, 3) := dk_182 1 219 (dk_at dksX2_opItem_1 5 rfl rfl)
theorem dX2_opItem_32 : decode cX2_opItem 32 = .ok (.iastore, 1) := dk_79 (dk_at dksX2_opItem_1 8 rfl rfl)
theorem dX2_opItem_33 : decode cX2_opItem 33 = .ok (.aload_n 0, 1) := dk_42 (dk_at dksX2_opItem_1 9 rfl rfl)
theorem dX2_opItem_34 : decode cX2_opItem 34 = .ok (.invokevirtual 482, 3) := dk_182 1 226 (dk_at dksX2_opItem_1 10 rfl rfl)
theorem dX2_opItem_37 : decode cX2_opItem 37 = .ok (.aload_n 0, 1) := dk_42 (dk_at dksX2_opItem_1 13 rfl rfl)
theorem dX2_opItem_38 : decode cX2_opItem 38 = .ok (.getfield 68, 3) := dk_180 0 68 (dk_at dksX2_opItem_1 14 rfl rfl)
theorem dX2_opItem_41 : decode cX2_opItem 41 = .ok (.iload_n 1, 1) := dk_27 (dk_at dksX2_opItem_1 17 rfl rfl)
theorem dX2_opItem_42 : decode cX2_opItem 42 = .ok (.aload_n 0, 1) := dk_42 (dk_at dksX2_opItem_1 18 rfl rfl)
theorem dX2_opItem_43 : decode cX2_opItem 43 = .ok (.getfield 416, 3) := dk_180 1 160 (dk_at dksX2_opItem_1 19 rfl rfl)
theorem dX2_opItem_46 : decode cX2_opItem 46 = .ok (.iastore, 1) := dk_79 (dk_at dksX2_opItem_1 22 rfl rfl)
theorem dX2_opItem_47 : decode cX2_opItem 47 = .ok (.aload_n 0, 1) := dk_42 (dk_at dksX2_opItem_1 23 rfl rfl)
theorem dX2_opItem_48 : decode cX2_opItem 48 = .ok (.invokevirtual 448, 3) := dk_182 1 192 (dk_at dksX2_opItem_2 0 rfl rfl)
theorem dX2_opItem_51 : decode cX2_opItem 51 = .ok (.ifCond .ne 21, 3) := dk_154 0 21 (dk_at dksX2_opItem_2 3 rfl rfl)
theorem dX2_opItem_54 : decode cX2_opItem 54 = .ok (.aload_n 0, 1) := dk_42 (dk_at dksX2_opItem_2 6 rfl rfl)
theorem dX2_opItem_55 : decode cX2_opItem 55 = .ok (.aload_n 0, 1) := dk_42 (dk_at dksX2_opItem_2 7 rfl rfl)
theorem dX2_opItem_56 : decode cX2_opItem 56 = .ok (.getfield 416, 3) := dk_180 1 160 (dk_at dksX2_opItem_2 8 rfl rfl)
theorem dX2_opItem_59 : decode cX2_opItem 59 = .ok (.invokevirtual 485, 3) := dk_182 1 229 (dk_at dksX2_opItem_2 11 rfl rfl)
theorem dX2_opItem_62 : decode cX2_opItem 62 = .ok (.ifCond .ne 10, 3) := dk_154 0 10 (dk_at dksX2_opItem_2 14 rfl rfl)
theorem dX2_opItem_65 : decode cX2_opItem 65 = .ok (.aload_n 0, 1) := dk_42 (dk_at dksX2_opItem_2 17 rfl rfl)
theorem dX2_opItem_66 : decode cX2_opItem 66 = .ok (.invokevirtual 482, 3) := dk_182 1 226 (dk_at dksX2_opItem_2 18 rfl rfl)
theorem dX2_opItem_69 : decode cX2_opItem 69 = .ok (.goto (-22), 3) := dk_167 255 234 (dk_at dksX2_opItem_2 21 rfl rfl)
theorem dX2_opItem_72 : decode cX2_opItem 72 = .ok (.aload_n 0, 1) := dk_42 (dk_at dksX2_opItem_3 0 rfl rfl)
theorem dX2_opItem_73 : decode cX2_opItem 73 = .ok (.getfield 71, 3) := dk_180 0 71 (dk_at dksX2_opItem_3 1 rfl rfl)
theorem dX2_opItem_76 : decode cX2_opItem 76 = .ok (.iload_n 1, 1) := dk_27 (dk_at dksX2_opItem_3 4 rfl rfl)
theorem dX2_opItem_77 : decode cX2_opItem 77 = .ok (.aload_n 0, 1) := dk_42 (dk_at dksX2_opItem_3 5 rfl rfl)
theorem dX2_opItem_78 : decode cX2_opItem 78 = .ok (.getfield 416, 3) := dk_180 1 160 (dk_at dksX2_opItem_3 6 rfl rfl)
theorem dX2_opItem_81 : decode cX2_opItem 81 = .ok (.aload_n 0, 1) := dk_42 (dk_at dksX2_opItem_3 9 rfl rfl)
theorem dX2_opItem_82 : decode cX2_opItem 82 = .ok (.getfield 68, 3) := dk_180 0 68 (dk_at dksX2_opItem_3 10 rfl rfl)
theorem dX2_opItem_85 : decode cX2_opItem 85 = .ok (.iload_n 1, 1) := dk_27 (dk_at dksX2_opItem_3 13 rfl rfl)
theorem dX2_opItem_86 : decode cX2_opItem 86 = .ok (.iaload, 1) := dk_46 (dk_at dksX2_opItem_3 14 rfl rfl)
theorem dX2_opItem_87 : decode cX2_opItem 87 = .ok (.isub, 1) := dk_100 (dk_at dksX2_opItem_3 15 rfl rfl)
theorem dX2_opItem_88 : decode cX2_opItem 88 = .ok (.iastore, 1) := dk_79 (dk_at dksX2_opItem_3 16 rfl rfl)
theorem dX2_opItem_89 : decode cX2_opItem 89 = .ok (.aload_n 0, 1) := dk_42 (dk_at dksX2_opItem_3 17 rfl rfl)
theorem dX2_opItem_90 : decode cX2_opItem 90 = .ok (.getfield 71, 3) := dk_180 0 71 (dk_at dksX2_opItem_3 18 rfl rfl)
theorem dX2_opItem_93 : decode cX2_opItem 93 = .ok (.iload_n 1, 1) := dk_27 (dk_at dksX2_opItem_3 21 rfl rfl)
theorem dX2_opItem_94 : decode cX2_opItem 94 = .ok (.iaload, 1) := dk_46 (dk_at dksX2_opItem_3 22 rfl rfl)
theorem dX2_opItem_95 : decode cX2_opItem 95 = .ok (.ifCond .ne 12, 3) := dk_154 0 12 (dk_at dksX2_opItem_4 0 rfl rfl)
theorem dX2_opItem_98 : decode cX2_opItem 98 = .ok (.aload_n 0, 1) := dk_42 (dk_at dksX2_opItem_4 3 rfl rfl)
theorem dX2_opItem_99 : decode cX2_opItem 99 = .ok (.iconst 1, 1) := dk_4 (dk_at dksX2_opItem_4 4 rfl rfl)
theorem dX2_opItem_100 : decode cX2_opItem 100 = .ok (.aload_n 0, 1) := dk_42 (dk_at dksX2_opItem_4 5 rfl rfl)
theorem dX2_opItem_101 : decode cX2_opItem 101 = .ok (.invokevirtual 475, 3) := dk_182 1 219 (dk_at dksX2_opItem_4 6 rfl rfl)
theorem dX2_opItem_104 : decode cX2_opItem 104 = .ok (.invokevirtual 434, 3) := dk_182 1 178 (dk_at dksX2_opItem_4 9 rfl rfl)
theorem dX2_opItem_107 : decode cX2_opItem 107 = .ok (.aload_n 0, 1) := dk_42 (dk_at dksX2_opItem_4 12 rfl rfl)
theorem dX2_opItem_108 : decode cX2_opItem 108 = .ok (.ldc_w 458, 3) := dk_19 1 202 (dk_at dksX2_opItem_4 13 rfl rfl)
theorem dX2_opItem_111 : decode cX2_opItem 111 = .ok (.invokevirtual 502, 3) := dk_182 1 246 (dk_at dksX2_opItem_4 16 rfl rfl)
theorem dX2_opItem_114 : decode cX2_opItem 114 = .ok (.aload_n 0, 1) := dk_42 (dk_at dksX2_opItem_4 19 rfl rfl)
theorem dX2_opItem_115 : decode cX2_opItem 115 = .ok (.getfield 74, 3) := dk_180 0 74 (dk_at dksX2_opItem_4 20 rfl rfl)
theorem dX2_opItem_118 : decode cX2_opItem 118 = .ok (.iload_n 1, 1) := dk_27 (dk_at dksX2_opItem_4 23 rfl rfl)
theorem dX2_opItem_119 : decode cX2_opItem 119 = .ok (.iconst 0, 1) := dk_3 (dk_at dksX2_opItem_5 0 rfl rfl)
theorem dX2_opItem_120 : decode cX2_opItem 120 = .ok (.iastore, 1) := dk_79 (dk_at dksX2_opItem_5 1 rfl rfl)
theorem dX2_opItem_121 : decode cX2_opItem 121 = .ok (.aload_n 0, 1) := dk_42 (dk_at dksX2_opItem_5 2 rfl rfl)
theorem dX2_opItem_122 : decode cX2_opItem 122 = .ok (.ldc_w 460, 3) := dk_19 1 204 (dk_at dksX2_opItem_5 3 rfl rfl)
theorem dX2_opItem_125 : decode cX2_opItem 125 = .ok (.invokevirtual 478, 3) := dk_182 1 222 (dk_at dksX2_opItem_5 6 rfl rfl)
theorem dX2_opItem_128 : decode cX2_opItem 128 = .ok (.ifCond .ne 49, 3) := dk_154 0 49 (dk_at dksX2_opItem_5 9 rfl rfl)
theorem dX2_opItem_131 : decode cX2_opItem 131 = .ok (.aload_n 0, 1) := dk_42 (dk_at dksX2_opItem_5 12 rfl rfl)
theorem dX2_opItem_132 : decode cX2_opItem 132 = .ok (.invokevirtual 506, 3) := dk_182 1 250 (dk_at dksX2_opItem_5 13 rfl rfl)
theorem dX2_opItem_135 : decode cX2_opItem 135 = .ok (.istore_n 2, 1) := dk_61 (dk_at dksX2_opItem_5 16 rfl rfl)
theorem dX2_opItem_136 : decode cX2_opItem 136 = .ok (.aload_n 0, 1) := dk_42 (dk_at dksX2_opItem_5 17 rfl rfl)
theorem dX2_opItem_137 : decode cX2_opItem 137 = .ok (.getfield 74, 3) := dk_180 0 74 (dk_at dksX2_opItem_5 18 rfl rfl)
theorem dX2_opItem_140 : decode cX2_opItem 140 = .ok (.iload_n 1, 1) := dk_27 (dk_at dksX2_opItem_5 21 rfl rfl)
theorem dX2_opItem_141 : decode cX2_opItem 141 = .ok (.iaload, 1) := dk_46 (dk_at dksX2_opItem_5 22 rfl rfl)
theorem dX2_opItem_142 : decode cX2_opItem 142 = .ok (.bipush 20, 2) := dk_16 20 (dk_at dksX2_opItem_6 0 rfl rfl)
theorem dX2_opItem_144 : decode cX2_opItem 144 = .ok (.if_icmp .ge 20, 3) := dk_162 0 20 (dk_at dksX2_opItem_6 2 rfl rfl)
theorem dX2_opItem_147 : decode cX2_opItem 147 = .ok (.aload_n 0, 1) := dk_42 (dk_at dksX2_opItem_6 5 rfl rfl)
theorem dX2_opItem_148 : decode cX2_opItem 148 = .ok (.getfield 77, 3) := dk_180 0 77 (dk_at dksX2_opItem_6 6 rfl rfl)
theorem dX2_opItem_151 : decode cX2_opItem 151 = .ok (.bipush 20, 2) := dk_16 20 (dk_at dksX2_opItem_6 9 rfl rfl)
theorem dX2_opItem_153 : decode cX2_opItem 153 = .ok (.iload_n 1, 1) := dk_27 (dk_at dksX2_opItem_6 11 rfl rfl)
theorem dX2_opItem_154 : decode cX2_opItem 154 = .ok (.imul, 1) := dk_104 (dk_at dksX2_opItem_6 12 rfl rfl)
theorem dX2_opItem_155 : decode cX2_opItem 155 = .ok (.aload_n 0, 1) := dk_42 (dk_at dksX2_opItem_6 13 rfl rfl)
theorem dX2_opItem_156 : decode cX2_opItem 156 = .ok (.getfield 74, 3) := dk_180 0 74 (dk_at dksX2_opItem_6 14 rfl rfl)
theorem dX2_opItem_159 : decode cX2_opItem 159 = .ok (.iload_n 1, 1) := dk_27 (dk_at dksX2_opItem_6 17 rfl rfl)
theorem dX2_opItem_160 : decode cX2_opItem 160 = .ok (.iaload, 1) := dk_46 (dk_at dksX2_opItem_6 18 rfl rfl)
theorem dX2_opItem_161 : decode cX2_opItem 161 = .ok (.iadd, 1) := dk_96 (dk_at dksX2_opItem_6 19 rfl rfl)
theorem dX2_opItem_162 : decode cX2_opItem 162 = .ok (.iload_n 2, 1) := dk_28 (dk_at dksX2_opItem_6 20 rfl rfl)
theorem dX2_opItem_163 : decode cX2_opItem 163 = .ok (.iastore, 1) := dk_79 (dk_at dksX2_opItem_6 21 rfl rfl)
theorem dX2_opItem_164 : decode cX2_opItem 164 = .ok (.aload_n 0, 1) := dk_42 (dk_at dksX2_opItem_6 22 rfl rfl)
theorem dX2_opItem_165 : decode cX2_opItem 165 = .ok (.getfield 74, 3) := dk_180 0 74 (dk_at dksX2_opItem_7 0 rfl rfl)
theorem dX2_opItem_168 : decode cX2_opItem 168 = .ok (.iload_n 1, 1) := dk_27 (dk_at dksX2_opItem_7 3 rfl rfl)
theorem dX2_opItem_169 : decode cX2_opItem 169 = .ok (.dup2, 1) := dk_92 (dk_at dksX2_opItem_7 4 rfl rfl)
theorem dX2_opItem_170 : decode cX2_opItem 170 = .ok (.iaload, 1) := dk_46 (dk_at dksX2_opItem_7 5 rfl rfl)
theorem dX2_opItem_171 : decode cX2_opItem 171 = .ok (.iconst 1, 1) := dk_4 (dk_at dksX2_opItem_7 6 rfl rfl)
theorem dX2_opItem_172 : decode cX2_opItem 172 = .ok (.iadd, 1) := dk_96 (dk_at dksX2_opItem_7 7 rfl rfl)
theorem dX2_opItem_173 : decode cX2_opItem 173 = .ok (.iastore, 1) := dk_79 (dk_at dksX2_opItem_7 8 rfl rfl)
theorem dX2_opItem_174 : decode cX2_opItem 174 = .ok (.goto (-53), 3) := dk_167 255 203 (dk_at dksX2_opItem_7 9 rfl rfl)
theorem dX2_opItem_177 : decode cX2_opItem 177 = .ok (.aload_n 0, 1) := dk_42 (dk_at dksX2_opItem_7 12 rfl rfl)
theorem dX2_opItem_178 : decode cX2_opItem 178 = .ok (.invokevirtual 482, 3) := dk_182 1 226 (dk_at dksX2_opItem_7 13 rfl rfl)
theorem dX2_opItem_181 : decode cX2_opItem 181 = .ok (.aload_n 0, 1) := dk_42 (dk_at dksX2_opItem_7 16 rfl rfl)
theorem dX2_opItem_182 : decode cX2_opItem 182 = .ok (.getfield 80, 3) := dk_180 0 80 (dk_at dksX2_opItem_7 17 rfl rfl)
theorem dX2_opItem_185 : decode cX2_opItem 185 = .ok (.iload_n 1, 1) := dk_27 (dk_at dksX2_opItem_7 20 rfl rfl)
theorem dX2_opItem_186 : decode cX2_opItem 186 = .ok (.aload_n 0, 1) := dk_42 (dk_at dksX2_opItem_7 21 rfl rfl)
theorem dX2_opItem_187 : decode cX2_opItem 187 = .ok (.invokevirtual 506, 3) := dk_182 1 250 (dk_at dksX2_opItem_8 0 rfl rfl)
theorem dX2_opItem_190 : decode cX2_opItem 190 = .ok (.iastore, 1) := dk_79 (dk_at dksX2_opItem_8 3 rfl rfl)
theorem dX2_opItem_191 : decode cX2_opItem 191 = .ok (.aload_n 0, 1) := dk_42 (dk_at dksX2_opItem_8 4 rfl rfl)
theorem dX2_opItem_192 : decode cX2_opItem 192 = .ok (.getfield 83, 3) := dk_180 0 83 (dk_at dksX2_opItem_8 5 rfl rfl)
theorem dX2_opItem_195 : decode cX2_opItem 195 = .ok (.iload_n 1, 1) := dk_27 (dk_at dksX2_opItem_8 8 rfl rfl)
theorem dX2_opItem_196 : decode cX2_opItem 196 = .ok (.iconst 0, 1) := dk_3 (dk_at dksX2_opItem_8 9 rfl rfl)
theorem dX2_opItem_197 : decode cX2_opItem 197 = .ok (.bastore, 1) := dk_84 (dk_at dksX2_opItem_8 10 rfl rfl)
theorem dX2_opItem_198 : decode cX2_opItem 198 = .ok (.aload_n 0, 1) := dk_42 (dk_at dksX2_opItem_8 11 rfl rfl)
theorem dX2_opItem_199 : decode cX2_opItem 199 = .ok (.getfield 87, 3) := dk_180 0 87 (dk_at dksX2_opItem_8 12 rfl rfl)
theorem dX2_opItem_202 : decode cX2_opItem 202 = .ok (.iload_n 1, 1) := dk_27 (dk_at dksX2_opItem_8 15 rfl rfl)
theorem dX2_opItem_203 : decode cX2_opItem 203 = .ok (.iconst 0, 1) := dk_3 (dk_at dksX2_opItem_8 16 rfl rfl)
theorem dX2_opItem_204 : decode cX2_opItem 204 = .ok (.bastore, 1) := dk_84 (dk_at dksX2_opItem_8 17 rfl rfl)
theorem dX2_opItem_205 : decode cX2_opItem 205 = .ok (.aload_n 0, 1) := dk_42 (dk_at dksX2_opItem_8 18 rfl rfl)
theorem dX2_opItem_206 : decode cX2_opItem 206 = .ok (.getfield 90, 3) := dk_180 0 90 (dk_at dksX2_opItem_8 19 rfl rfl)
theorem dX2_opItem_209 : decode cX2_opItem 209 = .ok (.iload_n 1, 1) := dk_27 (dk_at dksX2_opItem_8 22 rfl rfl)
theorem dX2_opItem_210 : decode cX2_opItem 210 = .ok (.bipush (-2), 2) := dk_16 254 (dk_at dksX2_opItem_9 0 rfl rfl)
theorem dX2_opItem_212 : decode cX2_opItem 212 = .ok (.iastore, 1) := dk_79 (dk_at dksX2_opItem_9 2 rfl rfl)
theorem dX2_opItem_213 : decode cX2_opItem 213 = .ok (.aload_n 0, 1) := dk_42 (dk_at dksX2_opItem_9 3 rfl rfl)
theorem dX2_opItem_214 : decode cX2_opItem 214 = .ok (.getfield 93, 3) := dk_180 0 93 (dk_at dksX2_opItem_9 4 rfl rfl)
theorem dX2_opItem_217 : decode cX2_opItem 217 = .ok (.iload_n 1, 1) := dk_27 (dk_at dksX2_opItem_9 7 rfl rfl)
theorem dX2_opItem_218 : decode cX2_opItem 218 = .ok (.bipush (-2), 2) := dk_16 254 (dk_at dksX2_opItem_9 8 rfl rfl)
theorem dX2_opItem_220 : decode cX2_opItem 220 = .ok (.iastore, 1) := dk_79 (dk_at dksX2_opItem_9 10 rfl rfl)
theorem dX2_opItem_221 : decode cX2_opItem 221 = .ok (.aload_n 0, 1) := dk_42 (dk_at dksX2_opItem_9 11 rfl rfl)
theorem dX2_opItem_222 : decode cX2_opItem 222 = .ok (.getfield 96, 3) := dk_180 0 96 (dk_at dksX2_opItem_9 12 rfl rfl)
theorem dX2_opItem_225 : decode cX2_opItem 225 = .ok (.iload_n 1, 1) := dk_27 (dk_at dksX2_opItem_9 15 rfl rfl)
theorem dX2_opItem_226 : decode cX2_opItem 226 = .ok (.bipush (-2), 2) := dk_16 254 (dk_at dksX2_opItem_9 16 rfl rfl)
theorem dX2_opItem_228 : decode cX2_opItem 228 = .ok (.iastore, 1) := dk_79 (dk_at dksX2_opItem_9 18 rfl rfl)
theorem dX2_opItem_229 : decode cX2_opItem 229 = .ok (.aload_n 0, 1) := dk_42 (dk_at dksX2_opItem_9 19 rfl rfl)
theorem dX2_opItem_230 : decode cX2_opItem 230 = .ok (.getfield 102, 3) := dk_180 0 102 (dk_at dksX2_opItem_9 20 rfl rfl)
theorem dX2_opItem_233 : decode cX2_opItem 233 = .ok (.iload_n 1, 1) := dk_27 (dk_at dksX2_opItem_9 23 rfl rfl)
theorem dX2_opItem_234 : decode cX2_opItem 234 = .ok (.iconst 0, 1) := dk_3 (dk_at dksX2_opItem_10 0 rfl rfl)
theorem dX2_opItem_235 : decode cX2_opItem 235 = .ok (.bastore, 1) := dk_84 (dk_at dksX2_opItem_10 1 rfl rfl)
theorem dX2_opItem_236 : decode cX2_opItem 236 = .ok (.aload_n 0, 1) := dk_42 (dk_at dksX2_opItem_10 2 rfl rfl)
theorem dX2_opItem_237 : decode cX2_opItem 237 = .ok (.ldc_w 541, 3) := dk_19 2 29 (dk_at dksX2_opItem_10 3 rfl rfl)
theorem dX2_opItem_240 : decode cX2_opItem 240 = .ok (.invokevirtual 478, 3) := dk_182 1 222 (dk_at dksX2_opItem_10 6 rfl rfl)
theorem dX2_opItem_243 : decode cX2_opItem 243 = .ok (.ifCond .eq 34, 3) := dk_153 0 34 (dk_at dksX2_opItem_10 9 rfl rfl)
theorem dX2_opItem_246 : decode cX2_opItem 246 = .ok (.aload_n 0, 1) := dk_42 (dk_at dksX2_opItem_10 12 rfl rfl)
theorem dX2_opItem_247 : decode cX2_opItem 247 = .ok (.invokevirtual 482, 3) := dk_182 1 226 (dk_at dksX2_opItem_10 13 rfl rfl)
theorem dX2_opItem_250 : decode cX2_opItem 250 = .ok (.aload_n 0, 1) := dk_42 (dk_at dksX2_opItem_10 16 rfl rfl)
theorem dX2_opItem_251 : decode cX2_opItem 251 = .ok (.iload_n 1, 1) := dk_27 (dk_at dksX2_opItem_10 17 rfl rfl)
theorem dX2_opItem_252 : decode cX2_opItem 252 = .ok (.invokevirtual 543, 3) := dk_182 2 31 (dk_at dksX2_opItem_10 18 rfl rfl)
theorem dX2_opItem_255 : decode cX2_opItem 255 = .ok (.aload_n 0, 1) := dk_42 (dk_at dksX2_opItem_10 21 rfl rfl)
theorem dX2_opItem_256 : decode cX2_opItem 256 = .ok (.ldc_w 546, 3) := dk_19 2 34 (dk_at dksX2_opItem_11 0 rfl rfl)
theorem dX2_opItem_259 : decode cX2_opItem 259 = .ok (.invokevirtual 478, 3) := dk_182 1 222 (dk_at dksX2_opItem_11 3 rfl rfl)
theorem dX2_opItem_262 : decode cX2_opItem 262 = .ok (.ifCond .ne 11, 3) := dk_154 0 11 (dk_at dksX2_opItem_11 6 rfl rfl)
theorem dX2_opItem_265 : decode cX2_opItem 265 = .ok (.aload_n 0, 1) := dk_42 (dk_at dksX2_opItem_11 9 rfl rfl)
theorem dX2_opItem_266 : decode cX2_opItem 266 = .ok (.iload_n 1, 1) := dk_27 (dk_at dksX2_opItem_11 10 rfl rfl)
theorem dX2_opItem_267 : decode cX2_opItem 267 = .ok (.invokevirtual 543, 3) := dk_182 2 31 (dk_at dksX2_opItem_11 11 rfl rfl)
theorem dX2_opItem_270 : decode cX2_opItem 270 = .ok (.goto (-15), 3) := dk_167 255 241 (dk_at dksX2_opItem_11 14 rfl rfl)
theorem dX2_opItem_273 : decode cX2_opItem 273 = .ok (.aload_n 0, 1) := dk_42 (dk_at dksX2_opItem_11 17 rfl rfl)
theorem dX2_opItem_274 : decode cX2_opItem 274 = .ok (.invokevirtual 482, 3) := dk_182 1 226 (dk_at dksX2_opItem_11 18 rfl rfl)
theorem dX2_opItem_277 : decode cX2_opItem 277 = .ok (.aload_n 0, 1) := dk_42 (dk_at dksX2_opItem_11 21 rfl rfl)
theorem dX2_opItem_278 : decode cX2_opItem 278 = .ok (.ldc_w 456, 3) := dk_19 1 200 (dk_at dksX2_opItem_12 0 rfl rfl)
theorem dX2_opItem_281 : decode cX2_opItem 281 = .ok (.invokevirtual 502, 3) := dk_182 1 246 (dk_at dksX2_opItem_12 3 rfl rfl)
theorem dX2_opItem_284 : decode cX2_opItem 284 = .ok (.aload_n 0, 1) := dk_42 (dk_at dksX2_opItem_12 6 rfl rfl)
theorem dX2_opItem_285 : decode cX2_opItem 285 = .ok (.dup, 1) := dk_89 (dk_at dksX2_opItem_12 7 rfl rfl)
theorem dX2_opItem_286 : decode cX2_opItem 286 = .ok (.getfield 538, 3) := dk_180 2 26 (dk_at dksX2_opItem_12 8 rfl rfl)
theorem dX2_opItem_289 : decode cX2_opItem 289 = .ok (.iconst 1, 1) := dk_4 (dk_at dksX2_opItem_12 11 rfl rfl)
theorem dX2_opItem_290 : decode cX2_opItem 290 = .ok (.iadd, 1) := dk_96 (dk_at dksX2_opItem_12 12 rfl rfl)
theorem dX2_opItem_291 : decode cX2_opItem 291 = .ok (.putfield 538, 3) := dk_181 2 26 (dk_at dksX2_opItem_12 13 rfl rfl)
theorem dX2_opItem_294 : decode cX2_opItem 294 = .ok (.return_, 1) := dk_177 (dk_at dksX2_opItem_12 16 rfl rfl)
abbrev cX2_attribute : ByteArray := prog_4_method_32_code
def yX2_attribute : MethodName := ⟨RX2, "attribute", "(I)V"⟩
def dkwX2_attribute_15 : List UInt8 := [182, 1, 219, 182, 1, 178, 177]
abbrev dktX2_attribute_15 : List UInt8 := dkwX2_attribute_15 ++ []
def dkwX2_attribute_14 : List UInt8 := [182, 1, 163, 79, 42, 180, 0, 96, 27, 92, 46, 4, 96, 79, 42, 182, 1, 226, 167, 255, 177, 42, 4, 42]
abbrev dktX2_attribute_14 : List UInt8 := dkwX2_attribute_14 ++ dktX2_attribute_15
def dkwX2_attribute_13 : List UInt8 := [162, 0, 27, 42, 180, 0, 99, 16, 20, 27, 104, 42, 180, 0, 96, 27, 46, 96, 42, 42, 182, 1, 219]
abbrev dktX2_attribute_13 : List UInt8 := dkwX2_attribute_13 ++ dktX2_attribute_14
def dkwX2_attribute_12 : List UInt8 := [182, 1, 222, 154, 0, 13, 42, 19, 2, 53, 182, 1, 222, 153, 0, 64, 42, 180, 0, 96, 27, 46, 16, 20]
abbrev dktX2_attribute_12 : List UInt8 := dkwX2_attribute_12 ++ dktX2_attribute_13
def dkwX2_attribute_11 : List UInt8 := [182, 1, 226, 42, 180, 0, 96, 27, 3, 79, 42, 19, 2, 49, 182, 1, 222, 154, 0, 23, 42, 19, 2, 51]
abbrev dktX2_attribute_11 : List UInt8 := dkwX2_attribute_11 ++ dktX2_attribute_12
def dkwX2_attribute_10 : List UInt8 := [180, 0, 102, 27, 51, 154, 0, 12, 42, 180, 0, 96, 27, 46, 155, 0, 7, 4, 167, 0, 4, 3, 84, 42]
abbrev dktX2_attribute_10 : List UInt8 := dkwX2_attribute_10 ++ dktX2_attribute_11
def dkwX2_attribute_9 : List UInt8 := [182, 2, 44, 79, 167, 0, 144, 42, 19, 2, 47, 182, 1, 222, 153, 0, 125, 42, 180, 0, 102, 27, 42]
abbrev dktX2_attribute_9 : List UInt8 := dkwX2_attribute_9 ++ dktX2_attribute_10
def dkwX2_attribute_8 : List UInt8 := [180, 0, 93, 27, 46, 155, 0, 7, 4, 167, 0, 4, 3, 84, 42, 182, 1, 226, 42, 180, 0, 93, 27, 42]
abbrev dktX2_attribute_8 : List UInt8 := dkwX2_attribute_8 ++ dktX2_attribute_9
def dkwX2_attribute_7 : List UInt8 := [19, 2, 42, 182, 1, 222, 153, 0, 49, 42, 180, 0, 102, 27, 42, 180, 0, 102, 27, 51, 154, 0, 12, 42]
abbrev dktX2_attribute_7 : List UInt8 := dkwX2_attribute_7 ++ dktX2_attribute_8
def dkwX2_attribute_6 : List UInt8 := [167, 0, 4, 3, 84, 42, 182, 1, 226, 42, 180, 0, 90, 27, 42, 182, 1, 250, 79, 167, 0, 200, 42]
abbrev dktX2_attribute_6 : List UInt8 := dkwX2_attribute_6 ++ dktX2_attribute_7
def dkwX2_attribute_5 : List UInt8 := [180, 0, 102, 27, 42, 180, 0, 102, 27, 51, 154, 0, 12, 42, 180, 0, 90, 27, 46, 155, 0, 7, 4]
abbrev dktX2_attribute_5 : List UInt8 := dkwX2_attribute_5 ++ dktX2_attribute_6
def dkwX2_attribute_4 : List UInt8 := [180, 0, 87, 27, 4, 84, 42, 182, 1, 226, 167, 1, 0, 42, 19, 2, 40, 182, 1, 222, 153, 0, 49, 42]
abbrev dktX2_attribute_4 : List UInt8 := dkwX2_attribute_4 ++ dktX2_attribute_5
def dkwX2_attribute_3 : List UInt8 := [180, 0, 102, 27, 51, 154, 0, 12, 42, 180, 0, 87, 27, 51, 153, 0, 7, 4, 167, 0, 4, 3, 84, 42]
abbrev dktX2_attribute_3 : List UInt8 := dkwX2_attribute_3 ++ dktX2_attribute_4
def dkwX2_attribute_2 : List UInt8 := [182, 1, 226, 167, 1, 53, 42, 19, 2, 38, 182, 1, 222, 153, 0, 46, 42, 180, 0, 102, 27, 42]
abbrev dktX2_attribute_2 : List UInt8 := dkwX2_attribute_2 ++ dktX2_attribute_3
def dkwX2_attribute_1 : List UInt8 := [42, 180, 0, 83, 27, 51, 153, 0, 7, 4, 167, 0, 4, 3, 84, 42, 180, 0, 83, 27, 4, 84, 42]
abbrev dktX2_attribute_1 : List UInt8 := dkwX2_attribute_1 ++ dktX2_attribute_2
def dkwX2_attribute_0 : List UInt8 := [42, 19, 2, 36, 182, 1, 222, 153, 0, 46, 42, 180, 0, 102, 27, 42, 180, 0, 102, 27, 51, 154, 0, 12]
abbrev dktX2_attribute_0 : List UInt8 := dkwX2_attribute_0 ++ dktX2_attribute_1
theorem dksX2_attribute_0 : cX2_attribute.data.toList.drop 0 = dktX2_attribute_0 := by decide +kernel
theorem dksX2_attribute_1 : cX2_attribute.data.toList.drop 24 = dktX2_attribute_1 := dk_seg dksX2_attribute_0 24 rfl rfl
theorem dksX2_attribute_2 : cX2_attribute.data.toList.drop 47 = dktX2_attribute_2 := dk_seg dksX2_attribute_1 23 rfl rfl
theorem dksX2_attribute_3 : cX2_attribute.data.toList.drop 69 = dktX2_attribute_3 := dk_seg dksX2_attribute_2 22 rfl rfl
theorem dksX2_attribute_4 : cX2_attribute.data.toList.drop 93 = dktX2_attribute_4 := dk_seg dksX2_attribute_3 24 rfl rfl
theorem dksX2_attribute_5 : cX2_attribute.data.toList.drop 117 = dktX2_attribute_5 := dk_seg dksX2_attribute_4 24 rfl rfl
theorem dksX2_attribute_6 : cX2_attribute.data.toList.drop 140 = dktX2_attribute_6 := dk_seg dksX2_attribute_5 23 rfl rfl
theorem dksX2_attribute_7 : cX2_attribute.data.toList.drop 163 = dktX2_attribute_7 := dk_seg dksX2_attribute_6 23 rfl rfl
theorem dksX2_attribute_8 : cX2_attribute.data.toList.drop 187 = dktX2_attribute_8 := dk_seg dksX2_attribute_7 24 rfl rfl
theorem dksX2_attribute_9 : cX2_attribute.data.toList.drop 211 = dktX2_attribute_9 := dk_seg dksX2_attribute_8 24 rfl rfl
theorem dksX2_attribute_10 : cX2_attribute.data.toList.drop 234 = dktX2_attribute_10 := dk_seg dksX2_attribute_9 23 rfl rfl
theorem dksX2_attribute_11 : cX2_attribute.data.toList.drop 258 = dktX2_attribute_11 := dk_seg dksX2_attribute_10 24 rfl rfl
theorem dksX2_attribute_12 : cX2_attribute.data.toList.drop 282 = dktX2_attribute_12 := dk_seg dksX2_attribute_11 24 rfl rfl
theorem dksX2_attribute_13 : cX2_attribute.data.toList.drop 306 = dktX2_attribute_13 := dk_seg dksX2_attribute_12 24 rfl rfl
theorem dksX2_attribute_14 : cX2_attribute.data.toList.drop 329 = dktX2_attribute_14 := dk_seg dksX2_attribute_13 23 rfl rfl
theorem dksX2_attribute_15 : cX2_attribute.data.toList.drop 353 = dktX2_attribute_15 := dk_seg dksX2_attribute_14 24 rfl rfl
theorem dX2_attribute_0 : decode cX2_attribute 0 = .ok (.aload_n 0, 1) := dk_42 (dk_at dksX2_attribute_0 0 rfl rfl)
theorem dX2_attribute_1 : decode cX2_attribute 1 = .ok (.ldc_w 548, 3) := dk_19 2 36 (dk_at dksX2_attribute_0 1 rfl rfl)
theorem dX2_attribute_4 : decode cX2_attribute 4 = .ok (.invokevirtual 478, 3) := dk_182 1 222 (dk_at dksX2_attribute_0 4 rfl rfl)
theorem dX2_attribute_7 : decode cX2_attribute 7 = .ok (.ifCond .eq 46, 3) := dk_153 0 46 (dk_at dksX2_attribute_0 7 rfl rfl)
theorem dX2_attribute_10 : decode cX2_attribute 10 = .ok (.aload_n 0, 1) := dk_42 (dk_at dksX2_attribute_0 10 rfl rfl)
theorem dX2_attribute_11 : decode cX2_attribute 11 = .ok (.getfield 102, 3) := dk_180 0 102 (dk_at dksX2_attribute_0 11 rfl rfl)
theorem dX2_attribute_14 : decode cX2_attribute 14 = .ok (.iload_n 1, 1) := dk_27 (dk_at dksX2_attribute_0 14 rfl rfl)
theorem dX2_attribute_15 : decode cX2_attribute 15 = .ok (.aload_n 0, 1) := dk_42 (dk_at dksX2_attribute_0 15 rfl rfl)
theorem dX2_attribute_16 : decode cX2_attribute 16 = .ok (.getfield 102, 3) := dk_180 0 102 (dk_at dksX2_attribute_0 16 rfl rfl)
theorem dX2_attribute_19 : decode cX2_attribute 19 = .ok (.iload_n 1, 1) := dk_27 (dk_at dksX2_attribute_0 19 rfl rfl)
theorem dX2_attribute_20 : decode cX2_attribute 20 = .ok (.baload, 1) := dk_51 (dk_at dksX2_attribute_0 20 rfl rfl)
theorem dX2_attribute_21 : decode cX2_attribute 21 = .ok (.ifCond .ne 12, 3) := dk_154 0 12 (dk_at dksX2_attribute_0 21 rfl rfl)
theorem dX2_attribute_24 : decode cX2_attribute 24 = .ok (.aload_n 0, 1) := dk_42 (dk_at dksX2_attribute_1 0 rfl rfl)
theorem dX2_attribute_25 : decode cX2_attribute 25 = .ok (.getfield 83, 3) := dk_180 0 83 (dk_at dksX2_attribute_1 1 rfl rfl)
theorem dX2_attribute_28 : decode cX2_attribute 28 = .ok (.iload_n 1, 1) := dk_27 (dk_at dksX2_attribute_1 4 rfl rfl)
theorem dX2_attribute_29 : decode cX2_attribute 29 = .ok (.baload, 1) := dk_51 (dk_at dksX2_attribute_1 5 rfl rfl)
theorem dX2_attribute_30 : decode cX2_attribute 30 = .ok (.ifCond .eq 7, 3) := dk_153 0 7 (dk_at dksX2_attribute_1 6 rfl rfl)
theorem dX2_attribute_33 : decode cX2_attribute 33 = .ok (.iconst 1, 1) := dk_4 (dk_at dksX2_attribute_1 9 rfl rfl)
theorem dX2_attribute_34 : decode cX2_attribute 34 = .ok (.goto 4, 3) := dk_167 0 4 (dk_at dksX2_attribute_1 10 rfl rfl)
theorem dX2_attribute_37 : decode cX2_attribute 37 = .ok (.iconst 0, 1) := dk_3 (dk_at dksX2_attribute_1 13 rfl rfl)
theorem dX2_attribute_38 : decode cX2_attribute 38 = .ok (.bastore, 1) := dk_84 (dk_at dksX2_attribute_1 14 rfl rfl)
theorem dX2_attribute_39 : decode cX2_attribute 39 = .ok (.aload_n 0, 1) := dk_42 (dk_at dksX2_attribute_1 15 rfl rfl)
theorem dX2_attribute_40 : decode cX2_attribute 40 = .ok (.getfield 83, 3) := dk_180 0 83 (dk_at dksX2_attribute_1 16 rfl rfl)
theorem dX2_attribute_43 : decode cX2_attribute 43 = .ok (.iload_n 1, 1) := dk_27 (dk_at dksX2_attribute_1 19 rfl rfl)
theorem dX2_attribute_44 : decode cX2_attribute 44 = .ok (.iconst 1, 1) := dk_4 (dk_at dksX2_attribute_1 20 rfl rfl)
theorem dX2_attribute_45 : decode cX2_attribute 45 = .ok (.bastore, 1) := dk_84 (dk_at dksX2_attribute_1 21 rfl rfl)
theorem dX2_attribute_46 : decode cX2_attribute 46 = .ok (.aload_n 0, 1) := dk_42 (dk_at dksX2_attribute_1 22 rfl rfl)
theorem dX2_attribute_47 : decode cX2_attribute 47 = .ok (.invokevirtual 482, 3) := dk_182 1 226 (dk_at dksX2_attribute_2 0 rfl rfl)
theorem dX2_attribute_50 : decode cX2_attribute 50 = .ok (.goto 309, 3) := dk_167 1 53 (dk_at dksX2_attribute_2 3 rfl rfl)
theorem dX2_attribute_53 : decode cX2_attribute 53 = .ok (.aload_n 0, 1) := dk_42 (dk_at dksX2_attribute_2 6 rfl rfl)
theorem dX2_attribute_54 : decode cX2_attribute 54 = .ok (.ldc_w 550, 3) := dk_19 2 38 (dk_at dksX2_attribute_2 7 rfl rfl)
theorem dX2_attribute_57 : decode cX2_attribute 57 = .ok (.invokevirtual 478, 3) := dk_182 1 222 (dk_at dksX2_attribute_2 10 rfl rfl)
theorem dX2_attribute_60 : decode cX2_attribute 60 = .ok (.ifCond .eq 46, 3) := dk_153 0 46 (dk_at dksX2_attribute_2 13 rfl rfl)
theorem dX2_attribute_63 : decode cX2_attribute 63 = .ok (.aload_n 0, 1) := dk_42 (dk_at dksX2_attribute_2 16 rfl rfl)
theorem dX2_attribute_64 : decode cX2_attribute 64 = .ok (.getfield 102, 3) := dk_180 0 102 (dk_at dksX2_attribute_2 17 rfl rfl)
theorem dX2_attribute_67 : decode cX2_attribute 67 = .ok (.iload_n 1, 1) := dk_27 (dk_at dksX2_attribute_2 20 rfl rfl)
theorem dX2_attribute_68 : decode cX2_attribute 68 = .ok (.aload_n 0, 1) := dk_42 (dk_at dksX2_attribute_2 21 rfl rfl)
theorem dX2_attribute_69 : decode cX2_attribute 69 = .ok (.getfield 102, 3) := dk_180 0 102 (dk_at dksX2_attribute_3 0 rfl rfl)
theorem dX2_attribute_72 : decode cX2_attribute 72 = .ok (.iload_n 1, 1) := dk_27 (dk_at dksX2_attribute_3 3 rfl rfl)
theorem dX2_attribute_73 : decode cX2_attribute 73 = .ok (.baload, 1) := dk_51 (dk_at dksX2_attribute_3 4 rfl rfl)
theorem dX2_attribute_74 : decode cX2_attribute 74 = .ok (.ifCond .ne 12, 3) := dk_154 0 12 (dk_at dksX2_attribute_3 5 rfl rfl)
theorem dX2_attribute_77 : decode cX2_attribute 77 = .ok (.aload_n 0, 1) := dk_42 (dk_at dksX2_attribute_3 8 rfl rfl)
theorem dX2_attribute_78 : decode cX2_attribute 78 = .ok (.getfield 87, 3) := dk_180 0 87 (dk_at dksX2_attribute_3 9 rfl rfl)
theorem dX2_attribute_81 : decode cX2_attribute 81 = .ok (.iload_n 1, 1) := dk_27 (dk_at dksX2_attribute_3 12 rfl rfl)
theorem dX2_attribute_82 : decode cX2_attribute 82 = .ok (.baload, 1) := dk_51 (dk_at dksX2_attribute_3 13 rfl rfl)
theorem dX2_attribute_83 : decode cX2_attribute 83 = .ok (.ifCond .eq 7, 3) := dk_153 0 7 (dk_at dksX2_attribute_3 14 rfl rfl)
theorem dX2_attribute_86 : decode cX2_attribute 86 = .ok (.iconst 1, 1) := dk_4 (dk_at dksX2_attribute_3 17 rfl rfl)
theorem dX2_attribute_87 : decode cX2_attribute 87 = .ok (.goto 4, 3) := dk_167 0 4 (dk_at dksX2_attribute_3 18 rfl rfl)
theorem dX2_attribute_90 : decode cX2_attribute 90 = .ok (.iconst 0, 1) := dk_3 (dk_at dksX2_attribute_3 21 rfl rfl)
theorem dX2_attribute_91 : decode cX2_attribute 91 = .ok (.bastore, 1) := dk_84 (dk_at dksX2_attribute_3 22 rfl rfl)
theorem dX2_attribute_92 : decode cX2_attribute 92 = .ok (.aload_n 0, 1) := dk_42 (dk_at dksX2_attribute_3 23 rfl rfl)
theorem dX2_attribute_93 : decode cX2_attribute 93 = .ok (.getfield 87, 3) := dk_180 0 87 (dk_at dksX2_attribute_4 0 rfl rfl)
theorem dX2_attribute_96 : decode cX2_attribute 96 = .ok (.iload_n 1, 1) := dk_27 (dk_at dksX2_attribute_4 3 rfl rfl)
theorem dX2_attribute_97 : decode cX2_attribute 97 = .ok (.iconst 1, 1) := dk_4 (dk_at dksX2_attribute_4 4 rfl rfl)
theorem dX2_attribute_98 : decode cX2_attribute 98 = .ok (.bastore, 1) := dk_84 (dk_at dksX2_attribute_4 5 rfl rfl)
theorem dX2_attribute_99 : decode cX2_attribute 99 = .ok (.aload_n 0, 1) := dk_42 (dk_at dksX2_attribute_4 6 rfl rfl)
theorem dX2_attribute_100 : decode cX2_attribute 100 = .ok (.invokevirtual 482, 3) := dk_182 1 226 (dk_at dksX2_attribute_4 7 rfl rfl)
theorem dX2_attribute_103 : decode cX2_attribute 103 = .ok (.goto 256, 3) := dk_167 1 0 (dk_at dksX2_attribute_4 10 rfl rfl)
theorem dX2_attribute_106 : decode cX2_attribute 106 = .ok (.aload_n 0, 1) := dk_42 (dk_at dksX2_attribute_4 13 rfl rfl)
theorem dX2_attribute_107 : decode cX2_attribute 107 = .ok (.ldc_w 552, 3) := dk_19 2 40 (dk_at dksX2_attribute_4 14 rfl rfl)
theorem dX2_attribute_110 : decode cX2_attribute 110 = .ok (.invokevirtual 478, 3) := dk_182 1 222 (dk_at dksX2_attribute_4 17 rfl rfl)
theorem dX2_attribute_113 : decode cX2_attribute 113 = .ok (.ifCond .eq 49, 3) := dk_153 0 49 (dk_at dksX2_attribute_4 20 rfl rfl)
theorem dX2_attribute_116 : decode cX2_attribute 116 = .ok (.aload_n 0, 1) := dk_42 (dk_at dksX2_attribute_4 23 rfl rfl)
theorem dX2_attribute_117 : decode cX2_attribute 117 = .ok (.getfield 102, 3) := dk_180 0 102 (dk_at dksX2_attribute_5 0 rfl rfl)
theorem dX2_attribute_120 : decode cX2_attribute 120 = .ok (.iload_n 1, 1) := dk_27 (dk_at dksX2_attribute_5 3 rfl rfl)
theorem dX2_attribute_121 : decode cX2_attribute 121 = .ok (.aload_n 0, 1) := dk_42 (dk_at dksX2_attribute_5 4 rfl rfl)
theorem dX2_attribute_122 : decode cX2_attribute 122 = .ok (.getfield 102, 3) := dk_180 0 102 (dk_at dksX2_attribute_5 5 rfl rfl)
theorem dX2_attribute_125 : decode cX2_attribute 125 = .ok (.iload_n 1, 1) := dk_27 (dk_at dksX2_attribute_5 8 rfl rfl)
theorem dX2_attribute_126 : decode cX2_attribute 126 = .ok (.baload, 1) := dk_51 (dk_at dksX2_attribute_5 9 rfl rfl)
theorem dX2_attribute_127 : decode cX2_attribute 127 = .ok (.ifCond .ne 12, 3) := dk_154 0 12 (dk_at dksX2_attribute_5 10 rfl rfl)
theorem dX2_attribute_130 : decode cX2_attribute 130 = .ok (.aload_n 0, 1) := dk_42 (dk_at dksX2_attribute_5 13 rfl rfl)
theorem dX2_attribute_131 : decode cX2_attribute 131 = .ok (.getfield 90, 3) := dk_180 0 90 (dk_at dksX2_attribute_5 14 rfl rfl)
theorem dX2_attribute_134 : decode cX2_attribute 134 = .ok (.iload_n 1, 1) := dk_27 (dk_at dksX2_attribute_5 17 rfl rfl)
theorem dX2_attribute_135 : decode cX2_attribute 135 = .ok (.iaload, 1) := dk_46 (dk_at dksX2_attribute_5 18 rfl rfl)
theorem dX2_attribute_136 : decode cX2_attribute 136 = .ok (.ifCond .lt 7, 3) := dk_155 0 7 (dk_at dksX2_attribute_5 19 rfl rfl)
theorem dX2_attribute_139 : decode cX2_attribute 139 = .ok (.iconst 1, 1) := dk_4 (dk_at dksX2_attribute_5 22 rfl rfl)
theorem dX2_attribute_140 : decode cX2_attribute 140 = .ok (.goto 4, 3) := dk_167 0 4 (dk_at dksX2_attribute_6 0 rfl rfl)
theorem dX2_attribute_143 : decode cX2_attribute 143 = .ok (.iconst 0, 1) := dk_3 (dk_at dksX2_attribute_6 3 rfl rfl)
theorem dX2_attribute_144 : decode cX2_attribute 144 = .ok (.bastore, 1) := dk_84 (dk_at dksX2_attribute_6 4 rfl rfl)
theorem dX2_attribute_145 : decode cX2_attribute 145 = .ok (.aload_n 0, 1) := dk_42 (dk_at dksX2_attribute_6 5 rfl rfl)
theorem dX2_attribute_146 : decode cX2_attribute 146 = .ok (.invokevirtual 482, 3) := dk_182 1 226 (dk_at dksX2_attribute_6 6 rfl rfl)
theorem dX2_attribute_149 : decode cX2_attribute 149 = .ok (.aload_n 0, 1) := dk_42 (dk_at dksX2_attribute_6 9 rfl rfl)
theorem dX2_attribute_150 : decode cX2_attribute 150 = .ok (.getfield 90, 3) := dk_180 0 90 (dk_at dksX2_attribute_6 10 rfl rfl)
theorem dX2_attribute_153 : decode cX2_attribute 153 = .ok (.iload_n 1, 1) := dk_27 (dk_at dksX2_attribute_6 13 rfl rfl)
theorem dX2_attribute_154 : decode cX2_attribute 154 = .ok (.aload_n 0, 1) := dk_42 (dk_at dksX2_attribute_6 14 rfl rfl)
theorem dX2_attribute_155 : decode cX2_attribute 155 = .ok (.invokevirtual 506, 3) := dk_182 1 250 (dk_at dksX2_attribute_6 15 rfl rfl)
theorem dX2_attribute_158 : decode cX2_attribute 158 = .ok (.iastore, 1) := dk_79 (dk_at dksX2_attribute_6 18 rfl rfl)
theorem dX2_attribute_159 : decode cX2_attribute 159 = .ok (.goto 200, 3) := dk_167 0 200 (dk_at dksX2_attribute_6 19 rfl rfl)
theorem dX2_attribute_162 : decode cX2_attribute 162 = .ok (.aload_n 0, 1) := dk_42 (dk_at dksX2_attribute_6 22 rfl rfl)
theorem dX2_attribute_163 : decode cX2_attribute 163 = .ok (.ldc_w 554, 3) := dk_19 2 42 (dk_at dksX2_attribute_7 0 rfl rfl)
theorem dX2_attribute_166 : decode cX2_attribute 166 = .ok (.invokevirtual 478, 3) := dk_182 1 222 (dk_at dksX2_attribute_7 3 rfl rfl)
theorem dX2_attribute_169 : decode cX2_attribute 169 = .ok (.ifCond .eq 49, 3) := dk_153 0 49 (dk_at dksX2_attribute_7 6 rfl rfl)
theorem dX2_attribute_172 : decode cX2_attribute 172 = .ok (.aload_n 0, 1) := dk_42 (dk_at dksX2_attribute_7 9 rfl rfl)
theorem dX2_attribute_173 : decode cX2_attribute 173 = .ok (.getfield 102, 3) := dk_180 0 102 (dk_at dksX2_attribute_7 10 rfl rfl)
theorem dX2_attribute_176 : decode cX2_attribute 176 = .ok (.iload_n 1, 1) := dk_27 (dk_at dksX2_attribute_7 13 rfl rfl)
theorem dX2_attribute_177 : decode cX2_attribute 177 = .ok (.aload_n 0, 1) := dk_42 (dk_at dksX2_attribute_7 14 rfl rfl)
theorem dX2_attribute_178 : decode cX2_attribute 178 = .ok (.getfield 102, 3) := dk_180 0 102 (dk_at dksX2_attribute_7 15 rfl rfl)
theorem dX2_attribute_181 : decode cX2_attribute 181 = .ok (.iload_n 1, 1) := dk_27 (dk_at dksX2_attribute_7 18 rfl rfl)
theorem dX2_attribute_182 : decode cX2_attribute 182 = .ok (.baload, 1) := dk_51 (dk_at dksX2_attribute_7 19 rfl rfl)
theorem dX2_attribute_183 : decode cX2_attribute 183 = .ok (.ifCond .ne 12, 3) := dk_154 0 12 (dk_at dksX2_attribute_7 20 rfl rfl)
theorem dX2_attribute_186 : decode cX2_attribute 186 = .ok (.aload_n 0, 1) := dk_42 (dk_at dksX2_attribute_7 23 rfl rfl)
theorem dX2_attribute_187 : decode cX2_attribute 187 = .ok (.getfield 93, 3) := dk_180 0 93 (dk_at dksX2_attribute_8 0 rfl rfl)
theorem dX2_attribute_190 : decode cX2_attribute 190 = .ok (.iload_n 1, 1) := dk_27 (dk_at dksX2_attribute_8 3 rfl rfl)
theorem dX2_attribute_191 : decode cX2_attribute 191 = .ok (.iaload, 1) := dk_46 (dk_at dksX2_attribute_8 4 rfl rfl)
theorem dX2_attribute_192 : decode cX2_attribute 192 = .ok (.ifCond .lt 7, 3) := dk_155 0 7 (dk_at dksX2_attribute_8 5 rfl rfl)
theorem dX2_attribute_195 : decode cX2_attribute 195 = .ok (.iconst 1, 1) := dk_4 (dk_at dksX2_attribute_8 8 rfl rfl)
theorem dX2_attribute_196 : decode cX2_attribute 196 = .ok (.goto 4, 3) := dk_167 0 4 (dk_at dksX2_attribute_8 9 rfl rfl)
theorem dX2_attribute_199 : decode cX2_attribute 199 = .ok (.iconst 0, 1) := dk_3 (dk_at dksX2_attribute_8 12 rfl rfl)
theorem dX2_attribute_200 : decode cX2_attribute 200 = .ok (.bastore, 1) := dk_84 (dk_at dksX2_attribute_8 13 rfl rfl)
theorem dX2_attribute_201 : decode cX2_attribute 201 = .ok (.aload_n 0, 1) := dk_42 (dk_at dksX2_attribute_8 14 rfl rfl)
theorem dX2_attribute_202 : decode cX2_attribute 202 = .ok (.invokevirtual 482, 3) := dk_182 1 226 (dk_at dksX2_attribute_8 15 rfl rfl)
theorem dX2_attribute_205 : decode cX2_attribute 205 = .ok (.aload_n 0, 1) := dk_42 (dk_at dksX2_attribute_8 18 rfl rfl)
theorem dX2_attribute_206 : decode cX2_attribute 206 = .ok (.getfield 93, 3) := dk_180 0 93 (dk_at dksX2_attribute_8 19 rfl rfl)
theorem dX2_attribute_209 : decode cX2_attribute 209 = .ok (.iload_n 1, 1) := dk_27 (dk_at dksX2_attribute_8 22 rfl rfl)
theorem dX2_attribute_210 : decode cX2_attribute 210 = .ok (.aload_n 0, 1) := dk_42 (dk_at dksX2_attribute_8 23 rfl rfl)
theorem dX2_attribute_211 : decode cX2_attribute 211 = .ok (.invokevirtual 556, 3) := dk_182 2 44 (dk_at dksX2_attribute_9 0 rfl rfl)
theorem dX2_attribute_214 : decode cX2_attribute 214 = .ok (.iastore, 1) := dk_79 (dk_at dksX2_attribute_9 3 rfl rfl)
theorem dX2_attribute_215 : decode cX2_attribute 215 = .ok (.goto 144, 3) := dk_167 0 144 (dk_at dksX2_attribute_9 4 rfl rfl)
theorem dX2_attribute_218 : decode cX2_attribute 218 = .ok (.aload_n 0, 1) := dk_42 (dk_at dksX2_attribute_9 7 rfl rfl)
theorem dX2_attribute_219 : decode cX2_attribute 219 = .ok (.ldc_w 559, 3) := dk_19 2 47 (dk_at dksX2_attribute_9 8 rfl rfl)
theorem dX2_attribute_222 : decode cX2_attribute 222 = .ok (.invokevirtual 478, 3) := dk_182 1 222 (dk_at dksX2_attribute_9 11 rfl rfl)
theorem dX2_attribute_225 : decode cX2_attribute 225 = .ok (.ifCond .eq 125, 3) := dk_153 0 125 (dk_at dksX2_attribute_9 14 rfl rfl)
theorem dX2_attribute_228 : decode cX2_attribute 228 = .ok (.aload_n 0, 1) := dk_42 (dk_at dksX2_attribute_9 17 rfl rfl)
theorem dX2_attribute_229 : decode cX2_attribute 229 = .ok (.getfield 102, 3) := dk_180 0 102 (dk_at dksX2_attribute_9 18 rfl rfl)
theorem dX2_attribute_232 : decode cX2_attribute 232 = .ok (.iload_n 1, 1) := dk_27 (dk_at dksX2_attribute_9 21 rfl rfl)
theorem dX2_attribute_233 : decode cX2_attribute 233 = .ok (.aload_n 0, 1) := dk_42 (dk_at dksX2_attribute_9 22 rfl rfl)
theorem dX2_attribute_234 : decode cX2_attribute 234 = .ok (.getfield 102, 3) := dk_180 0 102 (dk_at dksX2_attribute_10 0 rfl rfl)
theorem dX2_attribute_237 : decode cX2_attribute 237 = .ok (.iload_n 1, 1) := dk_27 (dk_at dksX2_attribute_10 3 rfl rfl)
theorem dX2_attribute_238 : decode cX2_attribute 238 = .ok (.baload, 1) := dk_51 (dk_at dksX2_attribute_10 4 rfl rfl)
theorem dX2_attribute_239 : decode cX2_attribute 239 = .ok (.ifCond .ne 12, 3) := dk_154 0 12 (dk_at dksX2_attribute_10 5 rfl rfl)
theorem dX2_attribute_242 : decode cX2_attribute 242 = .ok (.aload_n 0, 1) := dk_42 (dk_at dksX2_attribute_10 8 rfl rfl)
theorem dX2_attribute_243 : decode cX2_attribute 243 = .ok (.getfield 96, 3) := dk_180 0 96 (dk_at dksX2_attribute_10 9 rfl rfl)
theorem dX2_attribute_246 : decode cX2_attribute 246 = .ok (.iload_n 1, 1) := dk_27 (dk_at dksX2_attribute_10 12 rfl rfl)
theorem dX2_attribute_247 : decode cX2_attribute 247 = .ok (.iaload, 1) := dk_46 (dk_at dksX2_attribute_10 13 rfl rfl)
theorem dX2_attribute_248 : decode cX2_attribute 248 = .ok (.ifCond .lt 7, 3) := dk_155 0 7 (dk_at dksX2_attribute_10 14 rfl rfl)
theorem dX2_attribute_251 : decode cX2_attribute 251 = .ok (.iconst 1, 1) := dk_4 (dk_at dksX2_attribute_10 17 rfl rfl)
theorem dX2_attribute_252 : decode cX2_attribute 252 = .ok (.goto 4, 3) := dk_167 0 4 (dk_at dksX2_attribute_10 18 rfl rfl)
theorem dX2_attribute_255 : decode cX2_attribute 255 = .ok (.iconst 0, 1) := dk_3 (dk_at dksX2_attribute_10 21 rfl rfl)
theorem dX2_attribute_256 : decode cX2_attribute 256 = .ok (.bastore, 1) := dk_84 (dk_at dksX2_attribute_10 22 rfl rfl)
theorem dX2_attribute_257 : decode cX2_attribute 257 = .ok (.aload_n 0, 1) := dk_42 (dk_at dksX2_attribute_10 23 rfl rfl)
theorem dX2_attribute_258 : decode cX2_attribute 258 = .ok (.invokevirtual 482, 3) := dk_182 1 226 (dk_at dksX2_attribute_11 0 rfl rfl)
theorem dX2_attribute_261 : decode cX2_attribute 261 = .ok (.aload_n 0, 1) := dk_42 (dk_at dksX2_attribute_11 3 rfl rfl)
theorem dX2_attribute_262 : decode cX2_attribute 262 = .ok (.getfield 96, 3) := dk_180 0 96 (dk_at dksX2_attribute_11 4 rfl rfl)
theorem dX2_attribute_265 : decode cX2_attribute 265 = .ok (.iload_n 1, 1) := dk_27 (dk_at dksX2_attribute_11 7 rfl rfl)
theorem dX2_attribute_266 : decode cX2_attribute 266 = .ok (.iconst 0, 1) := dk_3 (dk_at dksX2_attribute_11 8 rfl rfl)
theorem dX2_attribute_267 : decode cX2_attribute 267 = .ok (.iastore, 1) := dk_79 (dk_at dksX2_attribute_11 9 rfl rfl)
theorem dX2_attribute_268 : decode cX2_attribute 268 = .ok (.aload_n 0, 1) := dk_42 (dk_at dksX2_attribute_11 10 rfl rfl)
theorem dX2_attribute_269 : decode cX2_attribute 269 = .ok (.ldc_w 561, 3) := dk_19 2 49 (dk_at dksX2_attribute_11 11 rfl rfl)
theorem dX2_attribute_272 : decode cX2_attribute 272 = .ok (.invokevirtual 478, 3) := dk_182 1 222 (dk_at dksX2_attribute_11 14 rfl rfl)
theorem dX2_attribute_275 : decode cX2_attribute 275 = .ok (.ifCond .ne 23, 3) := dk_154 0 23 (dk_at dksX2_attribute_11 17 rfl rfl)
theorem dX2_attribute_278 : decode cX2_attribute 278 = .ok (.aload_n 0, 1) := dk_42 (dk_at dksX2_attribute_11 20 rfl rfl)
theorem dX2_attribute_279 : decode cX2_attribute 279 = .ok (.ldc_w 563, 3) := dk_19 2 51 (dk_at dksX2_attribute_11 21 rfl rfl)
theorem dX2_attribute_282 : decode cX2_attribute 282 = .ok (.invokevirtual 478, 3) := dk_182 1 222 (dk_at dksX2_attribute_12 0 rfl rfl)
theorem dX2_attribute_285 : decode cX2_attribute 285 = .ok (.ifCond .ne 13, 3) := dk_154 0 13 (dk_at dksX2_attribute_12 3 rfl rfl)
theorem dX2_attribute_288 : decode cX2_attribute 288 = .ok (.aload_n 0, 1) := dk_42 (dk_at dksX2_attribute_12 6 rfl rfl)
theorem dX2_attribute_289 : decode cX2_attribute 289 = .ok (.ldc_w 565, 3) := dk_19 2 53 (dk_at dksX2_attribute_12 7 rfl rfl)
theorem dX2_attribute_292 : decode cX2_attribute 292 = .ok (.invokevirtual 478, 3) := dk_182 1 222 (dk_at dksX2_attribute_12 10 rfl rfl)
theorem dX2_attribute_295 : decode cX2_attribute 295 = .ok (.ifCond .eq 64, 3) := dk_153 0 64 (dk_at dksX2_attribute_12 13 rfl rfl)
theorem dX2_attribute_298 : decode cX2_attribute 298 = .ok (.aload_n 0, 1) := dk_42 (dk_at dksX2_attribute_12 16 rfl rfl)
theorem dX2_attribute_299 : decode cX2_attribute 299 = .ok (.getfield 96, 3) := dk_180 0 96 (dk_at dksX2_attribute_12 17 rfl rfl)
theorem dX2_attribute_302 : decode cX2_attribute 302 = .ok (.iload_n 1, 1) := dk_27 (dk_at dksX2_attribute_12 20 rfl rfl)
theorem dX2_attribute_303 : decode cX2_attribute 303 = .ok (.iaload, 1) := dk_46 (dk_at dksX2_attribute_12 21 rfl rfl)
theorem dX2_attribute_304 : decode cX2_attribute 304 = .ok (.bipush 20, 2) := dk_16 20 (dk_at dksX2_attribute_12 22 rfl rfl)
theorem dX2_attribute_306 : decode cX2_attribute 306 = .ok (.if_icmp .ge 27, 3) := dk_162 0 27 (dk_at dksX2_attribute_13 0 rfl rfl)
theorem dX2_attribute_309 : decode cX2_attribute 309 = .ok (.aload_n 0, 1) := dk_42 (dk_at dksX2_attribute_13 3 rfl rfl)
theorem dX2_attribute_310 : decode cX2_attribute 310 = .ok (.getfield 99, 3) := dk_180 0 99 (dk_at dksX2_attribute_13 4 rfl rfl)
theorem dX2_attribute_313 : decode cX2_attribute 313 = .ok (.bipush 20, 2) := dk_16 20 (dk_at dksX2_attribute_13 7 rfl rfl)
theorem dX2_attribute_315 : decode cX2_attribute 315 = .ok (.iload_n 1, 1) := dk_27 (dk_at dksX2_attribute_13 9 rfl rfl)
theorem dX2_attribute_316 : decode cX2_attribute 316 = .ok (.imul, 1) := dk_104 (dk_at dksX2_attribute_13 10 rfl rfl)
theorem dX2_attribute_317 : decode cX2_attribute 317 = .ok (.aload_n 0, 1) := dk_42 (dk_at dksX2_attribute_13 11 rfl rfl)
theorem dX2_attribute_318 : decode cX2_attribute 318 = .ok (.getfield 96, 3) := dk_180 0 96 (dk_at dksX2_attribute_13 12 rfl rfl)
theorem dX2_attribute_321 : decode cX2_attribute 321 = .ok (.iload_n 1, 1) := dk_27 (dk_at dksX2_attribute_13 15 rfl rfl)
theorem dX2_attribute_322 : decode cX2_attribute 322 = .ok (.iaload, 1) := dk_46 (dk_at dksX2_attribute_13 16 rfl rfl)
theorem dX2_attribute_323 : decode cX2_attribute 323 = .ok (.iadd, 1) := dk_96 (dk_at dksX2_attribute_13 17 rfl rfl)
theorem dX2_attribute_324 : decode cX2_attribute 324 = .ok (.aload_n 0, 1) := dk_42 (dk_at dksX2_attribute_13 18 rfl rfl)
theorem dX2_attribute_325 : decode cX2_attribute 325 = .ok (.aload_n 0, 1) := dk_42 (dk_at dksX2_attribute_13 19 rfl rfl)
theorem dX2_attribute_326 : decode cX2_attribute 326 = .ok (.invokevirtual 475, 3) := dk_182 1 219 (dk_at dksX2_attribute_13 20 rfl rfl)
theorem dX2_attribute_329 : decode cX2_attribute 329 = .ok (.invokevirtual 419, 3) := dk_182 1 163 (dk_at dksX2_attribute_14 0 rfl rfl)
theorem dX2_attribute_332 : decode cX2_attribute 332 = .ok (.iastore, 1) := dk_79 (dk_at dksX2_attribute_14 3 rfl rfl)
theorem dX2_attribute_333 : decode cX2_attribute 333 = .ok (.aload_n 0, 1) := dk_42 (dk_at dksX2_attribute_14 4 rfl rfl)
theorem dX2_attribute_334 : decode cX2_attribute 334 = .ok (.getfield 96, 3) := dk_180 0 96 (dk_at dksX2_attribute_14 5 rfl rfl)
theorem dX2_attribute_337 : decode cX2_attribute 337 = .ok (.iload_n 1, 1) := dk_27 (dk_at dksX2_attribute_14 8 rfl rfl)
theorem dX2_attribute_338 : decode cX2_attribute 338 = .ok (.dup2, 1) := dk_92 (dk_at dksX2_attribute_14 9 rfl rfl)
theorem dX2_attribute_339 : decode cX2_attribute 339 = .ok (.iaload, 1) := dk_46 (dk_at dksX2_attribute_14 10 rfl rfl)
theorem dX2_attribute_340 : decode cX2_attribute 340 = .ok (.iconst 1, 1) := dk_4 (dk_at dksX2_attribute_14 11 rfl rfl)
theorem dX2_attribute_341 : decode cX2_attribute 341 = .ok (.iadd, 1) := dk_96 (dk_at dksX2_attribute_14 12 rfl rfl)
theorem dX2_attribute_342 : decode cX2_attribute 342 = .ok (.iastore, 1) := dk_79 (dk_at dksX2_attribute_14 13 rfl rfl)
theorem dX2_attribute_343 : decode cX2_attribute 343 = .ok (.aload_n 0, 1) := dk_42 (dk_at dksX2_attribute_14 14 rfl rfl)
theorem dX2_attribute_344 : decode cX2_attribute 344 = .ok (.invokevirtual 482, 3) := dk_182 1 226 (dk_at dksX2_attribute_14 15 rfl rfl)
theorem dX2_attribute_347 : decode cX2_attribute 347 = .ok (.goto (-79), 3) := dk_167 255 177 (dk_at dksX2_attribute_14 18 rfl rfl)
theorem dX2_attribute_350 : decode cX2_attribute 350 = .ok (.aload_n 0, 1) := dk_42 (dk_at dksX2_attribute_14 21 rfl rfl)
theorem dX2_attribute_351 : decode cX2_attribute 351 = .ok (.iconst 1, 1) := dk_4 (dk_at dksX2_attribute_14 22 rfl rfl)
theorem dX2_attribute_352 : decode cX2_attribute 352 = .ok (.aload_n 0, 1) := dk_42 (dk_at dksX2_attribute_14 23 rfl rfl)
theorem dX2_attribute_353 : decode cX2_attribute 353 = .ok (.invokevirtual 475, 3) := dk_182 1 219 (dk_at dksX2_attribute_15 0 rfl rfl)
theorem dX2_attribute_356 : decode cX2_attribute 356 = .ok (.invokevirtual 434, 3) := dk_182 1 178 (dk_at dksX2_attribute_15 3 rfl rfl)
theorem dX2_attribute_359 : decode cX2_attribute 359 = .ok (.return_, 1) := dk_177 (dk_at dksX2_attribute_15 6 rfl rfl)
abbrev cX2_digits : ByteArray := prog_4_method_33_code
def yX2_digits : MethodName := ⟨RX2, "digits", "()I"⟩
def dkwX2_digits_5 : List UInt8 := [172]
abbrev dktX2_digits_5 : List UInt8 := dkwX2_digits_5 ++ []
def dkwX2_digits_4 : List UInt8 := [132, 3, 1, 167, 255, 195, 28, 154, 0, 12, 42, 4, 42, 182, 1, 219, 182, 1, 178, 42, 182, 1, 226, 27]
abbrev dktX2_digits_4 : List UInt8 := dkwX2_digits_4 ++ dktX2_digits_5
def dkwX2_digits_3 : List UInt8 := [21, 4, 133, 20, 2, 57, 20, 2, 59, 184, 1, 147, 61, 16, 10, 27, 104, 21, 4, 96, 16, 48, 100, 60]
abbrev dktX2_digits_3 : List UInt8 := dkwX2_digits_3 ++ dktX2_digits_4
def dkwX2_digits_2 : List UInt8 := [180, 1, 160, 46, 162, 0, 50, 42, 42, 180, 0, 33, 42, 180, 1, 160, 46, 29, 96, 182, 1, 163, 54, 4]
abbrev dktX2_digits_2 : List UInt8 := dkwX2_digits_2 ++ dktX2_digits_3
def dkwX2_digits_1 : List UInt8 := [184, 1, 147, 153, 0, 7, 4, 167, 0, 4, 3, 61, 3, 62, 28, 153, 0, 63, 29, 42, 180, 0, 37, 42]
abbrev dktX2_digits_1 : List UInt8 := dkwX2_digits_1 ++ dktX2_digits_2
def dkwX2_digits_0 : List UInt8 := [3, 60, 42, 182, 1, 192, 154, 0, 27, 42, 180, 0, 37, 42, 180, 1, 160, 46, 133, 10, 20, 2, 55]
abbrev dktX2_digits_0 : List UInt8 := dkwX2_digits_0 ++ dktX2_digits_1
theorem dksX2_digits_0 : cX2_digits.data.toList.drop 0 = dktX2_digits_0 := by decide +kernel
theorem dksX2_digits_1 : cX2_digits.data.toList.drop 23 = dktX2_digits_1 := dk_seg dksX2_digits_0 23 rfl rfl
theorem dksX2_digits_2 : cX2_digits.data.toList.drop 47 = dktX2_digits_2 := dk_seg dksX2_digits_1 24 rfl rfl
theorem dksX2_digits_3 : cX2_digits.data.toList.drop 71 = dktX2_digits_3 := dk_seg dksX2_digits_2 24 rfl rfl
theorem dksX2_digits_4 : cX2_digits.data.toList.drop 95 = dktX2_digits_4 := dk_seg dksX2_digits_3 24 rfl rfl
theorem dksX2_digits_5 : cX2_digits.data.toList.drop 119 = dktX2_digits_5 := dk_seg dksX2_digits_4 24 rfl rfl
theorem dX2_digits_0 : decode cX2_digits 0 = .ok (.iconst 0, 1) := dk_3 (dk_at dksX2_digits_0 0 rfl rfl)
theorem dX2_digits_1 : decode cX2_digits 1 = .ok (.istore_n 1, 1) := dk_60 (dk_at dksX2_digits_0 1 rfl rfl)
theorem dX2_digits_2 : decode cX2_digits 2 = .ok (.aload_n 0, 1) := dk_42 (dk_at dksX2_digits_0 2 rfl rfl)
theorem dX2_digits_3 : decode cX2_digits 3 = .ok (.invokevirtual 448, 3) := dk_182 1 192 (dk_at dksX2_digits_0 3 rfl rfl)
theorem dX2_digits_6 : decode cX2_digits 6 = .ok (.ifCond .ne 27, 3) := dk_154 0 27 (dk_at dksX2_digits_0 6 rfl rfl)
theorem dX2_digits_9 : decode cX2_digits 9 = .ok (.aload_n 0, 1) := dk_42 (dk_at dksX2_digits_0 9 rfl rfl)
theorem dX2_digits_10 : decode cX2_digits 10 = .ok (.getfield 37, 3) := dk_180 0 37 (dk_at dksX2_digits_0 10 rfl rfl)
theorem dX2_digits_13 : decode cX2_digits 13 = .ok (.aload_n 0, 1) := dk_42 (dk_at dksX2_digits_0 13 rfl rfl)
theorem dX2_digits_14 : decode cX2_digits 14 = .ok (.getfield 416, 3) := dk_180 1 160 (dk_at dksX2_digits_0 14 rfl rfl)
theorem dX2_digits_17 : decode cX2_digits 17 = .ok (.iaload, 1) := dk_46 (dk_at dksX2_digits_0 17 rfl rfl)
theorem dX2_digits_18 : decode cX2_digits 18 = .ok (.i2l, 1) := dk_133 (dk_at dksX2_digits_0 18 rfl rfl)
theorem dX2_digits_19 : decode cX2_digits 19 = .ok (.lconst 1, 1) := dk_10 (dk_at dksX2_digits_0 19 rfl rfl)
theorem dX2_digits_20 : decode cX2_digits 20 = .ok (.ldc2_w 567, 3) := dk_20 2 55 (dk_at dksX2_digits_0 20 rfl rfl)
theorem dX2_digits_23 : decode cX2_digits 23 = .ok (.invokestatic 403, 3) := dk_184 1 147 (dk_at dksX2_digits_1 0 rfl rfl)
theorem dX2_digits_26 : decode cX2_digits 26 = .ok (.ifCond .eq 7, 3) := dk_153 0 7 (dk_at dksX2_digits_1 3 rfl rfl)
theorem dX2_digits_29 : decode cX2_digits 29 = .ok (.iconst 1, 1) := dk_4 (dk_at dksX2_digits_1 6 rfl rfl)
theorem dX2_digits_30 : decode cX2_digits 30 = .ok (.goto 4, 3) := dk_167 0 4 (dk_at dksX2_digits_1 7 rfl rfl)
theorem dX2_digits_33 : decode cX2_digits 33 = .ok (.iconst 0, 1) := dk_3 (dk_at dksX2_digits_1 10 rfl rfl)
theorem dX2_digits_34 : decode cX2_digits 34 = .ok (.istore_n 2, 1) := dk_61 (dk_at dksX2_digits_1 11 rfl rfl)
theorem dX2_digits_35 : decode cX2_digits 35 = .ok (.iconst 0, 1) := dk_3 (dk_at dksX2_digits_1 12 rfl rfl)
theorem dX2_digits_36 : decode cX2_digits 36 = .ok (.istore_n 3, 1) := dk_62 (dk_at dksX2_digits_1 13 rfl rfl)
theorem dX2_digits_37 : decode cX2_digits 37 = .ok (.iload_n 2, 1) := dk_28 (dk_at dksX2_digits_1 14 rfl rfl)
theorem dX2_digits_38 : decode cX2_digits 38 = .ok (.ifCond .eq 63, 3) := dk_153 0 63 (dk_at dksX2_digits_1 15 rfl rfl)
theorem dX2_digits_41 : decode cX2_digits 41 = .ok (.iload_n 3, 1) := dk_29 (dk_at dksX2_digits_1 18 rfl rfl)
theorem dX2_digits_42 : decode cX2_digits 42 = .ok (.aload_n 0, 1) := dk_42 (dk_at dksX2_digits_1 19 rfl rfl)
theorem dX2_digits_43 : decode cX2_digits 43 = .ok (.getfield 37, 3) := dk_180 0 37 (dk_at dksX2_digits_1 20 rfl rfl)
theorem dX2_digits_46 : decode cX2_digits 46 = .ok (.aload_n 0, 1) := dk_42 (dk_at dksX2_digits_1 23 rfl rfl)
theorem dX2_digits_47 : decode cX2_digits 47 = .ok (.getfield 416, 3) := dk_180 1 160 (dk_at dksX2_digits_2 0 rfl rfl)
theorem dX2_digits_50 : decode cX2_digits 50 = .ok (.iaload, 1) := dk_46 (dk_at dksX2_digits_2 3 rfl rfl)
theorem dX2_digits_51 : decode cX2_digits 51 = .ok (.if_icmp .ge 50, 3) := dk_162 0 50 (dk_at dksX2_digits_2 4 rfl rfl)
theorem dX2_digits_54 : decode cX2_digits 54 = .ok (.aload_n 0, 1) := dk_42 (dk_at dksX2_digits_2 7 rfl rfl)
theorem dX2_digits_55 : decode cX2_digits 55 = .ok (.aload_n 0, 1) := dk_42 (dk_at dksX2_digits_2 8 rfl rfl)
theorem dX2_digits_56 : decode cX2_digits 56 = .ok (.getfield 33, 3) := dk_180 0 33 (dk_at dksX2_digits_2 9 rfl rfl)
theorem dX2_digits_59 : decode cX2_digits 59 = .ok (.aload_n 0, 1) := dk_42 (dk_at dksX2_digits_2 12 rfl rfl)
theorem dX2_digits_60 : decode cX2_digits 60 = .ok (.getfield 416, 3) := dk_180 1 160 (dk_at dksX2_digits_2 13 rfl rfl)
theorem dX2_digits_63 : decode cX2_digits 63 = .ok (.iaload, 1) := dk_46 (dk_at dksX2_digits_2 16 rfl rfl)
theorem dX2_digits_64 : decode cX2_digits 64 = .ok (.iload_n 3, 1) := dk_29 (dk_at dksX2_digits_2 17 rfl rfl)
theorem dX2_digits_65 : decode cX2_digits 65 = .ok (.iadd, 1) := dk_96 (dk_at dksX2_digits_2 18 rfl rfl)
theorem dX2_digits_66 : decode cX2_digits 66 = .ok (.invokevirtual 419, 3) := dk_182 1 163 (dk_at dksX2_digits_2 19 rfl rfl)
theorem dX2_digits_69 : decode cX2_digits 69 = .ok (.istore 4, 2) := dk_54 4 (dk_at dksX2_digits_2 22 rfl rfl)
theorem dX2_digits_71 : decode cX2_digits 71 = .ok (.iload 4, 2) := dk_21 4 (dk_at dksX2_digits_3 0 rfl rfl)
theorem dX2_digits_73 : decode cX2_digits 73 = .ok (.i2l, 1) := dk_133 (dk_at dksX2_digits_3 2 rfl rfl)
theorem dX2_digits_74 : decode cX2_digits 74 = .ok (.ldc2_w 569, 3) := dk_20 2 57 (dk_at dksX2_digits_3 3 rfl rfl)
theorem dX2_digits_77 : decode cX2_digits 77 = .ok (.ldc2_w 571, 3) := dk_20 2 59 (dk_at dksX2_digits_3 6 rfl rfl)
theorem dX2_digits_80 : decode cX2_digits 80 = .ok (.invokestatic 403, 3) := dk_184 1 147 (dk_at dksX2_digits_3 9 rfl rfl)
theorem dX2_digits_83 : decode cX2_digits 83 = .ok (.istore_n 2, 1) := dk_61 (dk_at dksX2_digits_3 12 rfl rfl)
theorem dX2_digits_84 : decode cX2_digits 84 = .ok (.bipush 10, 2) := dk_16 10 (dk_at dksX2_digits_3 13 rfl rfl)
theorem dX2_digits_86 : decode cX2_digits 86 = .ok (.iload_n 1, 1) := dk_27 (dk_at dksX2_digits_3 15 rfl rfl)
theorem dX2_digits_87 : decode cX2_digits 87 = .ok (.imul, 1) := dk_104 (dk_at dksX2_digits_3 16 rfl rfl)
theorem dX2_digits_88 : decode cX2_digits 88 = .ok (.iload 4, 2) := dk_21 4 (dk_at dksX2_digits_3 17 rfl rfl)
theorem dX2_digits_90 : decode cX2_digits 90 = .ok (.iadd, 1) := dk_96 (dk_at dksX2_digits_3 19 rfl rfl)
theorem dX2_digits_91 : decode cX2_digits 91 = .ok (.bipush 48, 2) := dk_16 48 (dk_at dksX2_digits_3 20 rfl rfl)
theorem dX2_digits_93 : decode cX2_digits 93 = .ok (.isub, 1) := dk_100 (dk_at dksX2_digits_3 22 rfl rfl)
theorem dX2_digits_94 : decode cX2_digits 94 = .ok (.istore_n 1, 1) := dk_60 (dk_at dksX2_digits_3 23 rfl rfl)
theorem dX2_digits_95 : decode cX2_digits 95 = .ok (.iinc 3 1, 3) := dk_132 3 1 (dk_at dksX2_digits_4 0 rfl rfl)
theorem dX2_digits_98 : decode cX2_digits 98 = .ok (.goto (-61), 3) := dk_167 255 195 (dk_at dksX2_digits_4 3 rfl rfl)
theorem dX2_digits_101 : decode cX2_digits 101 = .ok (.iload_n 2, 1) := dk_28 (dk_at dksX2_digits_4 6 rfl rfl)
theorem dX2_digits_102 : decode cX2_digits 102 = .ok (.ifCond .ne 12, 3) := dk_154 0 12 (dk_at dksX2_digits_4 7 rfl rfl)
theorem dX2_digits_105 : decode cX2_digits 105 = .ok (.aload_n 0, 1) := dk_42 (dk_at dksX2_digits_4 10 rfl rfl)
theorem dX2_digits_106 : decode cX2_digits 106 = .ok (.iconst 1, 1) := dk_4 (dk_at dksX2_digits_4 11 rfl rfl)
theorem dX2_digits_107 : decode cX2_digits 107 = .ok (.aload_n 0, 1) := dk_42 (dk_at dksX2_digits_4 12 rfl rfl)
theorem dX2_digits_108 : decode cX2_digits 108 = .ok (.invokevirtual 475, 3) := dk_182 1 219 (dk_at dksX2_digits_4 13 rfl rfl)
theorem dX2_digits_111 : decode cX2_digits 111 = .ok (.invokevirtual 434, 3) := dk_182 1 178 (dk_at dksX2_digits_4 16 rfl rfl)
theorem dX2_digits_114 : decode cX2_digits 114 = .ok (.aload_n 0, 1) := dk_42 (dk_at dksX2_digits_4 19 rfl rfl)
theorem dX2_digits_115 : decode cX2_digits 115 = .ok (.invokevirtual 482, 3) := dk_182 1 226 (dk_at dksX2_digits_4 20 rfl rfl)
theorem dX2_digits_118 : decode cX2_digits 118 = .ok (.iload_n 1, 1) := dk_27 (dk_at dksX2_digits_4 23 rfl rfl)
theorem dX2_digits_119 : decode cX2_digits 119 = .ok (.ireturn, 1) := dk_172 (dk_at dksX2_digits_5 0 rfl rfl)
abbrev cX2_statement : ByteArray := prog_4_method_26_code
def yX2_statement : MethodName := ⟨RX2, "statement", "(I)V"⟩
def dkwX2_statement_8 : List UInt8 := [160, 0, 7, 4, 167, 0, 4, 3, 96, 181, 2, 0, 177]
abbrev dktX2_statement_8 : List UInt8 := dkwX2_statement_8 ++ []
def dkwX2_statement_7 : List UInt8 := [180, 1, 253, 27, 5, 162, 0, 7, 4, 167, 0, 4, 3, 96, 181, 1, 253, 42, 42, 180, 2, 0, 27, 5]
abbrev dktX2_statement_7 : List UInt8 := dkwX2_statement_7 ++ dktX2_statement_8
def dkwX2_statement_6 : List UInt8 := [182, 2, 6, 42, 19, 1, 200, 182, 1, 246, 42, 89, 180, 2, 3, 4, 96, 181, 2, 3, 42, 42]
abbrev dktX2_statement_6 : List UInt8 := dkwX2_statement_6 ++ dktX2_statement_7
def dkwX2_statement_5 : List UInt8 := [42, 16, 16, 29, 104, 4, 96, 182, 1, 242, 42, 19, 1, 212, 182, 1, 222, 153, 0, 8, 42, 29]
abbrev dktX2_statement_5 : List UInt8 := dkwX2_statement_5 ++ dktX2_statement_6
def dkwX2_statement_4 : List UInt8 := [104, 3, 96, 182, 1, 242, 42, 27, 5, 160, 0, 9, 19, 1, 208, 167, 0, 6, 19, 1, 206, 182, 1, 246]
abbrev dktX2_statement_4 : List UInt8 := dkwX2_statement_4 ++ dktX2_statement_5
def dkwX2_statement_3 : List UInt8 := [160, 0, 20, 42, 180, 0, 108, 29, 42, 182, 1, 250, 79, 42, 19, 1, 202, 182, 1, 246, 42, 16, 16, 29]
abbrev dktX2_statement_3 : List UInt8 := dkwX2_statement_3 ++ dktX2_statement_4
def dkwX2_statement_2 : List UInt8 := [180, 0, 105, 29, 27, 79, 42, 180, 0, 123, 29, 3, 79, 42, 180, 0, 108, 29, 16, 254, 79, 27, 5]
abbrev dktX2_statement_2 : List UInt8 := dkwX2_statement_2 ++ dktX2_statement_3
def dkwX2_statement_1 : List UInt8 := [180, 2, 0, 16, 30, 160, 0, 9, 42, 5, 28, 182, 1, 178, 42, 180, 2, 3, 62, 42, 182, 1, 226, 42]
abbrev dktX2_statement_1 : List UInt8 := dkwX2_statement_1 ++ dktX2_statement_2
def dkwX2_statement_0 : List UInt8 := [42, 182, 1, 219, 61, 27, 5, 162, 0, 15, 42, 180, 1, 253, 16, 40, 160, 0, 21, 167, 0, 12, 42]
abbrev dktX2_statement_0 : List UInt8 := dkwX2_statement_0 ++ dktX2_statement_1
theorem dksX2_statement_0 : cX2_statement.data.toList.drop 0 = dktX2_statement_0 := by decide +kernel
theorem dksX2_statement_1 : cX2_statement.data.toList.drop 23 = dktX2_statement_1 := dk_seg dksX2_statement_0 23 rfl rfl
theorem dksX2_statement_2 : cX2_statement.data.toList.drop 47 = dktX2_statement_2 := dk_seg dksX2_statement_1 24 rfl rfl
theorem dksX2_statement_3 : cX2_statement.data.toList.drop 70 = dktX2_statement_3 := dk_seg dksX2_statement_2 23 rfl rfl
theorem dksX2_statement_4 : cX2_statement.data.toList.drop 94 = dktX2_statement_4 := dk_seg dksX2_statement_3 24 rfl rfl
theorem dksX2_statement_5 : cX2_statement.data.toList.drop 118 = dktX2_statement_5 := dk_seg dksX2_statement_4 24 rfl rfl
theorem dksX2_statement_6 : cX2_statement.data.toList.drop 140 = dktX2_statement_6 := dk_seg dksX2_statement_5 22 rfl rfl
theorem dksX2_statement_7 : cX2_statement.data.toList.drop 162 = dktX2_statement_7 := dk_seg dksX2_statement_6 22 rfl rfl
theorem dksX2_statement_8 : cX2_statement.data.toList.drop 186 = dktX2_statement_8 := dk_seg dksX2_statement_7 24 rfl rfl
theorem dX2_statement_0 : decode cX2_statement 0 = .ok (.aload_n 0, 1) := dk_42 (dk_at dksX2_statement_0 0 rfl rfl)
theorem dX2_statement_1 : decode cX2_statement 1 = .ok (.invokevirtual 475, 3) := dk_182 1 219 (dk_at dksX2_statement_0 1 rfl rfl)
theorem dX2_statement_4 : decode cX2_statement 4 = .ok (.istore_n 2, 1) := dk_61 (dk_at dksX2_statement_0 4 rfl rfl)
theorem dX2_statement_5 : decode cX2_statement 5 = .ok (.iload_n 1, 1) := dk_27 (dk_at dksX2_statement_0 5 rfl rfl)
theorem dX2_statement_6 : decode cX2_statement 6 = .ok (.iconst 2, 1) := dk_5 (dk_at dksX2_statement_0 6 rfl rfl)
theorem dX2_statement_7 : decode cX2_statement 7 = .ok (.if_icmp .ge 15, 3) := dk_162 0 15 (dk_at dksX2_statement_0 7 rfl rfl)
theorem dX2_statement_10 : decode cX2_statement 10 = .ok (.aload_n 0, 1) := dk_42 (dk_at dksX2_statement_0 10 rfl rfl)
theorem dX2_statement_11 : decode cX2_statement 11 = .ok (.getfield 509, 3) := dk_180 1 253 (dk_at dksX2_statement_0 11 rfl rfl)
theorem dX2_statement_14 : decode cX2_statement 14 = .ok (.bipush 40, 2) := dk_16 40 (dk_at dksX2_statement_0 14 rfl rfl)
theorem dX2_statement_16 : decode cX2_statement 16 = .ok (.if_icmp .ne 21, 3) := dk_160 0 21 (dk_at dksX2_statement_0 16 rfl rfl)
theorem dX2_statement_19 : decode cX2_statement 19 = .ok (.goto 12, 3) := dk_167 0 12 (dk_at dksX2_statement_0 19 rfl rfl)
theorem dX2_statement_22 : decode cX2_statement 22 = .ok (.aload_n 0, 1) := dk_42 (dk_at dksX2_statement_0 22 rfl rfl)
theorem dX2_statement_23 : decode cX2_statement 23 = .ok (.getfield 512, 3) := dk_180 2 0 (dk_at dksX2_statement_1 0 rfl rfl)
theorem dX2_statement_26 : decode cX2_statement 26 = .ok (.bipush 30, 2) := dk_16 30 (dk_at dksX2_statement_1 3 rfl rfl)
theorem dX2_statement_28 : decode cX2_statement 28 = .ok (.if_icmp .ne 9, 3) := dk_160 0 9 (dk_at dksX2_statement_1 5 rfl rfl)
theorem dX2_statement_31 : decode cX2_statement 31 = .ok (.aload_n 0, 1) := dk_42 (dk_at dksX2_statement_1 8 rfl rfl)
theorem dX2_statement_32 : decode cX2_statement 32 = .ok (.iconst 2, 1) := dk_5 (dk_at dksX2_statement_1 9 rfl rfl)
theorem dX2_statement_33 : decode cX2_statement 33 = .ok (.iload_n 2, 1) := dk_28 (dk_at dksX2_statement_1 10 rfl rfl)
theorem dX2_statement_34 : decode cX2_statement 34 = .ok (.invokevirtual 434, 3) := dk_182 1 178 (dk_at dksX2_statement_1 11 rfl rfl)
theorem dX2_statement_37 : decode cX2_statement 37 = .ok (.aload_n 0, 1) := dk_42 (dk_at dksX2_statement_1 14 rfl rfl)
theorem dX2_statement_38 : decode cX2_statement 38 = .ok (.getfield 515, 3) := dk_180 2 3 (dk_at dksX2_statement_1 15 rfl rfl)
theorem dX2_statement_41 : decode cX2_statement 41 = .ok (.istore_n 3, 1) := dk_62 (dk_at dksX2_statement_1 18 rfl rfl)
theorem dX2_statement_42 : decode cX2_statement 42 = .ok (.aload_n 0, 1) := dk_42 (dk_at dksX2_statement_1 19 rfl rfl)
theorem dX2_statement_43 : decode cX2_statement 43 = .ok (.invokevirtual 482, 3) := dk_182 1 226 (dk_at dksX2_statement_1 20 rfl rfl)
theorem dX2_statement_46 : decode cX2_statement 46 = .ok (.aload_n 0, 1) := dk_42 (dk_at dksX2_statement_1 23 rfl rfl)
theorem dX2_statement_47 : decode cX2_statement 47 = .ok (.getfield 105, 3) := dk_180 0 105 (dk_at dksX2_statement_2 0 rfl rfl)
theorem dX2_statement_50 : decode cX2_statement 50 = .ok (.iload_n 3, 1) := dk_29 (dk_at dksX2_statement_2 3 rfl rfl)
theorem dX2_statement_51 : decode cX2_statement 51 = .ok (.iload_n 1, 1) := dk_27 (dk_at dksX2_statement_2 4 rfl rfl)
theorem dX2_statement_52 : decode cX2_statement 52 = .ok (.iastore, 1) := dk_79 (dk_at dksX2_statement_2 5 rfl rfl)
theorem dX2_statement_53 : decode cX2_statement 53 = .ok (.aload_n 0, 1) := dk_42 (dk_at dksX2_statement_2 6 rfl rfl)
theorem dX2_statement_54 : decode cX2_statement 54 = .ok (.getfield 123, 3) := dk_180 0 123 (dk_at dksX2_statement_2 7 rfl rfl)
theorem dX2_statement_57 : decode cX2_statement 57 = .ok (.iload_n 3, 1) := dk_29 (dk_at dksX2_statement_2 10 rfl rfl)
theorem dX2_statement_58 : decode cX2_statement 58 = .ok (.iconst 0, 1) := dk_3 (dk_at dksX2_statement_2 11 rfl rfl)
theorem dX2_statement_59 : decode cX2_statement 59 = .ok (.iastore, 1) := dk_79 (dk_at dksX2_statement_2 12 rfl rfl)
theorem dX2_statement_60 : decode cX2_statement 60 = .ok (.aload_n 0, 1) := dk_42 (dk_at dksX2_statement_2 13 rfl rfl)
theorem dX2_statement_61 : decode cX2_statement 61 = .ok (.getfield 108, 3) := dk_180 0 108 (dk_at dksX2_statement_2 14 rfl rfl)
theorem dX2_statement_64 : decode cX2_statement 64 = .ok (.iload_n 3, 1) := dk_29 (dk_at dksX2_statement_2 17 rfl rfl)
theorem dX2_statement_65 : decode cX2_statement 65 = .ok (.bipush (-2), 2) := dk_16 254 (dk_at dksX2_statement_2 18 rfl rfl)
theorem dX2_statement_67 : decode cX2_statement 67 = .ok (.iastore, 1) := dk_79 (dk_at dksX2_statement_2 20 rfl rfl)
theorem dX2_statement_68 : decode cX2_statement 68 = .ok (.iload_n 1, 1) := dk_27 (dk_at dksX2_statement_2 21 rfl rfl)
theorem dX2_statement_69 : decode cX2_statement 69 = .ok (.iconst 2, 1) := dk_5 (dk_at dksX2_statement_2 22 rfl rfl)
theorem dX2_statement_70 : decode cX2_statement 70 = .ok (.if_icmp .ne 20, 3) := dk_160 0 20 (dk_at dksX2_statement_3 0 rfl rfl)
theorem dX2_statement_73 : decode cX2_statement 73 = .ok (.aload_n 0, 1) := dk_42 (dk_at dksX2_statement_3 3 rfl rfl)
theorem dX2_statement_74 : decode cX2_statement 74 = .ok (.getfield 108, 3) := dk_180 0 108 (dk_at dksX2_statement_3 4 rfl rfl)
theorem dX2_statement_77 : decode cX2_statement 77 = .ok (.iload_n 3, 1) := dk_29 (dk_at dksX2_statement_3 7 rfl rfl)
theorem dX2_statement_78 : decode cX2_statement 78 = .ok (.aload_n 0, 1) := dk_42 (dk_at dksX2_statement_3 8 rfl rfl)
theorem dX2_statement_79 : decode cX2_statement 79 = .ok (.invokevirtual 506, 3) := dk_182 1 250 (dk_at dksX2_statement_3 9 rfl rfl)
theorem dX2_statement_82 : decode cX2_statement 82 = .ok (.iastore, 1) := dk_79 (dk_at dksX2_statement_3 12 rfl rfl)
theorem dX2_statement_83 : decode cX2_statement 83 = .ok (.aload_n 0, 1) := dk_42 (dk_at dksX2_statement_3 13 rfl rfl)
theorem dX2_statement_84 : decode cX2_statement 84 = .ok (.ldc_w 458, 3) := dk_19 1 202 (dk_at dksX2_statement_3 14 rfl rfl)
theorem dX2_statement_87 : decode cX2_statement 87 = .ok (.invokevirtual 502, 3) := dk_182 1 246 (dk_at dksX2_statement_3 17 rfl rfl)
theorem dX2_statement_90 : decode cX2_statement 90 = .ok (.aload_n 0, 1) := dk_42 (dk_at dksX2_statement_3 20 rfl rfl)
theorem dX2_statement_91 : decode cX2_statement 91 = .ok (.bipush 16, 2) := dk_16 16 (dk_at dksX2_statement_3 21 rfl rfl)
theorem dX2_statement_93 : decode cX2_statement 93 = .ok (.iload_n 3, 1) := dk_29 (dk_at dksX2_statement_3 23 rfl rfl)
theorem dX2_statement_94 : decode cX2_statement 94 = .ok (.imul, 1) := dk_104 (dk_at dksX2_statement_4 0 rfl rfl)
theorem dX2_statement_95 : decode cX2_statement 95 = .ok (.iconst 0, 1) := dk_3 (dk_at dksX2_statement_4 1 rfl rfl)
theorem dX2_statement_96 : decode cX2_statement 96 = .ok (.iadd, 1) := dk_96 (dk_at dksX2_statement_4 2 rfl rfl)
theorem dX2_statement_97 : decode cX2_statement 97 = .ok (.invokevirtual 498, 3) := dk_182 1 242 (dk_at dksX2_statement_4 3 rfl rfl)
theorem dX2_statement_100 : decode cX2_statement 100 = .ok (.aload_n 0, 1) := dk_42 (dk_at dksX2_statement_4 6 rfl rfl)
theorem dX2_statement_101 : decode cX2_statement 101 = .ok (.iload_n 1, 1) := dk_27 (dk_at dksX2_statement_4 7 rfl rfl)
theorem dX2_statement_102 : decode cX2_statement 102 = .ok (.iconst 2, 1) := dk_5 (dk_at dksX2_statement_4 8 rfl rfl)
theorem dX2_statement_103 : decode cX2_statement 103 = .ok (.if_icmp .ne 9, 3) := dk_160 0 9 (dk_at dksX2_statement_4 9 rfl rfl)
theorem dX2_statement_106 : decode cX2_statement 106 = .ok (.ldc_w 464, 3) := dk_19 1 208 (dk_at dksX2_statement_4 12 rfl rfl)
theorem dX2_statement_109 : decode cX2_statement 109 = .ok (.goto 6, 3) := dk_167 0 6 (dk_at dksX2_statement_4 15 rfl rfl)
theorem dX2_statement_112 : decode cX2_statement 112 = .ok (.ldc_w 462, 3) := dk_19 1 206 (dk_at dksX2_statement_4 18 rfl rfl)
theorem dX2_statement_115 : decode cX2_statement 115 = .ok (.invokevirtual 502, 3) := dk_182 1 246 (dk_at dksX2_statement_4 21 rfl rfl)
theorem dX2_statement_118 : decode cX2_statement 118 = .ok (.aload_n 0, 1) := dk_42 (dk_at dksX2_statement_5 0 rfl rfl)
theorem dX2_statement_119 : decode cX2_statement 119 = .ok (.bipush 16, 2) := dk_16 16 (dk_at dksX2_statement_5 1 rfl rfl)
theorem dX2_statement_121 : decode cX2_statement 121 = .ok (.iload_n 3, 1) := dk_29 (dk_at dksX2_statement_5 3 rfl rfl)
theorem dX2_statement_122 : decode cX2_statement 122 = .ok (.imul, 1) := dk_104 (dk_at dksX2_statement_5 4 rfl rfl)
theorem dX2_statement_123 : decode cX2_statement 123 = .ok (.iconst 1, 1) := dk_4 (dk_at dksX2_statement_5 5 rfl rfl)
theorem dX2_statement_124 : decode cX2_statement 124 = .ok (.iadd, 1) := dk_96 (dk_at dksX2_statement_5 6 rfl rfl)
theorem dX2_statement_125 : decode cX2_statement 125 = .ok (.invokevirtual 498, 3) := dk_182 1 242 (dk_at dksX2_statement_5 7 rfl rfl)
theorem dX2_statement_128 : decode cX2_statement 128 = .ok (.aload_n 0, 1) := dk_42 (dk_at dksX2_statement_5 10 rfl rfl)
theorem dX2_statement_129 : decode cX2_statement 129 = .ok (.ldc_w 468, 3) := dk_19 1 212 (dk_at dksX2_statement_5 11 rfl rfl)
theorem dX2_statement_132 : decode cX2_statement 132 = .ok (.invokevirtual 478, 3) := dk_182 1 222 (dk_at dksX2_statement_5 14 rfl rfl)
theorem dX2_statement_135 : decode cX2_statement 135 = .ok (.ifCond .eq 8, 3) := dk_153 0 8 (dk_at dksX2_statement_5 17 rfl rfl)
theorem dX2_statement_138 : decode cX2_statement 138 = .ok (.aload_n 0, 1) := dk_42 (dk_at dksX2_statement_5 20 rfl rfl)
theorem dX2_statement_139 : decode cX2_statement 139 = .ok (.iload_n 3, 1) := dk_29 (dk_at dksX2_statement_5 21 rfl rfl)
theorem dX2_statement_140 : decode cX2_statement 140 = .ok (.invokevirtual 518, 3) := dk_182 2 6 (dk_at dksX2_statement_6 0 rfl rfl)
theorem dX2_statement_143 : decode cX2_statement 143 = .ok (.aload_n 0, 1) := dk_42 (dk_at dksX2_statement_6 3 rfl rfl)
theorem dX2_statement_144 : decode cX2_statement 144 = .ok (.ldc_w 456, 3) := dk_19 1 200 (dk_at dksX2_statement_6 4 rfl rfl)
theorem dX2_statement_147 : decode cX2_statement 147 = .ok (.invokevirtual 502, 3) := dk_182 1 246 (dk_at dksX2_statement_6 7 rfl rfl)
theorem dX2_statement_150 : decode cX2_statement 150 = .ok (.aload_n 0, 1) := dk_42 (dk_at dksX2_statement_6 10 rfl rfl)
theorem dX2_statement_151 : decode cX2_statement 151 = .ok (.dup, 1) := dk_89 (dk_at dksX2_statement_6 11 rfl rfl)
theorem dX2_statement_152 : decode cX2_statement 152 = .ok (.getfield 515, 3) := dk_180 2 3 (dk_at dksX2_statement_6 12 rfl rfl)
theorem dX2_statement_155 : decode cX2_statement 155 = .ok (.iconst 1, 1) := dk_4 (dk_at dksX2_statement_6 15 rfl rfl)
theorem dX2_statement_156 : decode cX2_statement 156 = .ok (.iadd, 1) := dk_96 (dk_at dksX2_statement_6 16 rfl rfl)
theorem dX2_statement_157 : decode cX2_statement 157 = .ok (.putfield 515, 3) := dk_181 2 3 (dk_at dksX2_statement_6 17 rfl rfl)
theorem dX2_statement_160 : decode cX2_statement 160 = .ok (.aload_n 0, 1) := dk_42 (dk_at dksX2_statement_6 20 rfl rfl)
theorem dX2_statement_161 : decode cX2_statement 161 = .ok (.aload_n 0, 1) := dk_42 (dk_at dksX2_statement_6 21 rfl rfl)
theorem dX2_statement_162 : decode cX2_statement 162 = .ok (.getfield 509, 3) := dk_180 1 253 (dk_at dksX2_statement_7 0 rfl rfl)
theorem dX2_statement_165 : decode cX2_statement 165 = .ok (.iload_n 1, 1) := dk_27 (dk_at dksX2_statement_7 3 rfl rfl)
theorem dX2_statement_166 : decode cX2_statement 166 = .ok (.iconst 2, 1) := dk_5 (dk_at dksX2_statement_7 4 rfl rfl)
theorem dX2_statement_167 : decode cX2_statement 167 = .ok (.if_icmp .ge 7, 3) := dk_162 0 7 (dk_at dksX2_statement_7 5 rfl rfl)
theorem dX2_statement_170 : decode cX2_statement 170 = .ok (.iconst 1, 1) := dk_4 (dk_at dksX2_statement_7 8 rfl rfl)
theorem dX2_statement_171 : decode cX2_statement 171 = .ok (.goto 4, 3) := dk_167 0 4 (dk_at dksX2_statement_7 9 rfl rfl)
theorem dX2_statement_174 : decode cX2_statement 174 = .ok (.iconst 0, 1) := dk_3 (dk_at dksX2_statement_7 12 rfl rfl)
theorem dX2_statement_175 : decode cX2_statement 175 = .ok (.iadd, 1) := dk_96 (dk_at dksX2_statement_7 13 rfl rfl)
theorem dX2_statement_176 : decode cX2_statement 176 = .ok (.putfield 509, 3) := dk_181 1 253 (dk_at dksX2_statement_7 14 rfl rfl)
theorem dX2_statement_179 : decode cX2_statement 179 = .ok (.aload_n 0, 1) := dk_42 (dk_at dksX2_statement_7 17 rfl rfl)
theorem dX2_statement_180 : decode cX2_statement 180 = .ok (.aload_n 0, 1) := dk_42 (dk_at dksX2_statement_7 18 rfl rfl)
theorem dX2_statement_181 : decode cX2_statement 181 = .ok (.getfield 512, 3) := dk_180 2 0 (dk_at dksX2_statement_7 19 rfl rfl)
theorem dX2_statement_184 : decode cX2_statement 184 = .ok (.iload_n 1, 1) := dk_27 (dk_at dksX2_statement_7 22 rfl rfl)
theorem dX2_statement_185 : decode cX2_statement 185 = .ok (.iconst 2, 1) := dk_5 (dk_at dksX2_statement_7 23 rfl rfl)
theorem dX2_statement_186 : decode cX2_statement 186 = .ok (.if_icmp .ne 7, 3) := dk_160 0 7 (dk_at dksX2_statement_8 0 rfl rfl)
theorem dX2_statement_189 : decode cX2_statement 189 = .ok (.iconst 1, 1) := dk_4 (dk_at dksX2_statement_8 3 rfl rfl)
theorem dX2_statement_190 : decode cX2_statement 190 = .ok (.goto 4, 3) := dk_167 0 4 (dk_at dksX2_statement_8 4 rfl rfl)
theorem dX2_statement_193 : decode cX2_statement 193 = .ok (.iconst 0, 1) := dk_3 (dk_at dksX2_statement_8 7 rfl rfl)
theorem dX2_statement_194 : decode cX2_statement 194 = .ok (.iadd, 1) := dk_96 (dk_at dksX2_statement_8 8 rfl rfl)
theorem dX2_statement_195 : decode cX2_statement 195 = .ok (.putfield 512, 3) := dk_181 2 0 (dk_at dksX2_statement_8 9 rfl rfl)
theorem dX2_statement_198 : decode cX2_statement 198 = .ok (.return_, 1) := dk_177 (dk_at dksX2_statement_8 12 rfl rfl)
abbrev cX2_termWords : ByteArray := prog_4_method_24_code
def yX2_termWords : MethodName := ⟨RX2, "termWords", "(I)V"⟩
def dkwX2_termWords_3 : List UInt8 := [27, 28, 79, 42, 180, 0, 114, 27, 42, 180, 1, 160, 28, 100, 79, 177]
abbrev dktX2_termWords_3 : List UInt8 := dkwX2_termWords_3 ++ []
def dkwX2_termWords_2 : List UInt8 := [167, 255, 214, 42, 180, 1, 160, 28, 160, 0, 12, 42, 4, 42, 182, 1, 219, 182, 1, 178, 42, 180, 0, 111]
abbrev dktX2_termWords_2 : List UInt8 := dkwX2_termWords_2 ++ dktX2_termWords_3
def dkwX2_termWords_1 : List UInt8 := [180, 1, 160, 28, 100, 16, 32, 160, 0, 12, 42, 5, 42, 182, 1, 219, 182, 1, 178, 42, 182, 1, 226]
abbrev dktX2_termWords_1 : List UInt8 := dkwX2_termWords_1 ++ dktX2_termWords_2
def dkwX2_termWords_0 : List UInt8 := [42, 180, 1, 160, 61, 42, 182, 1, 192, 154, 0, 41, 42, 42, 180, 1, 160, 182, 1, 229, 154, 0, 30, 42]
abbrev dktX2_termWords_0 : List UInt8 := dkwX2_termWords_0 ++ dktX2_termWords_1
theorem dksX2_termWords_0 : cX2_termWords.data.toList.drop 0 = dktX2_termWords_0 := by decide +kernel
theorem dksX2_termWords_1 : cX2_termWords.data.toList.drop 24 = dktX2_termWords_1 := dk_seg dksX2_termWords_0 24 rfl rfl
theorem dksX2_termWords_2 : cX2_termWords.data.toList.drop 47 = dktX2_termWords_2 := dk_seg dksX2_termWords_1 23 rfl rfl
theorem dksX2_termWords_3 : cX2_termWords.data.toList.drop 71 = dktX2_termWords_3 := dk_seg dksX2_termWords_2 24 rfl rfl
theorem dX2_termWords_0 : decode cX2_termWords 0 = .ok (.aload_n 0, 1) := dk_42 (dk_at dksX2_termWords_0 0 rfl rfl)
theorem dX2_termWords_1 : decode cX2_termWords 1 = .ok (.getfield 416, 3) := dk_180 1 160 (dk_at dksX2_termWords_0 1 rfl rfl)
theorem dX2_termWords_4 : decode cX2_termWords 4 = .ok (.istore_n 2, 1) := dk_61 (dk_at dksX2_termWords_0 4 rfl rfl)
theorem dX2_termWords_5 : decode cX2_termWords 5 = .ok (.aload_n 0, 1) := dk_42 (dk_at dksX2_termWords_0 5 rfl rfl)
theorem dX2_termWords_6 : decode cX2_termWords 6 = .ok (.invokevirtual 448, 3) := dk_182 1 192 (dk_at dksX2_termWords_0 6 rfl rfl)
theorem dX2_termWords_9 : decode cX2_termWords 9 = .ok (.ifCond .ne 41, 3) := dk_154 0 41 (dk_at dksX2_termWords_0 9 rfl rfl)
theorem dX2_termWords_12 : decode cX2_termWords 12 = .ok (.aload_n 0, 1) := dk_42 (dk_at dksX2_termWords_0 12 rfl rfl)
theorem dX2_termWords_13 : decode cX2_termWords 13 = .ok (.aload_n 0, 1) := dk_42 (dk_at dksX2_termWords_0 13 rfl rfl)
theorem dX2_termWords_14 : decode cX2_termWords 14 = .ok (.getfield 416, 3) := dk_180 1 160 (dk_at dksX2_termWords_0 14 rfl rfl)
theorem dX2_termWords_17 : decode cX2_termWords 17 = .ok (.invokevirtual 485, 3) := dk_182 1 229 (dk_at dksX2_termWords_0 17 rfl rfl)
theorem dX2_termWords_20 : decode cX2_termWords 20 = .ok (.ifCond .ne 30, 3) := dk_154 0 30 (dk_at dksX2_termWords_0 20 rfl rfl)
theorem dX2_termWords_23 : decode cX2_termWords 23 = .ok (.aload_n 0, 1) := dk_42 (dk_at dksX2_termWords_0 23 rfl rfl)
theorem dX2_termWords_24 : decode cX2_termWords 24 = .ok (.getfield 416, 3) := dk_180 1 160 (dk_at dksX2_termWords_1 0 rfl rfl)
theorem dX2_termWords_27 : decode cX2_termWords 27 = .ok (.iload_n 2, 1) := dk_28 (dk_at dksX2_termWords_1 3 rfl rfl)
theorem dX2_termWords_28 : decode cX2_termWords 28 = .ok (.isub, 1) := dk_100 (dk_at dksX2_termWords_1 4 rfl rfl)
theorem dX2_termWords_29 : decode cX2_termWords 29 = .ok (.bipush 32, 2) := dk_16 32 (dk_at dksX2_termWords_1 5 rfl rfl)
theorem dX2_termWords_31 : decode cX2_termWords 31 = .ok (.if_icmp .ne 12, 3) := dk_160 0 12 (dk_at dksX2_termWords_1 7 rfl rfl)
theorem dX2_termWords_34 : decode cX2_termWords 34 = .ok (.aload_n 0, 1) := dk_42 (dk_at dksX2_termWords_1 10 rfl rfl)
theorem dX2_termWords_35 : decode cX2_termWords 35 = .ok (.iconst 2, 1) := dk_5 (dk_at dksX2_termWords_1 11 rfl rfl)
theorem dX2_termWords_36 : decode cX2_termWords 36 = .ok (.aload_n 0, 1) := dk_42 (dk_at dksX2_termWords_1 12 rfl rfl)
theorem dX2_termWords_37 : decode cX2_termWords 37 = .ok (.invokevirtual 475, 3) := dk_182 1 219 (dk_at dksX2_termWords_1 13 rfl rfl)
theorem dX2_termWords_40 : decode cX2_termWords 40 = .ok (.invokevirtual 434, 3) := dk_182 1 178 (dk_at dksX2_termWords_1 16 rfl rfl)
theorem dX2_termWords_43 : decode cX2_termWords 43 = .ok (.aload_n 0, 1) := dk_42 (dk_at dksX2_termWords_1 19 rfl rfl)
theorem dX2_termWords_44 : decode cX2_termWords 44 = .ok (.invokevirtual 482, 3) := dk_182 1 226 (dk_at dksX2_termWords_1 20 rfl rfl)
theorem dX2_termWords_47 : decode cX2_termWords 47 = .ok (.goto (-42), 3) := dk_167 255 214 (dk_at dksX2_termWords_2 0 rfl rfl)
theorem dX2_termWords_50 : decode cX2_termWords 50 = .ok (.aload_n 0, 1) := dk_42 (dk_at dksX2_termWords_2 3 rfl rfl)
theorem dX2_termWords_51 : decode cX2_termWords 51 = .ok (.getfield 416, 3) := dk_180 1 160 (dk_at dksX2_termWords_2 4 rfl rfl)
theorem dX2_termWords_54 : decode cX2_termWords 54 = .ok (.iload_n 2, 1) := dk_28 (dk_at dksX2_termWords_2 7 rfl rfl)
theorem dX2_termWords_55 : decode cX2_termWords 55 = .ok (.if_icmp .ne 12, 3) := dk_160 0 12 (dk_at dksX2_termWords_2 8 rfl rfl)
theorem dX2_termWords_58 : decode cX2_termWords 58 = .ok (.aload_n 0, 1) := dk_42 (dk_at dksX2_termWords_2 11 rfl rfl)
theorem dX2_termWords_59 : decode cX2_termWords 59 = .ok (.iconst 1, 1) := dk_4 (dk_at dksX2_termWords_2 12 rfl rfl)
theorem dX2_termWords_60 : decode cX2_termWords 60 = .ok (.aload_n 0, 1) := dk_42 (dk_at dksX2_termWords_2 13 rfl rfl)
theorem dX2_termWords_61 : decode cX2_termWords 61 = .ok (.invokevirtual 475, 3) := dk_182 1 219 (dk_at dksX2_termWords_2 14 rfl rfl)
theorem dX2_termWords_64 : decode cX2_termWords 64 = .ok (.invokevirtual 434, 3) := dk_182 1 178 (dk_at dksX2_termWords_2 17 rfl rfl)
theorem dX2_termWords_67 : decode cX2_termWords 67 = .ok (.aload_n 0, 1) := dk_42 (dk_at dksX2_termWords_2 20 rfl rfl)
theorem dX2_termWords_68 : decode cX2_termWords 68 = .ok (.getfield 111, 3) := dk_180 0 111 (dk_at dksX2_termWords_2 21 rfl rfl)
theorem dX2_termWords_71 : decode cX2_termWords 71 = .ok (.iload_n 1, 1) := dk_27 (dk_at dksX2_termWords_3 0 rfl rfl)
theorem dX2_termWords_72 : decode cX2_termWords 72 = .ok (.iload_n 2, 1) := dk_28 (dk_at dksX2_termWords_3 1 rfl rfl)
theorem dX2_termWords_73 : decode cX2_termWords 73 = .ok (.iastore, 1) := dk_79 (dk_at dksX2_termWords_3 2 rfl rfl)
theorem dX2_termWords_74 : decode cX2_termWords 74 = .ok (.aload_n 0, 1) := dk_42 (dk_at dksX2_termWords_3 3 rfl rfl)
theorem dX2_termWords_75 : decode cX2_termWords 75 = .ok (.getfield 114, 3) := dk_180 0 114 (dk_at dksX2_termWords_3 4 rfl rfl)
theorem dX2_termWords_78 : decode cX2_termWords 78 = .ok (.iload_n 1, 1) := dk_27 (dk_at dksX2_termWords_3 7 rfl rfl)
theorem dX2_termWords_79 : decode cX2_termWords 79 = .ok (.aload_n 0, 1) := dk_42 (dk_at dksX2_termWords_3 8 rfl rfl)
theorem dX2_termWords_80 : decode cX2_termWords 80 = .ok (.getfield 416, 3) := dk_180 1 160 (dk_at dksX2_termWords_3 9 rfl rfl)
theorem dX2_termWords_83 : decode cX2_termWords 83 = .ok (.iload_n 2, 1) := dk_28 (dk_at dksX2_termWords_3 12 rfl rfl)
theorem dX2_termWords_84 : decode cX2_termWords 84 = .ok (.isub, 1) := dk_100 (dk_at dksX2_termWords_3 13 rfl rfl)
theorem dX2_termWords_85 : decode cX2_termWords 85 = .ok (.iastore, 1) := dk_79 (dk_at dksX2_termWords_3 14 rfl rfl)
theorem dX2_termWords_86 : decode cX2_termWords 86 = .ok (.return_, 1) := dk_177 (dk_at dksX2_termWords_3 15 rfl rfl)
abbrev cX2_conditions : ByteArray := prog_4_method_25_code
def yX2_conditions : MethodName := ⟨RX2, "conditions", "(I)V"⟩
def dkwX2_conditions_9 : List UInt8 := [167, 255, 51, 177]
abbrev dktX2_conditions_9 : List UInt8 := dkwX2_conditions_9 ++ []
def dkwX2_conditions_8 : List UInt8 := [27, 92, 46, 4, 96, 79, 42, 19, 1, 214, 182, 1, 222, 61, 28, 153, 0, 7, 42, 182, 1, 226]
abbrev dktX2_conditions_8 : List UInt8 := dkwX2_conditions_8 ++ dktX2_conditions_9
def dkwX2_conditions_7 : List UInt8 := [104, 29, 96, 5, 79, 42, 180, 0, 120, 16, 6, 27, 104, 29, 96, 42, 182, 1, 250, 79, 42, 180, 0, 123]
abbrev dktX2_conditions_7 : List UInt8 := dkwX2_conditions_7 ++ dktX2_conditions_8
def dkwX2_conditions_6 : List UInt8 := [21, 4, 4, 96, 182, 1, 242, 167, 0, 37, 42, 19, 1, 202, 182, 1, 246, 42, 180, 0, 117, 16, 6, 27]
abbrev dktX2_conditions_6 : List UInt8 := dkwX2_conditions_6 ++ dktX2_conditions_7
def dkwX2_conditions_5 : List UInt8 := [182, 1, 222, 153, 0, 30, 42, 180, 0, 117, 16, 6, 27, 104, 29, 96, 4, 79, 42, 182, 1, 226, 42]
abbrev dktX2_conditions_5 : List UInt8 := dkwX2_conditions_5 ++ dktX2_conditions_6
def dkwX2_conditions_4 : List UInt8 := [29, 96, 3, 79, 42, 182, 1, 226, 42, 21, 4, 4, 96, 182, 1, 242, 167, 0, 74, 42, 19, 1, 210]
abbrev dktX2_conditions_4 : List UInt8 := dkwX2_conditions_4 ++ dktX2_conditions_5
def dkwX2_conditions_3 : List UInt8 := [42, 21, 4, 182, 1, 242, 42, 19, 1, 206, 182, 1, 222, 153, 0, 30, 42, 180, 0, 117, 16, 6, 27, 104]
abbrev dktX2_conditions_3 : List UInt8 := dkwX2_conditions_3 ++ dktX2_conditions_4
def dkwX2_conditions_2 : List UInt8 := [182, 1, 178, 42, 5, 42, 182, 1, 219, 182, 1, 178, 16, 16, 27, 104, 5, 96, 5, 29, 104, 96, 54, 4]
abbrev dktX2_conditions_2 : List UInt8 := dkwX2_conditions_2 ++ dktX2_conditions_3
def dkwX2_conditions_1 : List UInt8 := [182, 1, 192, 154, 0, 14, 42, 42, 180, 1, 160, 182, 1, 229, 153, 0, 12, 42, 4, 42, 182, 1, 219]
abbrev dktX2_conditions_1 : List UInt8 := dkwX2_conditions_1 ++ dktX2_conditions_2
def dkwX2_conditions_0 : List UInt8 := [42, 182, 1, 226, 4, 61, 28, 153, 0, 207, 42, 180, 0, 123, 27, 46, 62, 29, 16, 6, 160, 0, 39, 42]
abbrev dktX2_conditions_0 : List UInt8 := dkwX2_conditions_0 ++ dktX2_conditions_1
theorem dksX2_conditions_0 : cX2_conditions.data.toList.drop 0 = dktX2_conditions_0 := by decide +kernel
theorem dksX2_conditions_1 : cX2_conditions.data.toList.drop 24 = dktX2_conditions_1 := dk_seg dksX2_conditions_0 24 rfl rfl
theorem dksX2_conditions_2 : cX2_conditions.data.toList.drop 47 = dktX2_conditions_2 := dk_seg dksX2_conditions_1 23 rfl rfl
theorem dksX2_conditions_3 : cX2_conditions.data.toList.drop 71 = dktX2_conditions_3 := dk_seg dksX2_conditions_2 24 rfl rfl
theorem dksX2_conditions_4 : cX2_conditions.data.toList.drop 95 = dktX2_conditions_4 := dk_seg dksX2_conditions_3 24 rfl rfl
theorem dksX2_conditions_5 : cX2_conditions.data.toList.drop 118 = dktX2_conditions_5 := dk_seg dksX2_conditions_4 23 rfl rfl
theorem dksX2_conditions_6 : cX2_conditions.data.toList.drop 141 = dktX2_conditions_6 := dk_seg dksX2_conditions_5 23 rfl rfl
theorem dksX2_conditions_7 : cX2_conditions.data.toList.drop 165 = dktX2_conditions_7 := dk_seg dksX2_conditions_6 24 rfl rfl
theorem dksX2_conditions_8 : cX2_conditions.data.toList.drop 189 = dktX2_conditions_8 := dk_seg dksX2_conditions_7 24 rfl rfl
theorem dksX2_conditions_9 : cX2_conditions.data.toList.drop 211 = dktX2_conditions_9 := dk_seg dksX2_conditions_8 22 rfl rfl
theorem dX2_conditions_0 : decode cX2_conditions 0 = .ok (.aload_n 0, 1) := dk_42 (dk_at dksX2_conditions_0 0 rfl rfl)
theorem dX2_conditions_1 : decode cX2_conditions 1 = .ok (.invokevirtual 482, 3) := dk_182 1 226 (dk_at dksX2_conditions_0 1 rfl rfl)
theorem dX2_conditions_4 : decode cX2_conditions 4 = .ok (.iconst 1, 1) := dk_4 (dk_at dksX2_conditions_0 4 rfl rfl)
theorem dX2_conditions_5 : decode cX2_conditions 5 = .ok (.istore_n 2, 1) := dk_61 (dk_at dksX2_conditions_0 5 rfl rfl)
theorem dX2_conditions_6 : decode cX2_conditions 6 = .ok (.iload_n 2, 1) := dk_28 (dk_at dksX2_conditions_0 6 rfl rfl)
theorem dX2_conditions_7 : decode cX2_conditions 7 = .ok (.ifCond .eq 207, 3) := dk_153 0 207 (dk_at dksX2_conditions_0 7 rfl rfl)
theorem dX2_conditions_10 : decode cX2_conditions 10 = .ok (.aload_n 0, 1) := dk_42 (dk_at dksX2_conditions_0 10 rfl rfl)
theorem dX2_conditions_11 : decode cX2_conditions 11 = .ok (.getfield 123, 3) := dk_180 0 123 (dk_at dksX2_conditions_0 11 rfl rfl)
theorem dX2_conditions_14 : decode cX2_conditions 14 = .ok (.iload_n 1, 1) := dk_27 (dk_at dksX2_conditions_0 14 rfl rfl)
theorem dX2_conditions_15 : decode cX2_conditions 15 = .ok (.iaload, 1) := dk_46 (dk_at dksX2_conditions_0 15 rfl rfl)
theorem dX2_conditions_16 : decode cX2_conditions 16 = .ok (.istore_n 3, 1) := dk_62 (dk_at dksX2_conditions_0 16 rfl rfl)
theorem dX2_conditions_17 : decode cX2_conditions 17 = .ok (.iload_n 3, 1) := dk_29 (dk_at dksX2_conditions_0 17 rfl rfl)
theorem dX2_conditions_18 : decode cX2_conditions 18 = .ok (.bipush 6, 2) := dk_16 6 (dk_at dksX2_conditions_0 18 rfl rfl)
theorem dX2_conditions_20 : decode cX2_conditions 20 = .ok (.if_icmp .ne 39, 3) := dk_160 0 39 (dk_at dksX2_conditions_0 20 rfl rfl)
theorem dX2_conditions_23 : decode cX2_conditions 23 = .ok (.aload_n 0, 1) := dk_42 (dk_at dksX2_conditions_0 23 rfl rfl)
theorem dX2_conditions_24 : decode cX2_conditions 24 = .ok (.invokevirtual 448, 3) := dk_182 1 192 (dk_at dksX2_conditions_1 0 rfl rfl)
theorem dX2_conditions_27 : decode cX2_conditions 27 = .ok (.ifCond .ne 14, 3) := dk_154 0 14 (dk_at dksX2_conditions_1 3 rfl rfl)
theorem dX2_conditions_30 : decode cX2_conditions 30 = .ok (.aload_n 0, 1) := dk_42 (dk_at dksX2_conditions_1 6 rfl rfl)
theorem dX2_conditions_31 : decode cX2_conditions 31 = .ok (.aload_n 0, 1) := dk_42 (dk_at dksX2_conditions_1 7 rfl rfl)
theorem dX2_conditions_32 : decode cX2_conditions 32 = .ok (.getfield 416, 3) := dk_180 1 160 (dk_at dksX2_conditions_1 8 rfl rfl)
theorem dX2_conditions_35 : decode cX2_conditions 35 = .ok (.invokevirtual 485, 3) := dk_182 1 229 (dk_at dksX2_conditions_1 11 rfl rfl)
theorem dX2_conditions_38 : decode cX2_conditions 38 = .ok (.ifCond .eq 12, 3) := dk_153 0 12 (dk_at dksX2_conditions_1 14 rfl rfl)
theorem dX2_conditions_41 : decode cX2_conditions 41 = .ok (.aload_n 0, 1) := dk_42 (dk_at dksX2_conditions_1 17 rfl rfl)
theorem dX2_conditions_42 : decode cX2_conditions 42 = .ok (.iconst 1, 1) := dk_4 (dk_at dksX2_conditions_1 18 rfl rfl)
theorem dX2_conditions_43 : decode cX2_conditions 43 = .ok (.aload_n 0, 1) := dk_42 (dk_at dksX2_conditions_1 19 rfl rfl)
theorem dX2_conditions_44 : decode cX2_conditions 44 = .ok (.invokevirtual 475, 3) := dk_182 1 219 (dk_at dksX2_conditions_1 20 rfl rfl)
theorem dX2_conditions_47 : decode cX2_conditions 47 = .ok (.invokevirtual 434, 3) := dk_182 1 178 (dk_at dksX2_conditions_2 0 rfl rfl)
theorem dX2_conditions_50 : decode cX2_conditions 50 = .ok (.aload_n 0, 1) := dk_42 (dk_at dksX2_conditions_2 3 rfl rfl)
theorem dX2_conditions_51 : decode cX2_conditions 51 = .ok (.iconst 2, 1) := dk_5 (dk_at dksX2_conditions_2 4 rfl rfl)
theorem dX2_conditions_52 : decode cX2_conditions 52 = .ok (.aload_n 0, 1) := dk_42 (dk_at dksX2_conditions_2 5 rfl rfl)
theorem dX2_conditions_53 : decode cX2_conditions 53 = .ok (.invokevirtual 475, 3) := dk_182 1 219 (dk_at dksX2_conditions_2 6 rfl rfl)
theorem dX2_conditions_56 : decode cX2_conditions 56 = .ok (.invokevirtual 434, 3) := dk_182 1 178 (dk_at dksX2_conditions_2 9 rfl rfl)
theorem dX2_conditions_59 : decode cX2_conditions 59 = .ok (.bipush 16, 2) := dk_16 16 (dk_at dksX2_conditions_2 12 rfl rfl)
theorem dX2_conditions_61 : decode cX2_conditions 61 = .ok (.iload_n 1, 1) := dk_27 (dk_at dksX2_conditions_2 14 rfl rfl)
theorem dX2_conditions_62 : decode cX2_conditions 62 = .ok (.imul, 1) := dk_104 (dk_at dksX2_conditions_2 15 rfl rfl)
theorem dX2_conditions_63 : decode cX2_conditions 63 = .ok (.iconst 2, 1) := dk_5 (dk_at dksX2_conditions_2 16 rfl rfl)
theorem dX2_conditions_64 : decode cX2_conditions 64 = .ok (.iadd, 1) := dk_96 (dk_at dksX2_conditions_2 17 rfl rfl)
theorem dX2_conditions_65 : decode cX2_conditions 65 = .ok (.iconst 2, 1) := dk_5 (dk_at dksX2_conditions_2 18 rfl rfl)
theorem dX2_conditions_66 : decode cX2_conditions 66 = .ok (.iload_n 3, 1) := dk_29 (dk_at dksX2_conditions_2 19 rfl rfl)
theorem dX2_conditions_67 : decode cX2_conditions 67 = .ok (.imul, 1) := dk_104 (dk_at dksX2_conditions_2 20 rfl rfl)
theorem dX2_conditions_68 : decode cX2_conditions 68 = .ok (.iadd, 1) := dk_96 (dk_at dksX2_conditions_2 21 rfl rfl)
theorem dX2_conditions_69 : decode cX2_conditions 69 = .ok (.istore 4, 2) := dk_54 4 (dk_at dksX2_conditions_2 22 rfl rfl)
theorem dX2_conditions_71 : decode cX2_conditions 71 = .ok (.aload_n 0, 1) := dk_42 (dk_at dksX2_conditions_3 0 rfl rfl)
theorem dX2_conditions_72 : decode cX2_conditions 72 = .ok (.iload 4, 2) := dk_21 4 (dk_at dksX2_conditions_3 1 rfl rfl)
theorem dX2_conditions_74 : decode cX2_conditions 74 = .ok (.invokevirtual 498, 3) := dk_182 1 242 (dk_at dksX2_conditions_3 3 rfl rfl)
theorem dX2_conditions_77 : decode cX2_conditions 77 = .ok (.aload_n 0, 1) := dk_42 (dk_at dksX2_conditions_3 6 rfl rfl)
theorem dX2_conditions_78 : decode cX2_conditions 78 = .ok (.ldc_w 462, 3) := dk_19 1 206 (dk_at dksX2_conditions_3 7 rfl rfl)
theorem dX2_conditions_81 : decode cX2_conditions 81 = .ok (.invokevirtual 478, 3) := dk_182 1 222 (dk_at dksX2_conditions_3 10 rfl rfl)
theorem dX2_conditions_84 : decode cX2_conditions 84 = .ok (.ifCond .eq 30, 3) := dk_153 0 30 (dk_at dksX2_conditions_3 13 rfl rfl)
theorem dX2_conditions_87 : decode cX2_conditions 87 = .ok (.aload_n 0, 1) := dk_42 (dk_at dksX2_conditions_3 16 rfl rfl)
theorem dX2_conditions_88 : decode cX2_conditions 88 = .ok (.getfield 117, 3) := dk_180 0 117 (dk_at dksX2_conditions_3 17 rfl rfl)
theorem dX2_conditions_91 : decode cX2_conditions 91 = .ok (.bipush 6, 2) := dk_16 6 (dk_at dksX2_conditions_3 20 rfl rfl)
theorem dX2_conditions_93 : decode cX2_conditions 93 = .ok (.iload_n 1, 1) := dk_27 (dk_at dksX2_conditions_3 22 rfl rfl)
theorem dX2_conditions_94 : decode cX2_conditions 94 = .ok (.imul, 1) := dk_104 (dk_at dksX2_conditions_3 23 rfl rfl)
theorem dX2_conditions_95 : decode cX2_conditions 95 = .ok (.iload_n 3, 1) := dk_29 (dk_at dksX2_conditions_4 0 rfl rfl)
theorem dX2_conditions_96 : decode cX2_conditions 96 = .ok (.iadd, 1) := dk_96 (dk_at dksX2_conditions_4 1 rfl rfl)
theorem dX2_conditions_97 : decode cX2_conditions 97 = .ok (.iconst 0, 1) := dk_3 (dk_at dksX2_conditions_4 2 rfl rfl)
theorem dX2_conditions_98 : decode cX2_conditions 98 = .ok (.iastore, 1) := dk_79 (dk_at dksX2_conditions_4 3 rfl rfl)
theorem dX2_conditions_99 : decode cX2_conditions 99 = .ok (.aload_n 0, 1) := dk_42 (dk_at dksX2_conditions_4 4 rfl rfl)
theorem dX2_conditions_100 : decode cX2_conditions 100 = .ok (.invokevirtual 482, 3) := dk_182 1 226 (dk_at dksX2_conditions_4 5 rfl rfl)
theorem dX2_conditions_103 : decode cX2_conditions 103 = .ok (.aload_n 0, 1) := dk_42 (dk_at dksX2_conditions_4 8 rfl rfl)
theorem dX2_conditions_104 : decode cX2_conditions 104 = .ok (.iload 4, 2) := dk_21 4 (dk_at dksX2_conditions_4 9 rfl rfl)
theorem dX2_conditions_106 : decode cX2_conditions 106 = .ok (.iconst 1, 1) := dk_4 (dk_at dksX2_conditions_4 11 rfl rfl)
theorem dX2_conditions_107 : decode cX2_conditions 107 = .ok (.iadd, 1) := dk_96 (dk_at dksX2_conditions_4 12 rfl rfl)
theorem dX2_conditions_108 : decode cX2_conditions 108 = .ok (.invokevirtual 498, 3) := dk_182 1 242 (dk_at dksX2_conditions_4 13 rfl rfl)
theorem dX2_conditions_111 : decode cX2_conditions 111 = .ok (.goto 74, 3) := dk_167 0 74 (dk_at dksX2_conditions_4 16 rfl rfl)
theorem dX2_conditions_114 : decode cX2_conditions 114 = .ok (.aload_n 0, 1) := dk_42 (dk_at dksX2_conditions_4 19 rfl rfl)
theorem dX2_conditions_115 : decode cX2_conditions 115 = .ok (.ldc_w 466, 3) := dk_19 1 210 (dk_at dksX2_conditions_4 20 rfl rfl)
theorem dX2_conditions_118 : decode cX2_conditions 118 = .ok (.invokevirtual 478, 3) := dk_182 1 222 (dk_at dksX2_conditions_5 0 rfl rfl)
theorem dX2_conditions_121 : decode cX2_conditions 121 = .ok (.ifCond .eq 30, 3) := dk_153 0 30 (dk_at dksX2_conditions_5 3 rfl rfl)
theorem dX2_conditions_124 : decode cX2_conditions 124 = .ok (.aload_n 0, 1) := dk_42 (dk_at dksX2_conditions_5 6 rfl rfl)
theorem dX2_conditions_125 : decode cX2_conditions 125 = .ok (.getfield 117, 3) := dk_180 0 117 (dk_at dksX2_conditions_5 7 rfl rfl)
theorem dX2_conditions_128 : decode cX2_conditions 128 = .ok (.bipush 6, 2) := dk_16 6 (dk_at dksX2_conditions_5 10 rfl rfl)
theorem dX2_conditions_130 : decode cX2_conditions 130 = .ok (.iload_n 1, 1) := dk_27 (dk_at dksX2_conditions_5 12 rfl rfl)
theorem dX2_conditions_131 : decode cX2_conditions 131 = .ok (.imul, 1) := dk_104 (dk_at dksX2_conditions_5 13 rfl rfl)
theorem dX2_conditions_132 : decode cX2_conditions 132 = .ok (.iload_n 3, 1) := dk_29 (dk_at dksX2_conditions_5 14 rfl rfl)
theorem dX2_conditions_133 : decode cX2_conditions 133 = .ok (.iadd, 1) := dk_96 (dk_at dksX2_conditions_5 15 rfl rfl)
theorem dX2_conditions_134 : decode cX2_conditions 134 = .ok (.iconst 1, 1) := dk_4 (dk_at dksX2_conditions_5 16 rfl rfl)
theorem dX2_conditions_135 : decode cX2_conditions 135 = .ok (.iastore, 1) := dk_79 (dk_at dksX2_conditions_5 17 rfl rfl)
theorem dX2_conditions_136 : decode cX2_conditions 136 = .ok (.aload_n 0, 1) := dk_42 (dk_at dksX2_conditions_5 18 rfl rfl)
theorem dX2_conditions_137 : decode cX2_conditions 137 = .ok (.invokevirtual 482, 3) := dk_182 1 226 (dk_at dksX2_conditions_5 19 rfl rfl)
theorem dX2_conditions_140 : decode cX2_conditions 140 = .ok (.aload_n 0, 1) := dk_42 (dk_at dksX2_conditions_5 22 rfl rfl)
theorem dX2_conditions_141 : decode cX2_conditions 141 = .ok (.iload 4, 2) := dk_21 4 (dk_at dksX2_conditions_6 0 rfl rfl)
theorem dX2_conditions_143 : decode cX2_conditions 143 = .ok (.iconst 1, 1) := dk_4 (dk_at dksX2_conditions_6 2 rfl rfl)
theorem dX2_conditions_144 : decode cX2_conditions 144 = .ok (.iadd, 1) := dk_96 (dk_at dksX2_conditions_6 3 rfl rfl)
theorem dX2_conditions_145 : decode cX2_conditions 145 = .ok (.invokevirtual 498, 3) := dk_182 1 242 (dk_at dksX2_conditions_6 4 rfl rfl)
theorem dX2_conditions_148 : decode cX2_conditions 148 = .ok (.goto 37, 3) := dk_167 0 37 (dk_at dksX2_conditions_6 7 rfl rfl)
theorem dX2_conditions_151 : decode cX2_conditions 151 = .ok (.aload_n 0, 1) := dk_42 (dk_at dksX2_conditions_6 10 rfl rfl)
theorem dX2_conditions_152 : decode cX2_conditions 152 = .ok (.ldc_w 458, 3) := dk_19 1 202 (dk_at dksX2_conditions_6 11 rfl rfl)
theorem dX2_conditions_155 : decode cX2_conditions 155 = .ok (.invokevirtual 502, 3) := dk_182 1 246 (dk_at dksX2_conditions_6 14 rfl rfl)
theorem dX2_conditions_158 : decode cX2_conditions 158 = .ok (.aload_n 0, 1) := dk_42 (dk_at dksX2_conditions_6 17 rfl rfl)
theorem dX2_conditions_159 : decode cX2_conditions 159 = .ok (.getfield 117, 3) := dk_180 0 117 (dk_at dksX2_conditions_6 18 rfl rfl)
theorem dX2_conditions_162 : decode cX2_conditions 162 = .ok (.bipush 6, 2) := dk_16 6 (dk_at dksX2_conditions_6 21 rfl rfl)
theorem dX2_conditions_164 : decode cX2_conditions 164 = .ok (.iload_n 1, 1) := dk_27 (dk_at dksX2_conditions_6 23 rfl rfl)
theorem dX2_conditions_165 : decode cX2_conditions 165 = .ok (.imul, 1) := dk_104 (dk_at dksX2_conditions_7 0 rfl rfl)
theorem dX2_conditions_166 : decode cX2_conditions 166 = .ok (.iload_n 3, 1) := dk_29 (dk_at dksX2_conditions_7 1 rfl rfl)
theorem dX2_conditions_167 : decode cX2_conditions 167 = .ok (.iadd, 1) := dk_96 (dk_at dksX2_conditions_7 2 rfl rfl)
theorem dX2_conditions_168 : decode cX2_conditions 168 = .ok (.iconst 2, 1) := dk_5 (dk_at dksX2_conditions_7 3 rfl rfl)
theorem dX2_conditions_169 : decode cX2_conditions 169 = .ok (.iastore, 1) := dk_79 (dk_at dksX2_conditions_7 4 rfl rfl)
theorem dX2_conditions_170 : decode cX2_conditions 170 = .ok (.aload_n 0, 1) := dk_42 (dk_at dksX2_conditions_7 5 rfl rfl)
theorem dX2_conditions_171 : decode cX2_conditions 171 = .ok (.getfield 120, 3) := dk_180 0 120 (dk_at dksX2_conditions_7 6 rfl rfl)
theorem dX2_conditions_174 : decode cX2_conditions 174 = .ok (.bipush 6, 2) := dk_16 6 (dk_at dksX2_conditions_7 9 rfl rfl)
theorem dX2_conditions_176 : decode cX2_conditions 176 = .ok (.iload_n 1, 1) := dk_27 (dk_at dksX2_conditions_7 11 rfl rfl)
theorem dX2_conditions_177 : decode cX2_conditions 177 = .ok (.imul, 1) := dk_104 (dk_at dksX2_conditions_7 12 rfl rfl)
theorem dX2_conditions_178 : decode cX2_conditions 178 = .ok (.iload_n 3, 1) := dk_29 (dk_at dksX2_conditions_7 13 rfl rfl)
theorem dX2_conditions_179 : decode cX2_conditions 179 = .ok (.iadd, 1) := dk_96 (dk_at dksX2_conditions_7 14 rfl rfl)
theorem dX2_conditions_180 : decode cX2_conditions 180 = .ok (.aload_n 0, 1) := dk_42 (dk_at dksX2_conditions_7 15 rfl rfl)
theorem dX2_conditions_181 : decode cX2_conditions 181 = .ok (.invokevirtual 506, 3) := dk_182 1 250 (dk_at dksX2_conditions_7 16 rfl rfl)
theorem dX2_conditions_184 : decode cX2_conditions 184 = .ok (.iastore, 1) := dk_79 (dk_at dksX2_conditions_7 19 rfl rfl)
theorem dX2_conditions_185 : decode cX2_conditions 185 = .ok (.aload_n 0, 1) := dk_42 (dk_at dksX2_conditions_7 20 rfl rfl)
theorem dX2_conditions_186 : decode cX2_conditions 186 = .ok (.getfield 123, 3) := dk_180 0 123 (dk_at dksX2_conditions_7 21 rfl rfl)
theorem dX2_conditions_189 : decode cX2_conditions 189 = .ok (.iload_n 1, 1) := dk_27 (dk_at dksX2_conditions_8 0 rfl rfl)
theorem dX2_conditions_190 : decode cX2_conditions 190 = .ok (.dup2, 1) := dk_92 (dk_at dksX2_conditions_8 1 rfl rfl)
theorem dX2_conditions_191 : decode cX2_conditions 191 = .ok (.iaload, 1) := dk_46 (dk_at dksX2_conditions_8 2 rfl rfl)
theorem dX2_conditions_192 : decode cX2_conditions 192 = .ok (.iconst 1, 1) := dk_4 (dk_at dksX2_conditions_8 3 rfl rfl)
theorem dX2_conditions_193 : decode cX2_conditions 193 = .ok (.iadd, 1) := dk_96 (dk_at dksX2_conditions_8 4 rfl rfl)
theorem dX2_conditions_194 : decode cX2_conditions 194 = .ok (.iastore, 1) := dk_79 (dk_at dksX2_conditions_8 5 rfl rfl)
theorem dX2_conditions_195 : decode cX2_conditions 195 = .ok (.aload_n 0, 1) := dk_42 (dk_at dksX2_conditions_8 6 rfl rfl)
theorem dX2_conditions_196 : decode cX2_conditions 196 = .ok (.ldc_w 470, 3) := dk_19 1 214 (dk_at dksX2_conditions_8 7 rfl rfl)
theorem dX2_conditions_199 : decode cX2_conditions 199 = .ok (.invokevirtual 478, 3) := dk_182 1 222 (dk_at dksX2_conditions_8 10 rfl rfl)
theorem dX2_conditions_202 : decode cX2_conditions 202 = .ok (.istore_n 2, 1) := dk_61 (dk_at dksX2_conditions_8 13 rfl rfl)
theorem dX2_conditions_203 : decode cX2_conditions 203 = .ok (.iload_n 2, 1) := dk_28 (dk_at dksX2_conditions_8 14 rfl rfl)
theorem dX2_conditions_204 : decode cX2_conditions 204 = .ok (.ifCond .eq 7, 3) := dk_153 0 7 (dk_at dksX2_conditions_8 15 rfl rfl)
theorem dX2_conditions_207 : decode cX2_conditions 207 = .ok (.aload_n 0, 1) := dk_42 (dk_at dksX2_conditions_8 18 rfl rfl)
theorem dX2_conditions_208 : decode cX2_conditions 208 = .ok (.invokevirtual 482, 3) := dk_182 1 226 (dk_at dksX2_conditions_8 19 rfl rfl)
theorem dX2_conditions_211 : decode cX2_conditions 211 = .ok (.goto (-205), 3) := dk_167 255 51 (dk_at dksX2_conditions_9 0 rfl rfl)
theorem dX2_conditions_214 : decode cX2_conditions 214 = .ok (.return_, 1) := dk_177 (dk_at dksX2_conditions_9 3 rfl rfl)
abbrev cX2_readSorts : ByteArray := prog_4_method_40_code
def yX2_readSorts : MethodName := ⟨RX2, "readSorts", "()V"⟩
def dkwX2_readSorts_10 : List UInt8 := [177]
abbrev dktX2_readSorts_10 : List UInt8 := dkwX2_readSorts_10 ++ []
def dkwX2_readSorts_9 : List UInt8 := [61, 21, 6, 2, 160, 0, 7, 2, 167, 0, 8, 16, 254, 21, 6, 100, 54, 4, 132, 5, 1, 167, 255, 169]
abbrev dktX2_readSorts_9 : List UInt8 := dkwX2_readSorts_9 ++ dktX2_readSorts_10
def dkwX2_readSorts_8 : List UInt8 := [167, 0, 4, 28, 61, 167, 0, 37, 21, 4, 155, 0, 11, 42, 29, 28, 21, 4, 182, 2, 112, 28, 62, 3]
abbrev dktX2_readSorts_8 : List UInt8 := dkwX2_readSorts_8 ++ dktX2_readSorts_9
def dkwX2_readSorts_7 : List UInt8 := [155, 0, 30, 42, 21, 6, 182, 2, 109, 54, 7, 21, 7, 155, 0, 12, 28, 4, 21, 7, 120, 128]
abbrev dktX2_readSorts_7 : List UInt8 := dkwX2_readSorts_7 ++ dktX2_readSorts_8
def dkwX2_readSorts_6 : List UInt8 := [54, 5, 21, 5, 42, 180, 2, 20, 162, 0, 84, 42, 180, 0, 56, 21, 5, 46, 54, 6, 21, 6]
abbrev dktX2_readSorts_6 : List UInt8 := dkwX2_readSorts_6 ++ dktX2_readSorts_7
def dkwX2_readSorts_5 : List UInt8 := [42, 180, 0, 129, 28, 4, 28, 120, 79, 132, 2, 1, 167, 255, 236, 3, 61, 3, 62, 2, 54, 4, 3]
abbrev dktX2_readSorts_5 : List UInt8 := dkwX2_readSorts_5 ++ dktX2_readSorts_6
def dkwX2_readSorts_4 : List UInt8 := [132, 1, 1, 132, 2, 1, 167, 255, 159, 42, 27, 181, 2, 9, 3, 61, 28, 42, 180, 2, 9, 162, 0, 18]
abbrev dktX2_readSorts_4 : List UInt8 := dkwX2_readSorts_4 ++ dktX2_readSorts_5
def dkwX2_readSorts_3 : List UInt8 := [180, 0, 33, 42, 180, 0, 53, 28, 46, 46, 182, 2, 99, 167, 0, 13, 42, 180, 0, 126, 27, 29, 79]
abbrev dktX2_readSorts_3 : List UInt8 := dkwX2_readSorts_3 ++ dktX2_readSorts_4
def dkwX2_readSorts_2 : List UInt8 := [160, 0, 7, 4, 167, 0, 4, 3, 54, 4, 132, 5, 1, 167, 255, 224, 21, 4, 153, 0, 22, 42, 6, 42]
abbrev dktX2_readSorts_2 : List UInt8 := dkwX2_readSorts_2 ++ dktX2_readSorts_3
def dkwX2_readSorts_1 : List UInt8 := [54, 4, 3, 54, 5, 21, 5, 27, 162, 0, 32, 21, 4, 154, 0, 14, 42, 180, 0, 126, 21, 5, 46, 29]
abbrev dktX2_readSorts_1 : List UInt8 := dkwX2_readSorts_1 ++ dktX2_readSorts_2
def dkwX2_readSorts_0 : List UInt8 := [3, 60, 3, 61, 28, 42, 180, 2, 9, 162, 0, 95, 42, 42, 180, 0, 53, 28, 46, 182, 2, 106, 62, 3]
abbrev dktX2_readSorts_0 : List UInt8 := dkwX2_readSorts_0 ++ dktX2_readSorts_1
theorem dksX2_readSorts_0 : cX2_readSorts.data.toList.drop 0 = dktX2_readSorts_0 := by decide +kernel
theorem dksX2_readSorts_1 : cX2_readSorts.data.toList.drop 24 = dktX2_readSorts_1 := dk_seg dksX2_readSorts_0 24 rfl rfl
theorem dksX2_readSorts_2 : cX2_readSorts.data.toList.drop 48 = dktX2_readSorts_2 := dk_seg dksX2_readSorts_1 24 rfl rfl
theorem dksX2_readSorts_3 : cX2_readSorts.data.toList.drop 72 = dktX2_readSorts_3 := dk_seg dksX2_readSorts_2 24 rfl rfl
theorem dksX2_readSorts_4 : cX2_readSorts.data.toList.drop 95 = dktX2_readSorts_4 := dk_seg dksX2_readSorts_3 23 rfl rfl
theorem dksX2_readSorts_5 : cX2_readSorts.data.toList.drop 119 = dktX2_readSorts_5 := dk_seg dksX2_readSorts_4 24 rfl rfl
theorem dksX2_readSorts_6 : cX2_readSorts.data.toList.drop 142 = dktX2_readSorts_6 := dk_seg dksX2_readSorts_5 23 rfl rfl
theorem dksX2_readSorts_7 : cX2_readSorts.data.toList.drop 164 = dktX2_readSorts_7 := dk_seg dksX2_readSorts_6 22 rfl rfl
theorem dksX2_readSorts_8 : cX2_readSorts.data.toList.drop 186 = dktX2_readSorts_8 := dk_seg dksX2_readSorts_7 22 rfl rfl
theorem dksX2_readSorts_9 : cX2_readSorts.data.toList.drop 210 = dktX2_readSorts_9 := dk_seg dksX2_readSorts_8 24 rfl rfl
theorem dksX2_readSorts_10 : cX2_readSorts.data.toList.drop 234 = dktX2_readSorts_10 := dk_seg dksX2_readSorts_9 24 rfl rfl
theorem dX2_readSorts_0 : decode cX2_readSorts 0 = .ok (.iconst 0, 1) := dk_3 (dk_at dksX2_readSorts_0 0 rfl rfl)
theorem dX2_readSorts_1 : decode cX2_readSorts 1 = .ok (.istore_n 1, 1) := dk_60 (dk_at dksX2_readSorts_0 1 rfl rfl)
theorem dX2_readSorts_2 : decode cX2_readSorts 2 = .ok (.iconst 0, 1) := dk_3 (dk_at dksX2_readSorts_0 2 rfl rfl)
theorem dX2_readSorts_3 : decode cX2_readSorts 3 = .ok (.istore_n 2, 1) := dk_61 (dk_at dksX2_readSorts_0 3 rfl rfl)
theorem dX2_readSorts_4 : decode cX2_readSorts 4 = .ok (.iload_n 2, 1) := dk_28 (dk_at dksX2_readSorts_0 4 rfl rfl)
theorem dX2_readSorts_5 : decode cX2_readSorts 5 = .ok (.aload_n 0, 1) := dk_42 (dk_at dksX2_readSorts_0 5 rfl rfl)
theorem dX2_readSorts_6 : decode cX2_readSorts 6 = .ok (.getfield 521, 3) := dk_180 2 9 (dk_at dksX2_readSorts_0 6 rfl rfl)
theorem dX2_readSorts_9 : decode cX2_readSorts 9 = .ok (.if_icmp .ge 95, 3) := dk_162 0 95 (dk_at dksX2_readSorts_0 9 rfl rfl)
theorem dX2_readSorts_12 : decode cX2_readSorts 12 = .ok (.aload_n 0, 1) := dk_42 (dk_at dksX2_readSorts_0 12 rfl rfl)
theorem dX2_readSorts_13 : decode cX2_readSorts 13 = .ok (.aload_n 0, 1) := dk_42 (dk_at dksX2_readSorts_0 13 rfl rfl)
theorem dX2_readSorts_14 : decode cX2_readSorts 14 = .ok (.getfield 53, 3) := dk_180 0 53 (dk_at dksX2_readSorts_0 14 rfl rfl)
theorem dX2_readSorts_17 : decode cX2_readSorts 17 = .ok (.iload_n 2, 1) := dk_28 (dk_at dksX2_readSorts_0 17 rfl rfl)
theorem dX2_readSorts_18 : decode cX2_readSorts 18 = .ok (.iaload, 1) := dk_46 (dk_at dksX2_readSorts_0 18 rfl rfl)
theorem dX2_readSorts_19 : decode cX2_readSorts 19 = .ok (.invokevirtual 618, 3) := dk_182 2 106 (dk_at dksX2_readSorts_0 19 rfl rfl)
theorem dX2_readSorts_22 : decode cX2_readSorts 22 = .ok (.istore_n 3, 1) := dk_62 (dk_at dksX2_readSorts_0 22 rfl rfl)
theorem dX2_readSorts_23 : decode cX2_readSorts 23 = .ok (.iconst 0, 1) := dk_3 (dk_at dksX2_readSorts_0 23 rfl rfl)
theorem dX2_readSorts_24 : decode cX2_readSorts 24 = .ok (.istore 4, 2) := dk_54 4 (dk_at dksX2_readSorts_1 0 rfl rfl)
theorem dX2_readSorts_26 : decode cX2_readSorts 26 = .ok (.iconst 0, 1) := dk_3 (dk_at dksX2_readSorts_1 2 rfl rfl)
theorem dX2_readSorts_27 : decode cX2_readSorts 27 = .ok (.istore 5, 2) := dk_54 5 (dk_at dksX2_readSorts_1 3 rfl rfl)
theorem dX2_readSorts_29 : decode cX2_readSorts 29 = .ok (.iload 5, 2) := dk_21 5 (dk_at dksX2_readSorts_1 5 rfl rfl)
theorem dX2_readSorts_31 : decode cX2_readSorts 31 = .ok (.iload_n 1, 1) := dk_27 (dk_at dksX2_readSorts_1 7 rfl rfl)
theorem dX2_readSorts_32 : decode cX2_readSorts 32 = .ok (.if_icmp .ge 32, 3) := dk_162 0 32 (dk_at dksX2_readSorts_1 8 rfl rfl)
theorem dX2_readSorts_35 : decode cX2_readSorts 35 = .ok (.iload 4, 2) := dk_21 4 (dk_at dksX2_readSorts_1 11 rfl rfl)
theorem dX2_readSorts_37 : decode cX2_readSorts 37 = .ok (.ifCond .ne 14, 3) := dk_154 0 14 (dk_at dksX2_readSorts_1 13 rfl rfl)
theorem dX2_readSorts_40 : decode cX2_readSorts 40 = .ok (.aload_n 0, 1) := dk_42 (dk_at dksX2_readSorts_1 16 rfl rfl)
theorem dX2_readSorts_41 : decode cX2_readSorts 41 = .ok (.getfield 126, 3) := dk_180 0 126 (dk_at dksX2_readSorts_1 17 rfl rfl)
theorem dX2_readSorts_44 : decode cX2_readSorts 44 = .ok (.iload 5, 2) := dk_21 5 (dk_at dksX2_readSorts_1 20 rfl rfl)
theorem dX2_readSorts_46 : decode cX2_readSorts 46 = .ok (.iaload, 1) := dk_46 (dk_at dksX2_readSorts_1 22 rfl rfl)
theorem dX2_readSorts_47 : decode cX2_readSorts 47 = .ok (.iload_n 3, 1) := dk_29 (dk_at dksX2_readSorts_1 23 rfl rfl)
theorem dX2_readSorts_48 : decode cX2_readSorts 48 = .ok (.if_icmp .ne 7, 3) := dk_160 0 7 (dk_at dksX2_readSorts_2 0 rfl rfl)
theorem dX2_readSorts_51 : decode cX2_readSorts 51 = .ok (.iconst 1, 1) := dk_4 (dk_at dksX2_readSorts_2 3 rfl rfl)
theorem dX2_readSorts_52 : decode cX2_readSorts 52 = .ok (.goto 4, 3) := dk_167 0 4 (dk_at dksX2_readSorts_2 4 rfl rfl)
theorem dX2_readSorts_55 : decode cX2_readSorts 55 = .ok (.iconst 0, 1) := dk_3 (dk_at dksX2_readSorts_2 7 rfl rfl)
theorem dX2_readSorts_56 : decode cX2_readSorts 56 = .ok (.istore 4, 2) := dk_54 4 (dk_at dksX2_readSorts_2 8 rfl rfl)
theorem dX2_readSorts_58 : decode cX2_readSorts 58 = .ok (.iinc 5 1, 3) := dk_132 5 1 (dk_at dksX2_readSorts_2 10 rfl rfl)
theorem dX2_readSorts_61 : decode cX2_readSorts 61 = .ok (.goto (-32), 3) := dk_167 255 224 (dk_at dksX2_readSorts_2 13 rfl rfl)
theorem dX2_readSorts_64 : decode cX2_readSorts 64 = .ok (.iload 4, 2) := dk_21 4 (dk_at dksX2_readSorts_2 16 rfl rfl)
theorem dX2_readSorts_66 : decode cX2_readSorts 66 = .ok (.ifCond .eq 22, 3) := dk_153 0 22 (dk_at dksX2_readSorts_2 18 rfl rfl)
theorem dX2_readSorts_69 : decode cX2_readSorts 69 = .ok (.aload_n 0, 1) := dk_42 (dk_at dksX2_readSorts_2 21 rfl rfl)
theorem dX2_readSorts_70 : decode cX2_readSorts 70 = .ok (.iconst 3, 1) := dk_6 (dk_at dksX2_readSorts_2 22 rfl rfl)
theorem dX2_readSorts_71 : decode cX2_readSorts 71 = .ok (.aload_n 0, 1) := dk_42 (dk_at dksX2_readSorts_2 23 rfl rfl)
theorem dX2_readSorts_72 : decode cX2_readSorts 72 = .ok (.getfield 33, 3) := dk_180 0 33 (dk_at dksX2_readSorts_3 0 rfl rfl)
theorem dX2_readSorts_75 : decode cX2_readSorts 75 = .ok (.aload_n 0, 1) := dk_42 (dk_at dksX2_readSorts_3 3 rfl rfl)
theorem dX2_readSorts_76 : decode cX2_readSorts 76 = .ok (.getfield 53, 3) := dk_180 0 53 (dk_at dksX2_readSorts_3 4 rfl rfl)
theorem dX2_readSorts_79 : decode cX2_readSorts 79 = .ok (.iload_n 2, 1) := dk_28 (dk_at dksX2_readSorts_3 7 rfl rfl)
theorem dX2_readSorts_80 : decode cX2_readSorts 80 = .ok (.iaload, 1) := dk_46 (dk_at dksX2_readSorts_3 8 rfl rfl)
theorem dX2_readSorts_81 : decode cX2_readSorts 81 = .ok (.iaload, 1) := dk_46 (dk_at dksX2_readSorts_3 9 rfl rfl)
theorem dX2_readSorts_82 : decode cX2_readSorts 82 = .ok (.invokevirtual 611, 3) := dk_182 2 99 (dk_at dksX2_readSorts_3 10 rfl rfl)
theorem dX2_readSorts_85 : decode cX2_readSorts 85 = .ok (.goto 13, 3) := dk_167 0 13 (dk_at dksX2_readSorts_3 13 rfl rfl)
theorem dX2_readSorts_88 : decode cX2_readSorts 88 = .ok (.aload_n 0, 1) := dk_42 (dk_at dksX2_readSorts_3 16 rfl rfl)
theorem dX2_readSorts_89 : decode cX2_readSorts 89 = .ok (.getfield 126, 3) := dk_180 0 126 (dk_at dksX2_readSorts_3 17 rfl rfl)
theorem dX2_readSorts_92 : decode cX2_readSorts 92 = .ok (.iload_n 1, 1) := dk_27 (dk_at dksX2_readSorts_3 20 rfl rfl)
theorem dX2_readSorts_93 : decode cX2_readSorts 93 = .ok (.iload_n 3, 1) := dk_29 (dk_at dksX2_readSorts_3 21 rfl rfl)
theorem dX2_readSorts_94 : decode cX2_readSorts 94 = .ok (.iastore, 1) := dk_79 (dk_at dksX2_readSorts_3 22 rfl rfl)
theorem dX2_readSorts_95 : decode cX2_readSorts 95 = .ok (.iinc 1 1, 3) := dk_132 1 1 (dk_at dksX2_readSorts_4 0 rfl rfl)
theorem dX2_readSorts_98 : decode cX2_readSorts 98 = .ok (.iinc 2 1, 3) := dk_132 2 1 (dk_at dksX2_readSorts_4 3 rfl rfl)
theorem dX2_readSorts_101 : decode cX2_readSorts 101 = .ok (.goto (-97), 3) := dk_167 255 159 (dk_at dksX2_readSorts_4 6 rfl rfl)
theorem dX2_readSorts_104 : decode cX2_readSorts 104 = .ok (.aload_n 0, 1) := dk_42 (dk_at dksX2_readSorts_4 9 rfl rfl)
theorem dX2_readSorts_105 : decode cX2_readSorts 105 = .ok (.iload_n 1, 1) := dk_27 (dk_at dksX2_readSorts_4 10 rfl rfl)
theorem dX2_readSorts_106 : decode cX2_readSorts 106 = .ok (.putfield 521, 3) := dk_181 2 9 (dk_at dksX2_readSorts_4 11 rfl rfl)
theorem dX2_readSorts_109 : decode cX2_readSorts 109 = .ok (.iconst 0, 1) := dk_3 (dk_at dksX2_readSorts_4 14 rfl rfl)
theorem dX2_readSorts_110 : decode cX2_readSorts 110 = .ok (.istore_n 2, 1) := dk_61 (dk_at dksX2_readSorts_4 15 rfl rfl)
theorem dX2_readSorts_111 : decode cX2_readSorts 111 = .ok (.iload_n 2, 1) := dk_28 (dk_at dksX2_readSorts_4 16 rfl rfl)
theorem dX2_readSorts_112 : decode cX2_readSorts 112 = .ok (.aload_n 0, 1) := dk_42 (dk_at dksX2_readSorts_4 17 rfl rfl)
theorem dX2_readSorts_113 : decode cX2_readSorts 113 = .ok (.getfield 521, 3) := dk_180 2 9 (dk_at dksX2_readSorts_4 18 rfl rfl)
theorem dX2_readSorts_116 : decode cX2_readSorts 116 = .ok (.if_icmp .ge 18, 3) := dk_162 0 18 (dk_at dksX2_readSorts_4 21 rfl rfl)
theorem dX2_readSorts_119 : decode cX2_readSorts 119 = .ok (.aload_n 0, 1) := dk_42 (dk_at dksX2_readSorts_5 0 rfl rfl)
theorem dX2_readSorts_120 : decode cX2_readSorts 120 = .ok (.getfield 129, 3) := dk_180 0 129 (dk_at dksX2_readSorts_5 1 rfl rfl)
theorem dX2_readSorts_123 : decode cX2_readSorts 123 = .ok (.iload_n 2, 1) := dk_28 (dk_at dksX2_readSorts_5 4 rfl rfl)
theorem dX2_readSorts_124 : decode cX2_readSorts 124 = .ok (.iconst 1, 1) := dk_4 (dk_at dksX2_readSorts_5 5 rfl rfl)
theorem dX2_readSorts_125 : decode cX2_readSorts 125 = .ok (.iload_n 2, 1) := dk_28 (dk_at dksX2_readSorts_5 6 rfl rfl)
theorem dX2_readSorts_126 : decode cX2_readSorts 126 = .ok (.ishl, 1) := dk_120 (dk_at dksX2_readSorts_5 7 rfl rfl)
theorem dX2_readSorts_127 : decode cX2_readSorts 127 = .ok (.iastore, 1) := dk_79 (dk_at dksX2_readSorts_5 8 rfl rfl)
theorem dX2_readSorts_128 : decode cX2_readSorts 128 = .ok (.iinc 2 1, 3) := dk_132 2 1 (dk_at dksX2_readSorts_5 9 rfl rfl)
theorem dX2_readSorts_131 : decode cX2_readSorts 131 = .ok (.goto (-20), 3) := dk_167 255 236 (dk_at dksX2_readSorts_5 12 rfl rfl)
theorem dX2_readSorts_134 : decode cX2_readSorts 134 = .ok (.iconst 0, 1) := dk_3 (dk_at dksX2_readSorts_5 15 rfl rfl)
theorem dX2_readSorts_135 : decode cX2_readSorts 135 = .ok (.istore_n 2, 1) := dk_61 (dk_at dksX2_readSorts_5 16 rfl rfl)
theorem dX2_readSorts_136 : decode cX2_readSorts 136 = .ok (.iconst 0, 1) := dk_3 (dk_at dksX2_readSorts_5 17 rfl rfl)
theorem dX2_readSorts_137 : decode cX2_readSorts 137 = .ok (.istore_n 3, 1) := dk_62 (dk_at dksX2_readSorts_5 18 rfl rfl)
theorem dX2_readSorts_138 : decode cX2_readSorts 138 = .ok (.iconst (-1), 1) := dk_2 (dk_at dksX2_readSorts_5 19 rfl rfl)
theorem dX2_readSorts_139 : decode cX2_readSorts 139 = .ok (.istore 4, 2) := dk_54 4 (dk_at dksX2_readSorts_5 20 rfl rfl)
theorem dX2_readSorts_141 : decode cX2_readSorts 141 = .ok (.iconst 0, 1) := dk_3 (dk_at dksX2_readSorts_5 22 rfl rfl)
theorem dX2_readSorts_142 : decode cX2_readSorts 142 = .ok (.istore 5, 2) := dk_54 5 (dk_at dksX2_readSorts_6 0 rfl rfl)
theorem dX2_readSorts_144 : decode cX2_readSorts 144 = .ok (.iload 5, 2) := dk_21 5 (dk_at dksX2_readSorts_6 2 rfl rfl)
theorem dX2_readSorts_146 : decode cX2_readSorts 146 = .ok (.aload_n 0, 1) := dk_42 (dk_at dksX2_readSorts_6 4 rfl rfl)
theorem dX2_readSorts_147 : decode cX2_readSorts 147 = .ok (.getfield 532, 3) := dk_180 2 20 (dk_at dksX2_readSorts_6 5 rfl rfl)
theorem dX2_readSorts_150 : decode cX2_readSorts 150 = .ok (.if_icmp .ge 84, 3) := dk_162 0 84 (dk_at dksX2_readSorts_6 8 rfl rfl)
theorem dX2_readSorts_153 : decode cX2_readSorts 153 = .ok (.aload_n 0, 1) := dk_42 (dk_at dksX2_readSorts_6 11 rfl rfl)
theorem dX2_readSorts_154 : decode cX2_readSorts 154 = .ok (.getfield 56, 3) := dk_180 0 56 (dk_at dksX2_readSorts_6 12 rfl rfl)
theorem dX2_readSorts_157 : decode cX2_readSorts 157 = .ok (.iload 5, 2) := dk_21 5 (dk_at dksX2_readSorts_6 15 rfl rfl)
theorem dX2_readSorts_159 : decode cX2_readSorts 159 = .ok (.iaload, 1) := dk_46 (dk_at dksX2_readSorts_6 17 rfl rfl)
theorem dX2_readSorts_160 : decode cX2_readSorts 160 = .ok (.istore 6, 2) := dk_54 6 (dk_at dksX2_readSorts_6 18 rfl rfl)
theorem dX2_readSorts_162 : decode cX2_readSorts 162 = .ok (.iload 6, 2) := dk_21 6 (dk_at dksX2_readSorts_6 20 rfl rfl)
theorem dX2_readSorts_164 : decode cX2_readSorts 164 = .ok (.ifCond .lt 30, 3) := dk_155 0 30 (dk_at dksX2_readSorts_7 0 rfl rfl)
theorem dX2_readSorts_167 : decode cX2_readSorts 167 = .ok (.aload_n 0, 1) := dk_42 (dk_at dksX2_readSorts_7 3 rfl rfl)
theorem dX2_readSorts_168 : decode cX2_readSorts 168 = .ok (.iload 6, 2) := dk_21 6 (dk_at dksX2_readSorts_7 4 rfl rfl)
theorem dX2_readSorts_170 : decode cX2_readSorts 170 = .ok (.invokevirtual 621, 3) := dk_182 2 109 (dk_at dksX2_readSorts_7 6 rfl rfl)
theorem dX2_readSorts_173 : decode cX2_readSorts 173 = .ok (.istore 7, 2) := dk_54 7 (dk_at dksX2_readSorts_7 9 rfl rfl)
theorem dX2_readSorts_175 : decode cX2_readSorts 175 = .ok (.iload 7, 2) := dk_21 7 (dk_at dksX2_readSorts_7 11 rfl rfl)
theorem dX2_readSorts_177 : decode cX2_readSorts 177 = .ok (.ifCond .lt 12, 3) := dk_155 0 12 (dk_at dksX2_readSorts_7 13 rfl rfl)
theorem dX2_readSorts_180 : decode cX2_readSorts 180 = .ok (.iload_n 2, 1) := dk_28 (dk_at dksX2_readSorts_7 16 rfl rfl)
theorem dX2_readSorts_181 : decode cX2_readSorts 181 = .ok (.iconst 1, 1) := dk_4 (dk_at dksX2_readSorts_7 17 rfl rfl)
theorem dX2_readSorts_182 : decode cX2_readSorts 182 = .ok (.iload 7, 2) := dk_21 7 (dk_at dksX2_readSorts_7 18 rfl rfl)
theorem dX2_readSorts_184 : decode cX2_readSorts 184 = .ok (.ishl, 1) := dk_120 (dk_at dksX2_readSorts_7 20 rfl rfl)
theorem dX2_readSorts_185 : decode cX2_readSorts 185 = .ok (.ior, 1) := dk_128 (dk_at dksX2_readSorts_7 21 rfl rfl)
theorem dX2_readSorts_186 : decode cX2_readSorts 186 = .ok (.goto 4, 3) := dk_167 0 4 (dk_at dksX2_readSorts_8 0 rfl rfl)
theorem dX2_readSorts_189 : decode cX2_readSorts 189 = .ok (.iload_n 2, 1) := dk_28 (dk_at dksX2_readSorts_8 3 rfl rfl)
theorem dX2_readSorts_190 : decode cX2_readSorts 190 = .ok (.istore_n 2, 1) := dk_61 (dk_at dksX2_readSorts_8 4 rfl rfl)
theorem dX2_readSorts_191 : decode cX2_readSorts 191 = .ok (.goto 37, 3) := dk_167 0 37 (dk_at dksX2_readSorts_8 5 rfl rfl)
theorem dX2_readSorts_194 : decode cX2_readSorts 194 = .ok (.iload 4, 2) := dk_21 4 (dk_at dksX2_readSorts_8 8 rfl rfl)
theorem dX2_readSorts_196 : decode cX2_readSorts 196 = .ok (.ifCond .lt 11, 3) := dk_155 0 11 (dk_at dksX2_readSorts_8 10 rfl rfl)
theorem dX2_readSorts_199 : decode cX2_readSorts 199 = .ok (.aload_n 0, 1) := dk_42 (dk_at dksX2_readSorts_8 13 rfl rfl)
theorem dX2_readSorts_200 : decode cX2_readSorts 200 = .ok (.iload_n 3, 1) := dk_29 (dk_at dksX2_readSorts_8 14 rfl rfl)
theorem dX2_readSorts_201 : decode cX2_readSorts 201 = .ok (.iload_n 2, 1) := dk_28 (dk_at dksX2_readSorts_8 15 rfl rfl)
theorem dX2_readSorts_202 : decode cX2_readSorts 202 = .ok (.iload 4, 2) := dk_21 4 (dk_at dksX2_readSorts_8 16 rfl rfl)
theorem dX2_readSorts_204 : decode cX2_readSorts 204 = .ok (.invokevirtual 624, 3) := dk_182 2 112 (dk_at dksX2_readSorts_8 18 rfl rfl)
theorem dX2_readSorts_207 : decode cX2_readSorts 207 = .ok (.iload_n 2, 1) := dk_28 (dk_at dksX2_readSorts_8 21 rfl rfl)
theorem dX2_readSorts_208 : decode cX2_readSorts 208 = .ok (.istore_n 3, 1) := dk_62 (dk_at dksX2_readSorts_8 22 rfl rfl)
theorem dX2_readSorts_209 : decode cX2_readSorts 209 = .ok (.iconst 0, 1) := dk_3 (dk_at dksX2_readSorts_8 23 rfl rfl)
theorem dX2_readSorts_210 : decode cX2_readSorts 210 = .ok (.istore_n 2, 1) := dk_61 (dk_at dksX2_readSorts_9 0 rfl rfl)
theorem dX2_readSorts_211 : decode cX2_readSorts 211 = .ok (.iload 6, 2) := dk_21 6 (dk_at dksX2_readSorts_9 1 rfl rfl)
theorem dX2_readSorts_213 : decode cX2_readSorts 213 = .ok (.iconst (-1), 1) := dk_2 (dk_at dksX2_readSorts_9 3 rfl rfl)
theorem dX2_readSorts_214 : decode cX2_readSorts 214 = .ok (.if_icmp .ne 7, 3) := dk_160 0 7 (dk_at dksX2_readSorts_9 4 rfl rfl)
theorem dX2_readSorts_217 : decode cX2_readSorts 217 = .ok (.iconst (-1), 1) := dk_2 (dk_at dksX2_readSorts_9 7 rfl rfl)
theorem dX2_readSorts_218 : decode cX2_readSorts 218 = .ok (.goto 8, 3) := dk_167 0 8 (dk_at dksX2_readSorts_9 8 rfl rfl)
theorem dX2_readSorts_221 : decode cX2_readSorts 221 = .ok (.bipush (-2), 2) := dk_16 254 (dk_at dksX2_readSorts_9 11 rfl rfl)
theorem dX2_readSorts_223 : decode cX2_readSorts 223 = .ok (.iload 6, 2) := dk_21 6 (dk_at dksX2_readSorts_9 13 rfl rfl)
theorem dX2_readSorts_225 : decode cX2_readSorts 225 = .ok (.isub, 1) := dk_100 (dk_at dksX2_readSorts_9 15 rfl rfl)
theorem dX2_readSorts_226 : decode cX2_readSorts 226 = .ok (.istore 4, 2) := dk_54 4 (dk_at dksX2_readSorts_9 16 rfl rfl)
theorem dX2_readSorts_228 : decode cX2_readSorts 228 = .ok (.iinc 5 1, 3) := dk_132 5 1 (dk_at dksX2_readSorts_9 18 rfl rfl)
theorem dX2_readSorts_231 : decode cX2_readSorts 231 = .ok (.goto (-87), 3) := dk_167 255 169 (dk_at dksX2_readSorts_9 21 rfl rfl)
theorem dX2_readSorts_234 : decode cX2_readSorts 234 = .ok (.return_, 1) := dk_177 (dk_at dksX2_readSorts_10 0 rfl rfl)
abbrev cX2_nameOf : ByteArray := prog_4_method_22_code
def yX2_nameOf : MethodName := ⟨RX2, "nameOf", "(I)I"⟩
def dkwX2_nameOf_0 : List UInt8 := [42, 42, 180, 0, 33, 27, 46, 42, 180, 0, 37, 27, 46, 182, 1, 239, 172]
abbrev dktX2_nameOf_0 : List UInt8 := dkwX2_nameOf_0 ++ []
theorem dksX2_nameOf_0 : cX2_nameOf.data.toList.drop 0 = dktX2_nameOf_0 := by decide +kernel
theorem dX2_nameOf_0 : decode cX2_nameOf 0 = .ok (.aload_n 0, 1) := dk_42 (dk_at dksX2_nameOf_0 0 rfl rfl)
theorem dX2_nameOf_1 : decode cX2_nameOf 1 = .ok (.aload_n 0, 1) := dk_42 (dk_at dksX2_nameOf_0 1 rfl rfl)
theorem dX2_nameOf_2 : decode cX2_nameOf 2 = .ok (.getfield 33, 3) := dk_180 0 33 (dk_at dksX2_nameOf_0 2 rfl rfl)
theorem dX2_nameOf_5 : decode cX2_nameOf 5 = .ok (.iload_n 1, 1) := dk_27 (dk_at dksX2_nameOf_0 5 rfl rfl)
theorem dX2_nameOf_6 : decode cX2_nameOf 6 = .ok (.iaload, 1) := dk_46 (dk_at dksX2_nameOf_0 6 rfl rfl)
theorem dX2_nameOf_7 : decode cX2_nameOf 7 = .ok (.aload_n 0, 1) := dk_42 (dk_at dksX2_nameOf_0 7 rfl rfl)
theorem dX2_nameOf_8 : decode cX2_nameOf 8 = .ok (.getfield 37, 3) := dk_180 0 37 (dk_at dksX2_nameOf_0 8 rfl rfl)
theorem dX2_nameOf_11 : decode cX2_nameOf 11 = .ok (.iload_n 1, 1) := dk_27 (dk_at dksX2_nameOf_0 11 rfl rfl)
theorem dX2_nameOf_12 : decode cX2_nameOf 12 = .ok (.iaload, 1) := dk_46 (dk_at dksX2_nameOf_0 12 rfl rfl)
theorem dX2_nameOf_13 : decode cX2_nameOf 13 = .ok (.invokevirtual 495, 3) := dk_182 1 239 (dk_at dksX2_nameOf_0 13 rfl rfl)
theorem dX2_nameOf_16 : decode cX2_nameOf 16 = .ok (.ireturn, 1) := dk_172 (dk_at dksX2_nameOf_0 16 rfl rfl)
abbrev cX2_name : ByteArray := prog_4_method_21_code
def yX2_name : MethodName := ⟨RX2, "name", "(II)I"⟩
def dkwX2_name_3 : List UInt8 := [172]
abbrev dktX2_name_3 : List UInt8 := dkwX2_name_3 ++ []
def dkwX2_name_2 : List UInt8 := [132, 4, 1, 167, 255, 226, 42, 180, 0, 50, 29, 28, 79, 42, 89, 180, 1, 232, 4, 96, 181, 1, 232, 29]
abbrev dktX2_name_2 : List UInt8 := dkwX2_name_2 ++ dktX2_name_3
def dkwX2_name_1 : List UInt8 := [162, 0, 30, 42, 180, 0, 47, 16, 16, 29, 104, 21, 4, 96, 42, 180, 0, 30, 27, 21, 4, 96, 51, 84]
abbrev dktX2_name_1 : List UInt8 := dkwX2_name_1 ++ dktX2_name_2
def dkwX2_name_0 : List UInt8 := [42, 27, 28, 182, 1, 235, 62, 29, 156, 0, 61, 42, 180, 1, 232, 62, 3, 54, 4, 21, 4, 28]
abbrev dktX2_name_0 : List UInt8 := dkwX2_name_0 ++ dktX2_name_1
theorem dksX2_name_0 : cX2_name.data.toList.drop 0 = dktX2_name_0 := by decide +kernel
theorem dksX2_name_1 : cX2_name.data.toList.drop 22 = dktX2_name_1 := dk_seg dksX2_name_0 22 rfl rfl
theorem dksX2_name_2 : cX2_name.data.toList.drop 46 = dktX2_name_2 := dk_seg dksX2_name_1 24 rfl rfl
theorem dksX2_name_3 : cX2_name.data.toList.drop 70 = dktX2_name_3 := dk_seg dksX2_name_2 24 rfl rfl
theorem dX2_name_0 : decode cX2_name 0 = .ok (.aload_n 0, 1) := dk_42 (dk_at dksX2_name_0 0 rfl rfl)
theorem dX2_name_1 : decode cX2_name 1 = .ok (.iload_n 1, 1) := dk_27 (dk_at dksX2_name_0 1 rfl rfl)
theorem dX2_name_2 : decode cX2_name 2 = .ok (.iload_n 2, 1) := dk_28 (dk_at dksX2_name_0 2 rfl rfl)
theorem dX2_name_3 : decode cX2_name 3 = .ok (.invokevirtual 491, 3) := dk_182 1 235 (dk_at dksX2_name_0 3 rfl rfl)
theorem dX2_name_6 : decode cX2_name 6 = .ok (.istore_n 3, 1) := dk_62 (dk_at dksX2_name_0 6 rfl rfl)
theorem dX2_name_7 : decode cX2_name 7 = .ok (.iload_n 3, 1) := dk_29 (dk_at dksX2_name_0 7 rfl rfl)
theorem dX2_name_8 : decode cX2_name 8 = .ok (.ifCond .ge 61, 3) := dk_156 0 61 (dk_at dksX2_name_0 8 rfl rfl)
theorem dX2_name_11 : decode cX2_name 11 = .ok (.aload_n 0, 1) := dk_42 (dk_at dksX2_name_0 11 rfl rfl)
theorem dX2_name_12 : decode cX2_name 12 = .ok (.getfield 488, 3) := dk_180 1 232 (dk_at dksX2_name_0 12 rfl rfl)
theorem dX2_name_15 : decode cX2_name 15 = .ok (.istore_n 3, 1) := dk_62 (dk_at dksX2_name_0 15 rfl rfl)
theorem dX2_name_16 : decode cX2_name 16 = .ok (.iconst 0, 1) := dk_3 (dk_at dksX2_name_0 16 rfl rfl)
theorem dX2_name_17 : decode cX2_name 17 = .ok (.istore 4, 2) := dk_54 4 (dk_at dksX2_name_0 17 rfl rfl)
theorem dX2_name_19 : decode cX2_name 19 = .ok (.iload 4, 2) := dk_21 4 (dk_at dksX2_name_0 19 rfl rfl)
theorem dX2_name_21 : decode cX2_name 21 = .ok (.iload_n 2, 1) := dk_28 (dk_at dksX2_name_0 21 rfl rfl)
theorem dX2_name_22 : decode cX2_name 22 = .ok (.if_icmp .ge 30, 3) := dk_162 0 30 (dk_at dksX2_name_1 0 rfl rfl)
theorem dX2_name_25 : decode cX2_name 25 = .ok (.aload_n 0, 1) := dk_42 (dk_at dksX2_name_1 3 rfl rfl)
theorem dX2_name_26 : decode cX2_name 26 = .ok (.getfield 47, 3) := dk_180 0 47 (dk_at dksX2_name_1 4 rfl rfl)
theorem dX2_name_29 : decode cX2_name 29 = .ok (.bipush 16, 2) := dk_16 16 (dk_at dksX2_name_1 7 rfl rfl)
theorem dX2_name_31 : decode cX2_name 31 = .ok (.iload_n 3, 1) := dk_29 (dk_at dksX2_name_1 9 rfl rfl)
theorem dX2_name_32 : decode cX2_name 32 = .ok (.imul, 1) := dk_104 (dk_at dksX2_name_1 10 rfl rfl)
theorem dX2_name_33 : decode cX2_name 33 = .ok (.iload 4, 2) := dk_21 4 (dk_at dksX2_name_1 11 rfl rfl)
theorem dX2_name_35 : decode cX2_name 35 = .ok (.iadd, 1) := dk_96 (dk_at dksX2_name_1 13 rfl rfl)
theorem dX2_name_36 : decode cX2_name 36 = .ok (.aload_n 0, 1) := dk_42 (dk_at dksX2_name_1 14 rfl rfl)
theorem dX2_name_37 : decode cX2_name 37 = .ok (.getfield 30, 3) := dk_180 0 30 (dk_at dksX2_name_1 15 rfl rfl)
theorem dX2_name_40 : decode cX2_name 40 = .ok (.iload_n 1, 1) := dk_27 (dk_at dksX2_name_1 18 rfl rfl)
theorem dX2_name_41 : decode cX2_name 41 = .ok (.iload 4, 2) := dk_21 4 (dk_at dksX2_name_1 19 rfl rfl)
theorem dX2_name_43 : decode cX2_name 43 = .ok (.iadd, 1) := dk_96 (dk_at dksX2_name_1 21 rfl rfl)
theorem dX2_name_44 : decode cX2_name 44 = .ok (.baload, 1) := dk_51 (dk_at dksX2_name_1 22 rfl rfl)
theorem dX2_name_45 : decode cX2_name 45 = .ok (.bastore, 1) := dk_84 (dk_at dksX2_name_1 23 rfl rfl)
theorem dX2_name_46 : decode cX2_name 46 = .ok (.iinc 4 1, 3) := dk_132 4 1 (dk_at dksX2_name_2 0 rfl rfl)
theorem dX2_name_49 : decode cX2_name 49 = .ok (.goto (-30), 3) := dk_167 255 226 (dk_at dksX2_name_2 3 rfl rfl)
theorem dX2_name_52 : decode cX2_name 52 = .ok (.aload_n 0, 1) := dk_42 (dk_at dksX2_name_2 6 rfl rfl)
theorem dX2_name_53 : decode cX2_name 53 = .ok (.getfield 50, 3) := dk_180 0 50 (dk_at dksX2_name_2 7 rfl rfl)
theorem dX2_name_56 : decode cX2_name 56 = .ok (.iload_n 3, 1) := dk_29 (dk_at dksX2_name_2 10 rfl rfl)
theorem dX2_name_57 : decode cX2_name 57 = .ok (.iload_n 2, 1) := dk_28 (dk_at dksX2_name_2 11 rfl rfl)
theorem dX2_name_58 : decode cX2_name 58 = .ok (.iastore, 1) := dk_79 (dk_at dksX2_name_2 12 rfl rfl)
theorem dX2_name_59 : decode cX2_name 59 = .ok (.aload_n 0, 1) := dk_42 (dk_at dksX2_name_2 13 rfl rfl)
theorem dX2_name_60 : decode cX2_name 60 = .ok (.dup, 1) := dk_89 (dk_at dksX2_name_2 14 rfl rfl)
theorem dX2_name_61 : decode cX2_name 61 = .ok (.getfield 488, 3) := dk_180 1 232 (dk_at dksX2_name_2 15 rfl rfl)
theorem dX2_name_64 : decode cX2_name 64 = .ok (.iconst 1, 1) := dk_4 (dk_at dksX2_name_2 18 rfl rfl)
theorem dX2_name_65 : decode cX2_name 65 = .ok (.iadd, 1) := dk_96 (dk_at dksX2_name_2 19 rfl rfl)
theorem dX2_name_66 : decode cX2_name 66 = .ok (.putfield 488, 3) := dk_181 1 232 (dk_at dksX2_name_2 20 rfl rfl)
theorem dX2_name_69 : decode cX2_name 69 = .ok (.iload_n 3, 1) := dk_29 (dk_at dksX2_name_2 23 rfl rfl)
theorem dX2_name_70 : decode cX2_name 70 = .ok (.ireturn, 1) := dk_172 (dk_at dksX2_name_3 0 rfl rfl)
abbrev cX2_findName : ByteArray := prog_4_method_20_code
def yX2_findName : MethodName := ⟨RX2, "findName", "(II)I"⟩
def dkwX2_findName_3 : List UInt8 := [132, 5, 1, 167, 255, 211, 21, 4, 153, 0, 5, 29, 172, 132, 3, 1, 167, 255, 170, 16, 254, 172]
abbrev dktX2_findName_3 : List UInt8 := dkwX2_findName_3 ++ []
def dkwX2_findName_2 : List UInt8 := [104, 21, 5, 96, 51, 42, 180, 0, 30, 27, 21, 5, 96, 51, 160, 0, 7, 4, 167, 0, 4, 3, 54, 4]
abbrev dktX2_findName_2 : List UInt8 := dkwX2_findName_2 ++ dktX2_findName_3
def dkwX2_findName_1 : List UInt8 := [3, 54, 4, 3, 54, 5, 21, 5, 28, 162, 0, 45, 21, 4, 153, 0, 40, 42, 180, 0, 47, 16, 16, 29]
abbrev dktX2_findName_1 : List UInt8 := dkwX2_findName_1 ++ dktX2_findName_2
def dkwX2_findName_0 : List UInt8 := [3, 62, 29, 42, 180, 1, 232, 162, 0, 84, 42, 180, 0, 50, 29, 46, 28, 160, 0, 7, 4, 167, 0, 4]
abbrev dktX2_findName_0 : List UInt8 := dkwX2_findName_0 ++ dktX2_findName_1
theorem dksX2_findName_0 : cX2_findName.data.toList.drop 0 = dktX2_findName_0 := by decide +kernel
theorem dksX2_findName_1 : cX2_findName.data.toList.drop 24 = dktX2_findName_1 := dk_seg dksX2_findName_0 24 rfl rfl
theorem dksX2_findName_2 : cX2_findName.data.toList.drop 48 = dktX2_findName_2 := dk_seg dksX2_findName_1 24 rfl rfl
theorem dksX2_findName_3 : cX2_findName.data.toList.drop 72 = dktX2_findName_3 := dk_seg dksX2_findName_2 24 rfl rfl
theorem dX2_findName_0 : decode cX2_findName 0 = .ok (.iconst 0, 1) := dk_3 (dk_at dksX2_findName_0 0 rfl rfl)
theorem dX2_findName_1 : decode cX2_findName 1 = .ok (.istore_n 3, 1) := dk_62 (dk_at dksX2_findName_0 1 rfl rfl)
theorem dX2_findName_2 : decode cX2_findName 2 = .ok (.iload_n 3, 1) := dk_29 (dk_at dksX2_findName_0 2 rfl rfl)
theorem dX2_findName_3 : decode cX2_findName 3 = .ok (.aload_n 0, 1) := dk_42 (dk_at dksX2_findName_0 3 rfl rfl)
theorem dX2_findName_4 : decode cX2_findName 4 = .ok (.getfield 488, 3) := dk_180 1 232 (dk_at dksX2_findName_0 4 rfl rfl)
theorem dX2_findName_7 : decode cX2_findName 7 = .ok (.if_icmp .ge 84, 3) := dk_162 0 84 (dk_at dksX2_findName_0 7 rfl rfl)
theorem dX2_findName_10 : decode cX2_findName 10 = .ok (.aload_n 0, 1) := dk_42 (dk_at dksX2_findName_0 10 rfl rfl)
theorem dX2_findName_11 : decode cX2_findName 11 = .ok (.getfield 50, 3) := dk_180 0 50 (dk_at dksX2_findName_0 11 rfl rfl)
theorem dX2_findName_14 : decode cX2_findName 14 = .ok (.iload_n 3, 1) := dk_29 (dk_at dksX2_findName_0 14 rfl rfl)
theorem dX2_findName_15 : decode cX2_findName 15 = .ok (.iaload, 1) := dk_46 (dk_at dksX2_findName_0 15 rfl rfl)
theorem dX2_findName_16 : decode cX2_findName 16 = .ok (.iload_n 2, 1) := dk_28 (dk_at dksX2_findName_0 16 rfl rfl)
theorem dX2_findName_17 : decode cX2_findName 17 = .ok (.if_icmp .ne 7, 3) := dk_160 0 7 (dk_at dksX2_findName_0 17 rfl rfl)
theorem dX2_findName_20 : decode cX2_findName 20 = .ok (.iconst 1, 1) := dk_4 (dk_at dksX2_findName_0 20 rfl rfl)
theorem dX2_findName_21 : decode cX2_findName 21 = .ok (.goto 4, 3) := dk_167 0 4 (dk_at dksX2_findName_0 21 rfl rfl)
theorem dX2_findName_24 : decode cX2_findName 24 = .ok (.iconst 0, 1) := dk_3 (dk_at dksX2_findName_1 0 rfl rfl)
theorem dX2_findName_25 : decode cX2_findName 25 = .ok (.istore 4, 2) := dk_54 4 (dk_at dksX2_findName_1 1 rfl rfl)
theorem dX2_findName_27 : decode cX2_findName 27 = .ok (.iconst 0, 1) := dk_3 (dk_at dksX2_findName_1 3 rfl rfl)
theorem dX2_findName_28 : decode cX2_findName 28 = .ok (.istore 5, 2) := dk_54 5 (dk_at dksX2_findName_1 4 rfl rfl)
theorem dX2_findName_30 : decode cX2_findName 30 = .ok (.iload 5, 2) := dk_21 5 (dk_at dksX2_findName_1 6 rfl rfl)
theorem dX2_findName_32 : decode cX2_findName 32 = .ok (.iload_n 2, 1) := dk_28 (dk_at dksX2_findName_1 8 rfl rfl)
theorem dX2_findName_33 : decode cX2_findName 33 = .ok (.if_icmp .ge 45, 3) := dk_162 0 45 (dk_at dksX2_findName_1 9 rfl rfl)
theorem dX2_findName_36 : decode cX2_findName 36 = .ok (.iload 4, 2) := dk_21 4 (dk_at dksX2_findName_1 12 rfl rfl)
theorem dX2_findName_38 : decode cX2_findName 38 = .ok (.ifCond .eq 40, 3) := dk_153 0 40 (dk_at dksX2_findName_1 14 rfl rfl)
theorem dX2_findName_41 : decode cX2_findName 41 = .ok (.aload_n 0, 1) := dk_42 (dk_at dksX2_findName_1 17 rfl rfl)
theorem dX2_findName_42 : decode cX2_findName 42 = .ok (.getfield 47, 3) := dk_180 0 47 (dk_at dksX2_findName_1 18 rfl rfl)
theorem dX2_findName_45 : decode cX2_findName 45 = .ok (.bipush 16, 2) := dk_16 16 (dk_at dksX2_findName_1 21 rfl rfl)
theorem dX2_findName_47 : decode cX2_findName 47 = .ok (.iload_n 3, 1) := dk_29 (dk_at dksX2_findName_1 23 rfl rfl)
theorem dX2_findName_48 : decode cX2_findName 48 = .ok (.imul, 1) := dk_104 (dk_at dksX2_findName_2 0 rfl rfl)
theorem dX2_findName_49 : decode cX2_findName 49 = .ok (.iload 5, 2) := dk_21 5 (dk_at dksX2_findName_2 1 rfl rfl)
theorem dX2_findName_51 : decode cX2_findName 51 = .ok (.iadd, 1) := dk_96 (dk_at dksX2_findName_2 3 rfl rfl)
theorem dX2_findName_52 : decode cX2_findName 52 = .ok (.baload, 1) := dk_51 (dk_at dksX2_findName_2 4 rfl rfl)
theorem dX2_findName_53 : decode cX2_findName 53 = .ok (.aload_n 0, 1) := dk_42 (dk_at dksX2_findName_2 5 rfl rfl)
theorem dX2_findName_54 : decode cX2_findName 54 = .ok (.getfield 30, 3) := dk_180 0 30 (dk_at dksX2_findName_2 6 rfl rfl)
theorem dX2_findName_57 : decode cX2_findName 57 = .ok (.iload_n 1, 1) := dk_27 (dk_at dksX2_findName_2 9 rfl rfl)
theorem dX2_findName_58 : decode cX2_findName 58 = .ok (.iload 5, 2) := dk_21 5 (dk_at dksX2_findName_2 10 rfl rfl)
theorem dX2_findName_60 : decode cX2_findName 60 = .ok (.iadd, 1) := dk_96 (dk_at dksX2_findName_2 12 rfl rfl)
theorem dX2_findName_61 : decode cX2_findName 61 = .ok (.baload, 1) := dk_51 (dk_at dksX2_findName_2 13 rfl rfl)
theorem dX2_findName_62 : decode cX2_findName 62 = .ok (.if_icmp .ne 7, 3) := dk_160 0 7 (dk_at dksX2_findName_2 14 rfl rfl)
theorem dX2_findName_65 : decode cX2_findName 65 = .ok (.iconst 1, 1) := dk_4 (dk_at dksX2_findName_2 17 rfl rfl)
theorem dX2_findName_66 : decode cX2_findName 66 = .ok (.goto 4, 3) := dk_167 0 4 (dk_at dksX2_findName_2 18 rfl rfl)
theorem dX2_findName_69 : decode cX2_findName 69 = .ok (.iconst 0, 1) := dk_3 (dk_at dksX2_findName_2 21 rfl rfl)
theorem dX2_findName_70 : decode cX2_findName 70 = .ok (.istore 4, 2) := dk_54 4 (dk_at dksX2_findName_2 22 rfl rfl)
theorem dX2_findName_72 : decode cX2_findName 72 = .ok (.iinc 5 1, 3) := dk_132 5 1 (dk_at dksX2_findName_3 0 rfl rfl)
theorem dX2_findName_75 : decode cX2_findName 75 = .ok (.goto (-45), 3) := dk_167 255 211 (dk_at dksX2_findName_3 3 rfl rfl)
theorem dX2_findName_78 : decode cX2_findName 78 = .ok (.iload 4, 2) := dk_21 4 (dk_at dksX2_findName_3 6 rfl rfl)
theorem dX2_findName_80 : decode cX2_findName 80 = .ok (.ifCond .eq 5, 3) := dk_153 0 5 (dk_at dksX2_findName_3 8 rfl rfl)
theorem dX2_findName_83 : decode cX2_findName 83 = .ok (.iload_n 3, 1) := dk_29 (dk_at dksX2_findName_3 11 rfl rfl)
theorem dX2_findName_84 : decode cX2_findName 84 = .ok (.ireturn, 1) := dk_172 (dk_at dksX2_findName_3 12 rfl rfl)
theorem dX2_findName_85 : decode cX2_findName 85 = .ok (.iinc 3 1, 3) := dk_132 3 1 (dk_at dksX2_findName_3 13 rfl rfl)
theorem dX2_findName_88 : decode cX2_findName 88 = .ok (.goto (-86), 3) := dk_167 255 170 (dk_at dksX2_findName_3 16 rfl rfl)
theorem dX2_findName_91 : decode cX2_findName 91 = .ok (.bipush (-2), 2) := dk_16 254 (dk_at dksX2_findName_3 19 rfl rfl)
theorem dX2_findName_93 : decode cX2_findName 93 = .ok (.ireturn, 1) := dk_172 (dk_at dksX2_findName_3 21 rfl rfl)
abbrev cX2_blame : ByteArray := prog_4_method_35_code
def yX2_blame : MethodName := ⟨RX2, "blame", "(II)V"⟩
def dkwX2_blame_1 : List UInt8 := [42, 180, 2, 90, 162, 0, 13, 42, 27, 181, 2, 90, 42, 28, 181, 2, 93, 177]
abbrev dktX2_blame_1 : List UInt8 := dkwX2_blame_1 ++ []
def dkwX2_blame_0 : List UInt8 := [42, 180, 2, 90, 153, 0, 27, 28, 42, 180, 2, 93, 161, 0, 19, 28, 42, 180, 2, 93, 160, 0, 21, 27]
abbrev dktX2_blame_0 : List UInt8 := dkwX2_blame_0 ++ dktX2_blame_1
theorem dksX2_blame_0 : cX2_blame.data.toList.drop 0 = dktX2_blame_0 := by decide +kernel
theorem dksX2_blame_1 : cX2_blame.data.toList.drop 24 = dktX2_blame_1 := dk_seg dksX2_blame_0 24 rfl rfl
theorem dX2_blame_0 : decode cX2_blame 0 = .ok (.aload_n 0, 1) := dk_42 (dk_at dksX2_blame_0 0 rfl rfl)
theorem dX2_blame_1 : decode cX2_blame 1 = .ok (.getfield 602, 3) := dk_180 2 90 (dk_at dksX2_blame_0 1 rfl rfl)
theorem dX2_blame_4 : decode cX2_blame 4 = .ok (.ifCond .eq 27, 3) := dk_153 0 27 (dk_at dksX2_blame_0 4 rfl rfl)
theorem dX2_blame_7 : decode cX2_blame 7 = .ok (.iload_n 2, 1) := dk_28 (dk_at dksX2_blame_0 7 rfl rfl)
theorem dX2_blame_8 : decode cX2_blame 8 = .ok (.aload_n 0, 1) := dk_42 (dk_at dksX2_blame_0 8 rfl rfl)
theorem dX2_blame_9 : decode cX2_blame 9 = .ok (.getfield 605, 3) := dk_180 2 93 (dk_at dksX2_blame_0 9 rfl rfl)
theorem dX2_blame_12 : decode cX2_blame 12 = .ok (.if_icmp .lt 19, 3) := dk_161 0 19 (dk_at dksX2_blame_0 12 rfl rfl)
theorem dX2_blame_15 : decode cX2_blame 15 = .ok (.iload_n 2, 1) := dk_28 (dk_at dksX2_blame_0 15 rfl rfl)
theorem dX2_blame_16 : decode cX2_blame 16 = .ok (.aload_n 0, 1) := dk_42 (dk_at dksX2_blame_0 16 rfl rfl)
theorem dX2_blame_17 : decode cX2_blame 17 = .ok (.getfield 605, 3) := dk_180 2 93 (dk_at dksX2_blame_0 17 rfl rfl)
theorem dX2_blame_20 : decode cX2_blame 20 = .ok (.if_icmp .ne 21, 3) := dk_160 0 21 (dk_at dksX2_blame_0 20 rfl rfl)
theorem dX2_blame_23 : decode cX2_blame 23 = .ok (.iload_n 1, 1) := dk_27 (dk_at dksX2_blame_0 23 rfl rfl)
theorem dX2_blame_24 : decode cX2_blame 24 = .ok (.aload_n 0, 1) := dk_42 (dk_at dksX2_blame_1 0 rfl rfl)
theorem dX2_blame_25 : decode cX2_blame 25 = .ok (.getfield 602, 3) := dk_180 2 90 (dk_at dksX2_blame_1 1 rfl rfl)
theorem dX2_blame_28 : decode cX2_blame 28 = .ok (.if_icmp .ge 13, 3) := dk_162 0 13 (dk_at dksX2_blame_1 4 rfl rfl)
theorem dX2_blame_31 : decode cX2_blame 31 = .ok (.aload_n 0, 1) := dk_42 (dk_at dksX2_blame_1 7 rfl rfl)
theorem dX2_blame_32 : decode cX2_blame 32 = .ok (.iload_n 1, 1) := dk_27 (dk_at dksX2_blame_1 8 rfl rfl)
theorem dX2_blame_33 : decode cX2_blame 33 = .ok (.putfield 602, 3) := dk_181 2 90 (dk_at dksX2_blame_1 9 rfl rfl)
theorem dX2_blame_36 : decode cX2_blame 36 = .ok (.aload_n 0, 1) := dk_42 (dk_at dksX2_blame_1 12 rfl rfl)
theorem dX2_blame_37 : decode cX2_blame 37 = .ok (.iload_n 2, 1) := dk_28 (dk_at dksX2_blame_1 13 rfl rfl)
theorem dX2_blame_38 : decode cX2_blame 38 = .ok (.putfield 605, 3) := dk_181 2 93 (dk_at dksX2_blame_1 14 rfl rfl)
theorem dX2_blame_41 : decode cX2_blame 41 = .ok (.return_, 1) := dk_177 (dk_at dksX2_blame_1 17 rfl rfl)
abbrev cX2_sortOrBlame : ByteArray := prog_4_method_37_code
def yX2_sortOrBlame : MethodName := ⟨RX2, "sortOrBlame", "(I)I"⟩
def dkwX2_sortOrBlame_0 : List UInt8 := [42, 27, 182, 2, 96, 61, 28, 156, 0, 14, 42, 7, 42, 180, 0, 33, 27, 46, 182, 2, 99, 28, 172]
abbrev dktX2_sortOrBlame_0 : List UInt8 := dkwX2_sortOrBlame_0 ++ []
theorem dksX2_sortOrBlame_0 : cX2_sortOrBlame.data.toList.drop 0 = dktX2_sortOrBlame_0 := by decide +kernel
theorem dX2_sortOrBlame_0 : decode cX2_sortOrBlame 0 = .ok (.aload_n 0, 1) := dk_42 (dk_at dksX2_sortOrBlame_0 0 rfl rfl)
theorem dX2_sortOrBlame_1 : decode cX2_sortOrBlame 1 = .ok (.iload_n 1, 1) := dk_27 (dk_at dksX2_sortOrBlame_0 1 rfl rfl)
theorem dX2_sortOrBlame_2 : decode cX2_sortOrBlame 2 = .ok (.invokevirtual 608, 3) := dk_182 2 96 (dk_at dksX2_sortOrBlame_0 2 rfl rfl)
theorem dX2_sortOrBlame_5 : decode cX2_sortOrBlame 5 = .ok (.istore_n 2, 1) := dk_61 (dk_at dksX2_sortOrBlame_0 5 rfl rfl)
theorem dX2_sortOrBlame_6 : decode cX2_sortOrBlame 6 = .ok (.iload_n 2, 1) := dk_28 (dk_at dksX2_sortOrBlame_0 6 rfl rfl)
theorem dX2_sortOrBlame_7 : decode cX2_sortOrBlame 7 = .ok (.ifCond .ge 14, 3) := dk_156 0 14 (dk_at dksX2_sortOrBlame_0 7 rfl rfl)
theorem dX2_sortOrBlame_10 : decode cX2_sortOrBlame 10 = .ok (.aload_n 0, 1) := dk_42 (dk_at dksX2_sortOrBlame_0 10 rfl rfl)
theorem dX2_sortOrBlame_11 : decode cX2_sortOrBlame 11 = .ok (.iconst 4, 1) := dk_7 (dk_at dksX2_sortOrBlame_0 11 rfl rfl)
theorem dX2_sortOrBlame_12 : decode cX2_sortOrBlame 12 = .ok (.aload_n 0, 1) := dk_42 (dk_at dksX2_sortOrBlame_0 12 rfl rfl)
theorem dX2_sortOrBlame_13 : decode cX2_sortOrBlame 13 = .ok (.getfield 33, 3) := dk_180 0 33 (dk_at dksX2_sortOrBlame_0 13 rfl rfl)
theorem dX2_sortOrBlame_16 : decode cX2_sortOrBlame 16 = .ok (.iload_n 1, 1) := dk_27 (dk_at dksX2_sortOrBlame_0 16 rfl rfl)
theorem dX2_sortOrBlame_17 : decode cX2_sortOrBlame 17 = .ok (.iaload, 1) := dk_46 (dk_at dksX2_sortOrBlame_0 17 rfl rfl)
theorem dX2_sortOrBlame_18 : decode cX2_sortOrBlame 18 = .ok (.invokevirtual 611, 3) := dk_182 2 99 (dk_at dksX2_sortOrBlame_0 18 rfl rfl)
theorem dX2_sortOrBlame_21 : decode cX2_sortOrBlame 21 = .ok (.iload_n 2, 1) := dk_28 (dk_at dksX2_sortOrBlame_0 21 rfl rfl)
theorem dX2_sortOrBlame_22 : decode cX2_sortOrBlame 22 = .ok (.ireturn, 1) := dk_172 (dk_at dksX2_sortOrBlame_0 22 rfl rfl)
abbrev cX2_findSort : ByteArray := prog_4_method_36_code
def yX2_findSort : MethodName := ⟨RX2, "findSort", "(I)I"⟩
def dkwX2_findSort_2 : List UInt8 := [167, 255, 229, 16, 254, 172]
abbrev dktX2_findSort_2 : List UInt8 := dkwX2_findSort_2 ++ []
def dkwX2_findSort_1 : List UInt8 := [162, 0, 25, 28, 155, 0, 21, 42, 180, 0, 126, 29, 46, 28, 160, 0, 5, 29, 172, 132, 3, 1]
abbrev dktX2_findSort_1 : List UInt8 := dkwX2_findSort_1 ++ dktX2_findSort_2
def dkwX2_findSort_0 : List UInt8 := [42, 42, 180, 0, 33, 27, 46, 42, 180, 0, 37, 27, 46, 182, 1, 235, 61, 3, 62, 29, 42, 180, 2, 9]
abbrev dktX2_findSort_0 : List UInt8 := dkwX2_findSort_0 ++ dktX2_findSort_1
theorem dksX2_findSort_0 : cX2_findSort.data.toList.drop 0 = dktX2_findSort_0 := by decide +kernel
theorem dksX2_findSort_1 : cX2_findSort.data.toList.drop 24 = dktX2_findSort_1 := dk_seg dksX2_findSort_0 24 rfl rfl
theorem dksX2_findSort_2 : cX2_findSort.data.toList.drop 46 = dktX2_findSort_2 := dk_seg dksX2_findSort_1 22 rfl rfl
theorem dX2_findSort_0 : decode cX2_findSort 0 = .ok (.aload_n 0, 1) := dk_42 (dk_at dksX2_findSort_0 0 rfl rfl)
theorem dX2_findSort_1 : decode cX2_findSort 1 = .ok (.aload_n 0, 1) := dk_42 (dk_at dksX2_findSort_0 1 rfl rfl)
theorem dX2_findSort_2 : decode cX2_findSort 2 = .ok (.getfield 33, 3) := dk_180 0 33 (dk_at dksX2_findSort_0 2 rfl rfl)
theorem dX2_findSort_5 : decode cX2_findSort 5 = .ok (.iload_n 1, 1) := dk_27 (dk_at dksX2_findSort_0 5 rfl rfl)
theorem dX2_findSort_6 : decode cX2_findSort 6 = .ok (.iaload, 1) := dk_46 (dk_at dksX2_findSort_0 6 rfl rfl)
theorem dX2_findSort_7 : decode cX2_findSort 7 = .ok (.aload_n 0, 1) := dk_42 (dk_at dksX2_findSort_0 7 rfl rfl)
theorem dX2_findSort_8 : decode cX2_findSort 8 = .ok (.getfield 37, 3) := dk_180 0 37 (dk_at dksX2_findSort_0 8 rfl rfl)
theorem dX2_findSort_11 : decode cX2_findSort 11 = .ok (.iload_n 1, 1) := dk_27 (dk_at dksX2_findSort_0 11 rfl rfl)
theorem dX2_findSort_12 : decode cX2_findSort 12 = .ok (.iaload, 1) := dk_46 (dk_at dksX2_findSort_0 12 rfl rfl)
theorem dX2_findSort_13 : decode cX2_findSort 13 = .ok (.invokevirtual 491, 3) := dk_182 1 235 (dk_at dksX2_findSort_0 13 rfl rfl)
theorem dX2_findSort_16 : decode cX2_findSort 16 = .ok (.istore_n 2, 1) := dk_61 (dk_at dksX2_findSort_0 16 rfl rfl)
theorem dX2_findSort_17 : decode cX2_findSort 17 = .ok (.iconst 0, 1) := dk_3 (dk_at dksX2_findSort_0 17 rfl rfl)
theorem dX2_findSort_18 : decode cX2_findSort 18 = .ok (.istore_n 3, 1) := dk_62 (dk_at dksX2_findSort_0 18 rfl rfl)
theorem dX2_findSort_19 : decode cX2_findSort 19 = .ok (.iload_n 3, 1) := dk_29 (dk_at dksX2_findSort_0 19 rfl rfl)
theorem dX2_findSort_20 : decode cX2_findSort 20 = .ok (.aload_n 0, 1) := dk_42 (dk_at dksX2_findSort_0 20 rfl rfl)
theorem dX2_findSort_21 : decode cX2_findSort 21 = .ok (.getfield 521, 3) := dk_180 2 9 (dk_at dksX2_findSort_0 21 rfl rfl)
theorem dX2_findSort_24 : decode cX2_findSort 24 = .ok (.if_icmp .ge 25, 3) := dk_162 0 25 (dk_at dksX2_findSort_1 0 rfl rfl)
theorem dX2_findSort_27 : decode cX2_findSort 27 = .ok (.iload_n 2, 1) := dk_28 (dk_at dksX2_findSort_1 3 rfl rfl)
theorem dX2_findSort_28 : decode cX2_findSort 28 = .ok (.ifCond .lt 21, 3) := dk_155 0 21 (dk_at dksX2_findSort_1 4 rfl rfl)
theorem dX2_findSort_31 : decode cX2_findSort 31 = .ok (.aload_n 0, 1) := dk_42 (dk_at dksX2_findSort_1 7 rfl rfl)
theorem dX2_findSort_32 : decode cX2_findSort 32 = .ok (.getfield 126, 3) := dk_180 0 126 (dk_at dksX2_findSort_1 8 rfl rfl)
theorem dX2_findSort_35 : decode cX2_findSort 35 = .ok (.iload_n 3, 1) := dk_29 (dk_at dksX2_findSort_1 11 rfl rfl)
theorem dX2_findSort_36 : decode cX2_findSort 36 = .ok (.iaload, 1) := dk_46 (dk_at dksX2_findSort_1 12 rfl rfl)
theorem dX2_findSort_37 : decode cX2_findSort 37 = .ok (.iload_n 2, 1) := dk_28 (dk_at dksX2_findSort_1 13 rfl rfl)
theorem dX2_findSort_38 : decode cX2_findSort 38 = .ok (.if_icmp .ne 5, 3) := dk_160 0 5 (dk_at dksX2_findSort_1 14 rfl rfl)
theorem dX2_findSort_41 : decode cX2_findSort 41 = .ok (.iload_n 3, 1) := dk_29 (dk_at dksX2_findSort_1 17 rfl rfl)
theorem dX2_findSort_42 : decode cX2_findSort 42 = .ok (.ireturn, 1) := dk_172 (dk_at dksX2_findSort_1 18 rfl rfl)
theorem dX2_findSort_43 : decode cX2_findSort 43 = .ok (.iinc 3 1, 3) := dk_132 3 1 (dk_at dksX2_findSort_1 19 rfl rfl)
theorem dX2_findSort_46 : decode cX2_findSort 46 = .ok (.goto (-27), 3) := dk_167 255 229 (dk_at dksX2_findSort_2 0 rfl rfl)
theorem dX2_findSort_49 : decode cX2_findSort 49 = .ok (.bipush (-2), 2) := dk_16 254 (dk_at dksX2_findSort_2 3 rfl rfl)
theorem dX2_findSort_51 : decode cX2_findSort 51 = .ok (.ireturn, 1) := dk_172 (dk_at dksX2_findSort_2 5 rfl rfl)
abbrev cX2_join : ByteArray := prog_4_method_41_code
def yX2_join : MethodName := ⟨RX2, "join", "(III)V"⟩
def dkwX2_join_4 : List UInt8 := [42, 7, 29, 182, 2, 99, 177]
abbrev dktX2_join_4 : List UInt8 := dkwX2_join_4 ++ []
def dkwX2_join_3 : List UInt8 := [21, 5, 21, 6, 182, 2, 116, 132, 6, 1, 167, 255, 193, 132, 5, 1, 167, 255, 175, 21, 4, 153, 0, 9]
abbrev dktX2_join_3 : List UInt8 := dkwX2_join_3 ++ dktX2_join_4
def dkwX2_join_2 : List UInt8 := [21, 4, 154, 0, 14, 42, 21, 6, 21, 5, 182, 2, 102, 153, 0, 7, 4, 167, 0, 4, 3, 54, 4, 42]
abbrev dktX2_join_2 : List UInt8 := dkwX2_join_2 ++ dktX2_join_3
def dkwX2_join_1 : List UInt8 := [162, 0, 60, 27, 21, 5, 122, 4, 126, 4, 160, 0, 44, 28, 21, 6, 122, 4, 126, 4, 160, 0, 34]
abbrev dktX2_join_1 : List UInt8 := dkwX2_join_1 ++ dktX2_join_2
def dkwX2_join_0 : List UInt8 := [3, 54, 4, 3, 54, 5, 21, 5, 42, 180, 2, 9, 162, 0, 78, 3, 54, 6, 21, 6, 42, 180, 2, 9]
abbrev dktX2_join_0 : List UInt8 := dkwX2_join_0 ++ dktX2_join_1
theorem dksX2_join_0 : cX2_join.data.toList.drop 0 = dktX2_join_0 := by decide +kernel
theorem dksX2_join_1 : cX2_join.data.toList.drop 24 = dktX2_join_1 := dk_seg dksX2_join_0 24 rfl rfl
theorem dksX2_join_2 : cX2_join.data.toList.drop 47 = dktX2_join_2 := dk_seg dksX2_join_1 23 rfl rfl
theorem dksX2_join_3 : cX2_join.data.toList.drop 71 = dktX2_join_3 := dk_seg dksX2_join_2 24 rfl rfl
theorem dksX2_join_4 : cX2_join.data.toList.drop 95 = dktX2_join_4 := dk_seg dksX2_join_3 24 rfl rfl
theorem dX2_join_0 : decode cX2_join 0 = .ok (.iconst 0, 1) := dk_3 (dk_at dksX2_join_0 0 rfl rfl)
theorem dX2_join_1 : decode cX2_join 1 = .ok (.istore 4, 2) := dk_54 4 (dk_at dksX2_join_0 1 rfl rfl)
theorem dX2_join_3 : decode cX2_join 3 = .ok (.iconst 0, 1) := dk_3 (dk_at dksX2_join_0 3 rfl rfl)
theorem dX2_join_4 : decode cX2_join 4 = .ok (.istore 5, 2) := dk_54 5 (dk_at dksX2_join_0 4 rfl rfl)
theorem dX2_join_6 : decode cX2_join 6 = .ok (.iload 5, 2) := dk_21 5 (dk_at dksX2_join_0 6 rfl rfl)
theorem dX2_join_8 : decode cX2_join 8 = .ok (.aload_n 0, 1) := dk_42 (dk_at dksX2_join_0 8 rfl rfl)
theorem dX2_join_9 : decode cX2_join 9 = .ok (.getfield 521, 3) := dk_180 2 9 (dk_at dksX2_join_0 9 rfl rfl)
theorem dX2_join_12 : decode cX2_join 12 = .ok (.if_icmp .ge 78, 3) := dk_162 0 78 (dk_at dksX2_join_0 12 rfl rfl)
theorem dX2_join_15 : decode cX2_join 15 = .ok (.iconst 0, 1) := dk_3 (dk_at dksX2_join_0 15 rfl rfl)
theorem dX2_join_16 : decode cX2_join 16 = .ok (.istore 6, 2) := dk_54 6 (dk_at dksX2_join_0 16 rfl rfl)
theorem dX2_join_18 : decode cX2_join 18 = .ok (.iload 6, 2) := dk_21 6 (dk_at dksX2_join_0 18 rfl rfl)
theorem dX2_join_20 : decode cX2_join 20 = .ok (.aload_n 0, 1) := dk_42 (dk_at dksX2_join_0 20 rfl rfl)
theorem dX2_join_21 : decode cX2_join 21 = .ok (.getfield 521, 3) := dk_180 2 9 (dk_at dksX2_join_0 21 rfl rfl)
theorem dX2_join_24 : decode cX2_join 24 = .ok (.if_icmp .ge 60, 3) := dk_162 0 60 (dk_at dksX2_join_1 0 rfl rfl)
theorem dX2_join_27 : decode cX2_join 27 = .ok (.iload_n 1, 1) := dk_27 (dk_at dksX2_join_1 3 rfl rfl)
theorem dX2_join_28 : decode cX2_join 28 = .ok (.iload 5, 2) := dk_21 5 (dk_at dksX2_join_1 4 rfl rfl)
theorem dX2_join_30 : decode cX2_join 30 = .ok (.ishr, 1) := dk_122 (dk_at dksX2_join_1 6 rfl rfl)
theorem dX2_join_31 : decode cX2_join 31 = .ok (.iconst 1, 1) := dk_4 (dk_at dksX2_join_1 7 rfl rfl)
theorem dX2_join_32 : decode cX2_join 32 = .ok (.iand, 1) := dk_126 (dk_at dksX2_join_1 8 rfl rfl)
theorem dX2_join_33 : decode cX2_join 33 = .ok (.iconst 1, 1) := dk_4 (dk_at dksX2_join_1 9 rfl rfl)
theorem dX2_join_34 : decode cX2_join 34 = .ok (.if_icmp .ne 44, 3) := dk_160 0 44 (dk_at dksX2_join_1 10 rfl rfl)
theorem dX2_join_37 : decode cX2_join 37 = .ok (.iload_n 2, 1) := dk_28 (dk_at dksX2_join_1 13 rfl rfl)
theorem dX2_join_38 : decode cX2_join 38 = .ok (.iload 6, 2) := dk_21 6 (dk_at dksX2_join_1 14 rfl rfl)
theorem dX2_join_40 : decode cX2_join 40 = .ok (.ishr, 1) := dk_122 (dk_at dksX2_join_1 16 rfl rfl)
theorem dX2_join_41 : decode cX2_join 41 = .ok (.iconst 1, 1) := dk_4 (dk_at dksX2_join_1 17 rfl rfl)
theorem dX2_join_42 : decode cX2_join 42 = .ok (.iand, 1) := dk_126 (dk_at dksX2_join_1 18 rfl rfl)
theorem dX2_join_43 : decode cX2_join 43 = .ok (.iconst 1, 1) := dk_4 (dk_at dksX2_join_1 19 rfl rfl)
theorem dX2_join_44 : decode cX2_join 44 = .ok (.if_icmp .ne 34, 3) := dk_160 0 34 (dk_at dksX2_join_1 20 rfl rfl)
theorem dX2_join_47 : decode cX2_join 47 = .ok (.iload 4, 2) := dk_21 4 (dk_at dksX2_join_2 0 rfl rfl)
theorem dX2_join_49 : decode cX2_join 49 = .ok (.ifCond .ne 14, 3) := dk_154 0 14 (dk_at dksX2_join_2 2 rfl rfl)
theorem dX2_join_52 : decode cX2_join 52 = .ok (.aload_n 0, 1) := dk_42 (dk_at dksX2_join_2 5 rfl rfl)
theorem dX2_join_53 : decode cX2_join 53 = .ok (.iload 6, 2) := dk_21 6 (dk_at dksX2_join_2 6 rfl rfl)
theorem dX2_join_55 : decode cX2_join 55 = .ok (.iload 5, 2) := dk_21 5 (dk_at dksX2_join_2 8 rfl rfl)
theorem dX2_join_57 : decode cX2_join 57 = .ok (.invokevirtual 614, 3) := dk_182 2 102 (dk_at dksX2_join_2 10 rfl rfl)
theorem dX2_join_60 : decode cX2_join 60 = .ok (.ifCond .eq 7, 3) := dk_153 0 7 (dk_at dksX2_join_2 13 rfl rfl)
theorem dX2_join_63 : decode cX2_join 63 = .ok (.iconst 1, 1) := dk_4 (dk_at dksX2_join_2 16 rfl rfl)
theorem dX2_join_64 : decode cX2_join 64 = .ok (.goto 4, 3) := dk_167 0 4 (dk_at dksX2_join_2 17 rfl rfl)
theorem dX2_join_67 : decode cX2_join 67 = .ok (.iconst 0, 1) := dk_3 (dk_at dksX2_join_2 20 rfl rfl)
theorem dX2_join_68 : decode cX2_join 68 = .ok (.istore 4, 2) := dk_54 4 (dk_at dksX2_join_2 21 rfl rfl)
theorem dX2_join_70 : decode cX2_join 70 = .ok (.aload_n 0, 1) := dk_42 (dk_at dksX2_join_2 23 rfl rfl)
theorem dX2_join_71 : decode cX2_join 71 = .ok (.iload 5, 2) := dk_21 5 (dk_at dksX2_join_3 0 rfl rfl)
theorem dX2_join_73 : decode cX2_join 73 = .ok (.iload 6, 2) := dk_21 6 (dk_at dksX2_join_3 2 rfl rfl)
theorem dX2_join_75 : decode cX2_join 75 = .ok (.invokevirtual 628, 3) := dk_182 2 116 (dk_at dksX2_join_3 4 rfl rfl)
theorem dX2_join_78 : decode cX2_join 78 = .ok (.iinc 6 1, 3) := dk_132 6 1 (dk_at dksX2_join_3 7 rfl rfl)
theorem dX2_join_81 : decode cX2_join 81 = .ok (.goto (-63), 3) := dk_167 255 193 (dk_at dksX2_join_3 10 rfl rfl)
theorem dX2_join_84 : decode cX2_join 84 = .ok (.iinc 5 1, 3) := dk_132 5 1 (dk_at dksX2_join_3 13 rfl rfl)
theorem dX2_join_87 : decode cX2_join 87 = .ok (.goto (-81), 3) := dk_167 255 175 (dk_at dksX2_join_3 16 rfl rfl)
theorem dX2_join_90 : decode cX2_join 90 = .ok (.iload 4, 2) := dk_21 4 (dk_at dksX2_join_3 19 rfl rfl)
theorem dX2_join_92 : decode cX2_join 92 = .ok (.ifCond .eq 9, 3) := dk_153 0 9 (dk_at dksX2_join_3 21 rfl rfl)
theorem dX2_join_95 : decode cX2_join 95 = .ok (.aload_n 0, 1) := dk_42 (dk_at dksX2_join_4 0 rfl rfl)
theorem dX2_join_96 : decode cX2_join 96 = .ok (.iconst 4, 1) := dk_7 (dk_at dksX2_join_4 1 rfl rfl)
theorem dX2_join_97 : decode cX2_join 97 = .ok (.iload_n 3, 1) := dk_29 (dk_at dksX2_join_4 2 rfl rfl)
theorem dX2_join_98 : decode cX2_join 98 = .ok (.invokevirtual 611, 3) := dk_182 2 99 (dk_at dksX2_join_4 3 rfl rfl)
theorem dX2_join_101 : decode cX2_join 101 = .ok (.return_, 1) := dk_177 (dk_at dksX2_join_4 6 rfl rfl)
abbrev cX2_isBelow : ByteArray := prog_4_method_38_code
def yX2_isBelow : MethodName := ⟨RX2, "isBelow", "(II)Z"⟩
def dkwX2_isBelow_0 : List UInt8 := [42, 180, 0, 129, 27, 46, 28, 122, 4, 126, 4, 160, 0, 7, 4, 167, 0, 4, 3, 172]
abbrev dktX2_isBelow_0 : List UInt8 := dkwX2_isBelow_0 ++ []
theorem dksX2_isBelow_0 : cX2_isBelow.data.toList.drop 0 = dktX2_isBelow_0 := by decide +kernel
theorem dX2_isBelow_0 : decode cX2_isBelow 0 = .ok (.aload_n 0, 1) := dk_42 (dk_at dksX2_isBelow_0 0 rfl rfl)
theorem dX2_isBelow_1 : decode cX2_isBelow 1 = .ok (.getfield 129, 3) := dk_180 0 129 (dk_at dksX2_isBelow_0 1 rfl rfl)
theorem dX2_isBelow_4 : decode cX2_isBelow 4 = .ok (.iload_n 1, 1) := dk_27 (dk_at dksX2_isBelow_0 4 rfl rfl)
theorem dX2_isBelow_5 : decode cX2_isBelow 5 = .ok (.iaload, 1) := dk_46 (dk_at dksX2_isBelow_0 5 rfl rfl)
theorem dX2_isBelow_6 : decode cX2_isBelow 6 = .ok (.iload_n 2, 1) := dk_28 (dk_at dksX2_isBelow_0 6 rfl rfl)
theorem dX2_isBelow_7 : decode cX2_isBelow 7 = .ok (.ishr, 1) := dk_122 (dk_at dksX2_isBelow_0 7 rfl rfl)
theorem dX2_isBelow_8 : decode cX2_isBelow 8 = .ok (.iconst 1, 1) := dk_4 (dk_at dksX2_isBelow_0 8 rfl rfl)
theorem dX2_isBelow_9 : decode cX2_isBelow 9 = .ok (.iand, 1) := dk_126 (dk_at dksX2_isBelow_0 9 rfl rfl)
theorem dX2_isBelow_10 : decode cX2_isBelow 10 = .ok (.iconst 1, 1) := dk_4 (dk_at dksX2_isBelow_0 10 rfl rfl)
theorem dX2_isBelow_11 : decode cX2_isBelow 11 = .ok (.if_icmp .ne 7, 3) := dk_160 0 7 (dk_at dksX2_isBelow_0 11 rfl rfl)
theorem dX2_isBelow_14 : decode cX2_isBelow 14 = .ok (.iconst 1, 1) := dk_4 (dk_at dksX2_isBelow_0 14 rfl rfl)
theorem dX2_isBelow_15 : decode cX2_isBelow 15 = .ok (.goto 4, 3) := dk_167 0 4 (dk_at dksX2_isBelow_0 15 rfl rfl)
theorem dX2_isBelow_18 : decode cX2_isBelow 18 = .ok (.iconst 0, 1) := dk_3 (dk_at dksX2_isBelow_0 18 rfl rfl)
theorem dX2_isBelow_19 : decode cX2_isBelow 19 = .ok (.ireturn, 1) := dk_172 (dk_at dksX2_isBelow_0 19 rfl rfl)
abbrev cX2_addOrder : ByteArray := prog_4_method_39_code
def yX2_addOrder : MethodName := ⟨RX2, "addOrder", "(II)V"⟩
def dkwX2_addOrder_1 : List UInt8 := [42, 180, 0, 129, 29, 46, 42, 180, 0, 129, 28, 46, 128, 79, 132, 3, 1, 167, 255, 217, 177]
abbrev dktX2_addOrder_1 : List UInt8 := dkwX2_addOrder_1 ++ []
def dkwX2_addOrder_0 : List UInt8 := [3, 62, 29, 42, 180, 2, 9, 162, 0, 37, 42, 29, 27, 182, 2, 102, 153, 0, 22, 42, 180, 0, 129, 29]
abbrev dktX2_addOrder_0 : List UInt8 := dkwX2_addOrder_0 ++ dktX2_addOrder_1
theorem dksX2_addOrder_0 : cX2_addOrder.data.toList.drop 0 = dktX2_addOrder_0 := by decide +kernel
theorem dksX2_addOrder_1 : cX2_addOrder.data.toList.drop 24 = dktX2_addOrder_1 := dk_seg dksX2_addOrder_0 24 rfl rfl
theorem dX2_addOrder_0 : decode cX2_addOrder 0 = .ok (.iconst 0, 1) := dk_3 (dk_at dksX2_addOrder_0 0 rfl rfl)
theorem dX2_addOrder_1 : decode cX2_addOrder 1 = .ok (.istore_n 3, 1) := dk_62 (dk_at dksX2_addOrder_0 1 rfl rfl)
theorem dX2_addOrder_2 : decode cX2_addOrder 2 = .ok (.iload_n 3, 1) := dk_29 (dk_at dksX2_addOrder_0 2 rfl rfl)
theorem dX2_addOrder_3 : decode cX2_addOrder 3 = .ok (.aload_n 0, 1) := dk_42 (dk_at dksX2_addOrder_0 3 rfl rfl)
theorem dX2_addOrder_4 : decode cX2_addOrder 4 = .ok (.getfield 521, 3) := dk_180 2 9 (dk_at dksX2_addOrder_0 4 rfl rfl)
theorem dX2_addOrder_7 : decode cX2_addOrder 7 = .ok (.if_icmp .ge 37, 3) := dk_162 0 37 (dk_at dksX2_addOrder_0 7 rfl rfl)
theorem dX2_addOrder_10 : decode cX2_addOrder 10 = .ok (.aload_n 0, 1) := dk_42 (dk_at dksX2_addOrder_0 10 rfl rfl)
theorem dX2_addOrder_11 : decode cX2_addOrder 11 = .ok (.iload_n 3, 1) := dk_29 (dk_at dksX2_addOrder_0 11 rfl rfl)
theorem dX2_addOrder_12 : decode cX2_addOrder 12 = .ok (.iload_n 1, 1) := dk_27 (dk_at dksX2_addOrder_0 12 rfl rfl)
theorem dX2_addOrder_13 : decode cX2_addOrder 13 = .ok (.invokevirtual 614, 3) := dk_182 2 102 (dk_at dksX2_addOrder_0 13 rfl rfl)
theorem dX2_addOrder_16 : decode cX2_addOrder 16 = .ok (.ifCond .eq 22, 3) := dk_153 0 22 (dk_at dksX2_addOrder_0 16 rfl rfl)
theorem dX2_addOrder_19 : decode cX2_addOrder 19 = .ok (.aload_n 0, 1) := dk_42 (dk_at dksX2_addOrder_0 19 rfl rfl)
theorem dX2_addOrder_20 : decode cX2_addOrder 20 = .ok (.getfield 129, 3) := dk_180 0 129 (dk_at dksX2_addOrder_0 20 rfl rfl)
theorem dX2_addOrder_23 : decode cX2_addOrder 23 = .ok (.iload_n 3, 1) := dk_29 (dk_at dksX2_addOrder_0 23 rfl rfl)
theorem dX2_addOrder_24 : decode cX2_addOrder 24 = .ok (.aload_n 0, 1) := dk_42 (dk_at dksX2_addOrder_1 0 rfl rfl)
theorem dX2_addOrder_25 : decode cX2_addOrder 25 = .ok (.getfield 129, 3) := dk_180 0 129 (dk_at dksX2_addOrder_1 1 rfl rfl)
theorem dX2_addOrder_28 : decode cX2_addOrder 28 = .ok (.iload_n 3, 1) := dk_29 (dk_at dksX2_addOrder_1 4 rfl rfl)
theorem dX2_addOrder_29 : decode cX2_addOrder 29 = .ok (.iaload, 1) := dk_46 (dk_at dksX2_addOrder_1 5 rfl rfl)
theorem dX2_addOrder_30 : decode cX2_addOrder 30 = .ok (.aload_n 0, 1) := dk_42 (dk_at dksX2_addOrder_1 6 rfl rfl)
theorem dX2_addOrder_31 : decode cX2_addOrder 31 = .ok (.getfield 129, 3) := dk_180 0 129 (dk_at dksX2_addOrder_1 7 rfl rfl)
theorem dX2_addOrder_34 : decode cX2_addOrder 34 = .ok (.iload_n 2, 1) := dk_28 (dk_at dksX2_addOrder_1 10 rfl rfl)
theorem dX2_addOrder_35 : decode cX2_addOrder 35 = .ok (.iaload, 1) := dk_46 (dk_at dksX2_addOrder_1 11 rfl rfl)
theorem dX2_addOrder_36 : decode cX2_addOrder 36 = .ok (.ior, 1) := dk_128 (dk_at dksX2_addOrder_1 12 rfl rfl)
theorem dX2_addOrder_37 : decode cX2_addOrder 37 = .ok (.iastore, 1) := dk_79 (dk_at dksX2_addOrder_1 13 rfl rfl)
theorem dX2_addOrder_38 : decode cX2_addOrder 38 = .ok (.iinc 3 1, 3) := dk_132 3 1 (dk_at dksX2_addOrder_1 14 rfl rfl)
theorem dX2_addOrder_41 : decode cX2_addOrder 41 = .ok (.goto (-39), 3) := dk_167 255 217 (dk_at dksX2_addOrder_1 17 rfl rfl)
theorem dX2_addOrder_44 : decode cX2_addOrder 44 = .ok (.return_, 1) := dk_177 (dk_at dksX2_addOrder_1 20 rfl rfl)
abbrev cX2_readVars : ByteArray := prog_4_method_43_code
def yX2_readVars : MethodName := ⟨RX2, "readVars", "()V"⟩
def dkwX2_readVars_5 : List UInt8 := [60, 132, 2, 1, 167, 255, 136, 42, 27, 181, 2, 23, 177]
abbrev dktX2_readVars_5 : List UInt8 := dkwX2_readVars_5 ++ []
def dkwX2_readVars_4 : List UInt8 := [27, 42, 42, 180, 0, 62, 28, 46, 182, 2, 109, 79, 21, 4, 153, 0, 7, 27, 167, 0, 6, 27, 4, 96]
abbrev dktX2_readVars_4 : List UInt8 := dkwX2_readVars_4 ++ dktX2_readVars_5
def dkwX2_readVars_3 : List UInt8 := [180, 0, 33, 42, 180, 0, 59, 28, 46, 46, 182, 2, 99, 42, 180, 0, 135, 27, 29, 79, 42, 180, 0, 138]
abbrev dktX2_readVars_3 : List UInt8 := dkwX2_readVars_3 ++ dktX2_readVars_4
def dkwX2_readVars_2 : List UInt8 := [160, 0, 7, 4, 167, 0, 4, 3, 54, 4, 132, 5, 1, 167, 255, 224, 21, 4, 153, 0, 19, 42, 6, 42]
abbrev dktX2_readVars_2 : List UInt8 := dkwX2_readVars_2 ++ dktX2_readVars_3
def dkwX2_readVars_1 : List UInt8 := [54, 4, 3, 54, 5, 21, 5, 27, 162, 0, 32, 21, 4, 154, 0, 14, 42, 180, 0, 135, 21, 5, 46, 29]
abbrev dktX2_readVars_1 : List UInt8 := dkwX2_readVars_1 ++ dktX2_readVars_2
def dkwX2_readVars_0 : List UInt8 := [3, 60, 3, 61, 28, 42, 180, 2, 23, 162, 0, 118, 42, 42, 180, 0, 59, 28, 46, 182, 2, 106, 62, 3]
abbrev dktX2_readVars_0 : List UInt8 := dkwX2_readVars_0 ++ dktX2_readVars_1
theorem dksX2_readVars_0 : cX2_readVars.data.toList.drop 0 = dktX2_readVars_0 := by decide +kernel
theorem dksX2_readVars_1 : cX2_readVars.data.toList.drop 24 = dktX2_readVars_1 := dk_seg dksX2_readVars_0 24 rfl rfl
theorem dksX2_readVars_2 : cX2_readVars.data.toList.drop 48 = dktX2_readVars_2 := dk_seg dksX2_readVars_1 24 rfl rfl
theorem dksX2_readVars_3 : cX2_readVars.data.toList.drop 72 = dktX2_readVars_3 := dk_seg dksX2_readVars_2 24 rfl rfl
theorem dksX2_readVars_4 : cX2_readVars.data.toList.drop 96 = dktX2_readVars_4 := dk_seg dksX2_readVars_3 24 rfl rfl
theorem dksX2_readVars_5 : cX2_readVars.data.toList.drop 120 = dktX2_readVars_5 := dk_seg dksX2_readVars_4 24 rfl rfl
theorem dX2_readVars_0 : decode cX2_readVars 0 = .ok (.iconst 0, 1) := dk_3 (dk_at dksX2_readVars_0 0 rfl rfl)
theorem dX2_readVars_1 : decode cX2_readVars 1 = .ok (.istore_n 1, 1) := dk_60 (dk_at dksX2_readVars_0 1 rfl rfl)
theorem dX2_readVars_2 : decode cX2_readVars 2 = .ok (.iconst 0, 1) := dk_3 (dk_at dksX2_readVars_0 2 rfl rfl)
theorem dX2_readVars_3 : decode cX2_readVars 3 = .ok (.istore_n 2, 1) := dk_61 (dk_at dksX2_readVars_0 3 rfl rfl)
theorem dX2_readVars_4 : decode cX2_readVars 4 = .ok (.iload_n 2, 1) := dk_28 (dk_at dksX2_readVars_0 4 rfl rfl)
theorem dX2_readVars_5 : decode cX2_readVars 5 = .ok (.aload_n 0, 1) := dk_42 (dk_at dksX2_readVars_0 5 rfl rfl)
theorem dX2_readVars_6 : decode cX2_readVars 6 = .ok (.getfield 535, 3) := dk_180 2 23 (dk_at dksX2_readVars_0 6 rfl rfl)
theorem dX2_readVars_9 : decode cX2_readVars 9 = .ok (.if_icmp .ge 118, 3) := dk_162 0 118 (dk_at dksX2_readVars_0 9 rfl rfl)
theorem dX2_readVars_12 : decode cX2_readVars 12 = .ok (.aload_n 0, 1) := dk_42 (dk_at dksX2_readVars_0 12 rfl rfl)
theorem dX2_readVars_13 : decode cX2_readVars 13 = .ok (.aload_n 0, 1) := dk_42 (dk_at dksX2_readVars_0 13 rfl rfl)
theorem dX2_readVars_14 : decode cX2_readVars 14 = .ok (.getfield 59, 3) := dk_180 0 59 (dk_at dksX2_readVars_0 14 rfl rfl)
theorem dX2_readVars_17 : decode cX2_readVars 17 = .ok (.iload_n 2, 1) := dk_28 (dk_at dksX2_readVars_0 17 rfl rfl)
theorem dX2_readVars_18 : decode cX2_readVars 18 = .ok (.iaload, 1) := dk_46 (dk_at dksX2_readVars_0 18 rfl rfl)
theorem dX2_readVars_19 : decode cX2_readVars 19 = .ok (.invokevirtual 618, 3) := dk_182 2 106 (dk_at dksX2_readVars_0 19 rfl rfl)
theorem dX2_readVars_22 : decode cX2_readVars 22 = .ok (.istore_n 3, 1) := dk_62 (dk_at dksX2_readVars_0 22 rfl rfl)
theorem dX2_readVars_23 : decode cX2_readVars 23 = .ok (.iconst 0, 1) := dk_3 (dk_at dksX2_readVars_0 23 rfl rfl)
theorem dX2_readVars_24 : decode cX2_readVars 24 = .ok (.istore 4, 2) := dk_54 4 (dk_at dksX2_readVars_1 0 rfl rfl)
theorem dX2_readVars_26 : decode cX2_readVars 26 = .ok (.iconst 0, 1) := dk_3 (dk_at dksX2_readVars_1 2 rfl rfl)
theorem dX2_readVars_27 : decode cX2_readVars 27 = .ok (.istore 5, 2) := dk_54 5 (dk_at dksX2_readVars_1 3 rfl rfl)
theorem dX2_readVars_29 : decode cX2_readVars 29 = .ok (.iload 5, 2) := dk_21 5 (dk_at dksX2_readVars_1 5 rfl rfl)
theorem dX2_readVars_31 : decode cX2_readVars 31 = .ok (.iload_n 1, 1) := dk_27 (dk_at dksX2_readVars_1 7 rfl rfl)
theorem dX2_readVars_32 : decode cX2_readVars 32 = .ok (.if_icmp .ge 32, 3) := dk_162 0 32 (dk_at dksX2_readVars_1 8 rfl rfl)
theorem dX2_readVars_35 : decode cX2_readVars 35 = .ok (.iload 4, 2) := dk_21 4 (dk_at dksX2_readVars_1 11 rfl rfl)
theorem dX2_readVars_37 : decode cX2_readVars 37 = .ok (.ifCond .ne 14, 3) := dk_154 0 14 (dk_at dksX2_readVars_1 13 rfl rfl)
theorem dX2_readVars_40 : decode cX2_readVars 40 = .ok (.aload_n 0, 1) := dk_42 (dk_at dksX2_readVars_1 16 rfl rfl)
theorem dX2_readVars_41 : decode cX2_readVars 41 = .ok (.getfield 135, 3) := dk_180 0 135 (dk_at dksX2_readVars_1 17 rfl rfl)
theorem dX2_readVars_44 : decode cX2_readVars 44 = .ok (.iload 5, 2) := dk_21 5 (dk_at dksX2_readVars_1 20 rfl rfl)
theorem dX2_readVars_46 : decode cX2_readVars 46 = .ok (.iaload, 1) := dk_46 (dk_at dksX2_readVars_1 22 rfl rfl)
theorem dX2_readVars_47 : decode cX2_readVars 47 = .ok (.iload_n 3, 1) := dk_29 (dk_at dksX2_readVars_1 23 rfl rfl)
theorem dX2_readVars_48 : decode cX2_readVars 48 = .ok (.if_icmp .ne 7, 3) := dk_160 0 7 (dk_at dksX2_readVars_2 0 rfl rfl)
theorem dX2_readVars_51 : decode cX2_readVars 51 = .ok (.iconst 1, 1) := dk_4 (dk_at dksX2_readVars_2 3 rfl rfl)
theorem dX2_readVars_52 : decode cX2_readVars 52 = .ok (.goto 4, 3) := dk_167 0 4 (dk_at dksX2_readVars_2 4 rfl rfl)
theorem dX2_readVars_55 : decode cX2_readVars 55 = .ok (.iconst 0, 1) := dk_3 (dk_at dksX2_readVars_2 7 rfl rfl)
theorem dX2_readVars_56 : decode cX2_readVars 56 = .ok (.istore 4, 2) := dk_54 4 (dk_at dksX2_readVars_2 8 rfl rfl)
theorem dX2_readVars_58 : decode cX2_readVars 58 = .ok (.iinc 5 1, 3) := dk_132 5 1 (dk_at dksX2_readVars_2 10 rfl rfl)
theorem dX2_readVars_61 : decode cX2_readVars 61 = .ok (.goto (-32), 3) := dk_167 255 224 (dk_at dksX2_readVars_2 13 rfl rfl)
theorem dX2_readVars_64 : decode cX2_readVars 64 = .ok (.iload 4, 2) := dk_21 4 (dk_at dksX2_readVars_2 16 rfl rfl)
theorem dX2_readVars_66 : decode cX2_readVars 66 = .ok (.ifCond .eq 19, 3) := dk_153 0 19 (dk_at dksX2_readVars_2 18 rfl rfl)
theorem dX2_readVars_69 : decode cX2_readVars 69 = .ok (.aload_n 0, 1) := dk_42 (dk_at dksX2_readVars_2 21 rfl rfl)
theorem dX2_readVars_70 : decode cX2_readVars 70 = .ok (.iconst 3, 1) := dk_6 (dk_at dksX2_readVars_2 22 rfl rfl)
theorem dX2_readVars_71 : decode cX2_readVars 71 = .ok (.aload_n 0, 1) := dk_42 (dk_at dksX2_readVars_2 23 rfl rfl)
theorem dX2_readVars_72 : decode cX2_readVars 72 = .ok (.getfield 33, 3) := dk_180 0 33 (dk_at dksX2_readVars_3 0 rfl rfl)
theorem dX2_readVars_75 : decode cX2_readVars 75 = .ok (.aload_n 0, 1) := dk_42 (dk_at dksX2_readVars_3 3 rfl rfl)
theorem dX2_readVars_76 : decode cX2_readVars 76 = .ok (.getfield 59, 3) := dk_180 0 59 (dk_at dksX2_readVars_3 4 rfl rfl)
theorem dX2_readVars_79 : decode cX2_readVars 79 = .ok (.iload_n 2, 1) := dk_28 (dk_at dksX2_readVars_3 7 rfl rfl)
theorem dX2_readVars_80 : decode cX2_readVars 80 = .ok (.iaload, 1) := dk_46 (dk_at dksX2_readVars_3 8 rfl rfl)
theorem dX2_readVars_81 : decode cX2_readVars 81 = .ok (.iaload, 1) := dk_46 (dk_at dksX2_readVars_3 9 rfl rfl)
theorem dX2_readVars_82 : decode cX2_readVars 82 = .ok (.invokevirtual 611, 3) := dk_182 2 99 (dk_at dksX2_readVars_3 10 rfl rfl)
theorem dX2_readVars_85 : decode cX2_readVars 85 = .ok (.aload_n 0, 1) := dk_42 (dk_at dksX2_readVars_3 13 rfl rfl)
theorem dX2_readVars_86 : decode cX2_readVars 86 = .ok (.getfield 135, 3) := dk_180 0 135 (dk_at dksX2_readVars_3 14 rfl rfl)
theorem dX2_readVars_89 : decode cX2_readVars 89 = .ok (.iload_n 1, 1) := dk_27 (dk_at dksX2_readVars_3 17 rfl rfl)
theorem dX2_readVars_90 : decode cX2_readVars 90 = .ok (.iload_n 3, 1) := dk_29 (dk_at dksX2_readVars_3 18 rfl rfl)
theorem dX2_readVars_91 : decode cX2_readVars 91 = .ok (.iastore, 1) := dk_79 (dk_at dksX2_readVars_3 19 rfl rfl)
theorem dX2_readVars_92 : decode cX2_readVars 92 = .ok (.aload_n 0, 1) := dk_42 (dk_at dksX2_readVars_3 20 rfl rfl)
theorem dX2_readVars_93 : decode cX2_readVars 93 = .ok (.getfield 138, 3) := dk_180 0 138 (dk_at dksX2_readVars_3 21 rfl rfl)
theorem dX2_readVars_96 : decode cX2_readVars 96 = .ok (.iload_n 1, 1) := dk_27 (dk_at dksX2_readVars_4 0 rfl rfl)
theorem dX2_readVars_97 : decode cX2_readVars 97 = .ok (.aload_n 0, 1) := dk_42 (dk_at dksX2_readVars_4 1 rfl rfl)
theorem dX2_readVars_98 : decode cX2_readVars 98 = .ok (.aload_n 0, 1) := dk_42 (dk_at dksX2_readVars_4 2 rfl rfl)
theorem dX2_readVars_99 : decode cX2_readVars 99 = .ok (.getfield 62, 3) := dk_180 0 62 (dk_at dksX2_readVars_4 3 rfl rfl)
theorem dX2_readVars_102 : decode cX2_readVars 102 = .ok (.iload_n 2, 1) := dk_28 (dk_at dksX2_readVars_4 6 rfl rfl)
theorem dX2_readVars_103 : decode cX2_readVars 103 = .ok (.iaload, 1) := dk_46 (dk_at dksX2_readVars_4 7 rfl rfl)
theorem dX2_readVars_104 : decode cX2_readVars 104 = .ok (.invokevirtual 621, 3) := dk_182 2 109 (dk_at dksX2_readVars_4 8 rfl rfl)
theorem dX2_readVars_107 : decode cX2_readVars 107 = .ok (.iastore, 1) := dk_79 (dk_at dksX2_readVars_4 11 rfl rfl)
theorem dX2_readVars_108 : decode cX2_readVars 108 = .ok (.iload 4, 2) := dk_21 4 (dk_at dksX2_readVars_4 12 rfl rfl)
theorem dX2_readVars_110 : decode cX2_readVars 110 = .ok (.ifCond .eq 7, 3) := dk_153 0 7 (dk_at dksX2_readVars_4 14 rfl rfl)
theorem dX2_readVars_113 : decode cX2_readVars 113 = .ok (.iload_n 1, 1) := dk_27 (dk_at dksX2_readVars_4 17 rfl rfl)
theorem dX2_readVars_114 : decode cX2_readVars 114 = .ok (.goto 6, 3) := dk_167 0 6 (dk_at dksX2_readVars_4 18 rfl rfl)
theorem dX2_readVars_117 : decode cX2_readVars 117 = .ok (.iload_n 1, 1) := dk_27 (dk_at dksX2_readVars_4 21 rfl rfl)
theorem dX2_readVars_118 : decode cX2_readVars 118 = .ok (.iconst 1, 1) := dk_4 (dk_at dksX2_readVars_4 22 rfl rfl)
theorem dX2_readVars_119 : decode cX2_readVars 119 = .ok (.iadd, 1) := dk_96 (dk_at dksX2_readVars_4 23 rfl rfl)
theorem dX2_readVars_120 : decode cX2_readVars 120 = .ok (.istore_n 1, 1) := dk_60 (dk_at dksX2_readVars_5 0 rfl rfl)
theorem dX2_readVars_121 : decode cX2_readVars 121 = .ok (.iinc 2 1, 3) := dk_132 2 1 (dk_at dksX2_readVars_5 1 rfl rfl)
theorem dX2_readVars_124 : decode cX2_readVars 124 = .ok (.goto (-120), 3) := dk_167 255 136 (dk_at dksX2_readVars_5 4 rfl rfl)
theorem dX2_readVars_127 : decode cX2_readVars 127 = .ok (.aload_n 0, 1) := dk_42 (dk_at dksX2_readVars_5 7 rfl rfl)
theorem dX2_readVars_128 : decode cX2_readVars 128 = .ok (.iload_n 1, 1) := dk_27 (dk_at dksX2_readVars_5 8 rfl rfl)
theorem dX2_readVars_129 : decode cX2_readVars 129 = .ok (.putfield 535, 3) := dk_181 2 23 (dk_at dksX2_readVars_5 9 rfl rfl)
theorem dX2_readVars_132 : decode cX2_readVars 132 = .ok (.return_, 1) := dk_177 (dk_at dksX2_readVars_5 12 rfl rfl)
abbrev cX2_readRows : ByteArray := prog_4_method_46_code
def yX2_readRows : MethodName := ⟨RX2, "readRows", "()V"⟩
def dkwX2_readRows_14 : List UInt8 := [180, 0, 153, 27, 42, 42, 180, 0, 80, 27, 46, 182, 2, 109, 79, 132, 1, 1, 167, 254, 170, 177]
abbrev dktX2_readRows_14 : List UInt8 := dkwX2_readRows_14 ++ []
def dkwX2_readRows_13 : List UInt8 := [162, 0, 16, 42, 180, 0, 150, 8, 27, 104, 21, 4, 96, 21, 5, 79, 132, 4, 1, 167, 255, 198, 42]
abbrev dktX2_readRows_13 : List UInt8 := dkwX2_readRows_13 ++ dktX2_readRows_14
def dkwX2_readRows_12 : List UInt8 := [180, 0, 77, 16, 20, 27, 104, 21, 4, 96, 46, 182, 2, 109, 167, 0, 5, 16, 254, 54, 5, 21, 4, 8]
abbrev dktX2_readRows_12 : List UInt8 := dkwX2_readRows_12 ++ dktX2_readRows_13
def dkwX2_readRows_11 : List UInt8 := [27, 46, 182, 2, 99, 3, 54, 4, 21, 4, 28, 162, 0, 58, 21, 4, 16, 20, 162, 0, 22, 42, 42]
abbrev dktX2_readRows_11 : List UInt8 := dkwX2_readRows_11 ++ dktX2_readRows_12
def dkwX2_readRows_10 : List UInt8 := [160, 0, 8, 28, 4, 159, 0, 7, 4, 167, 0, 4, 3, 62, 29, 154, 0, 14, 42, 6, 42, 180, 0, 65]
abbrev dktX2_readRows_10 : List UInt8 := dkwX2_readRows_10 ++ dktX2_readRows_11
def dkwX2_readRows_9 : List UInt8 := [28, 6, 163, 0, 33, 42, 180, 0, 144, 27, 46, 16, 12, 163, 0, 22, 42, 180, 0, 144, 27, 46, 4]
abbrev dktX2_readRows_9 : List UInt8 := dkwX2_readRows_9 ++ dktX2_readRows_10
def dkwX2_readRows_8 : List UInt8 := [27, 42, 16, 41, 182, 2, 128, 182, 2, 122, 29, 153, 0, 48, 42, 180, 0, 147, 27, 46, 28, 160, 0, 38]
abbrev dktX2_readRows_8 : List UInt8 := dkwX2_readRows_8 ++ dktX2_readRows_9
def dkwX2_readRows_7 : List UInt8 := [42, 27, 42, 16, 44, 182, 2, 128, 182, 2, 122, 42, 27, 2, 182, 2, 122, 132, 5, 1, 167, 255, 218, 42]
abbrev dktX2_readRows_7 : List UInt8 := dkwX2_readRows_7 ++ dktX2_readRows_8
def dkwX2_readRows_6 : List UInt8 := [182, 2, 122, 3, 54, 5, 21, 5, 28, 162, 0, 38, 21, 5, 16, 20, 162, 0, 31, 21, 5, 158, 0, 14]
abbrev dktX2_readRows_6 : List UInt8 := dkwX2_readRows_6 ++ dktX2_readRows_7
def dkwX2_readRows_5 : List UInt8 := [182, 1, 163, 184, 1, 171, 154, 0, 7, 4, 167, 0, 4, 3, 62, 42, 27, 42, 16, 40, 182, 2, 128]
abbrev dktX2_readRows_5 : List UInt8 := dkwX2_readRows_5 ++ dktX2_readRows_6
def dkwX2_readRows_4 : List UInt8 := [160, 0, 35, 42, 180, 0, 37, 21, 4, 46, 4, 160, 0, 20, 42, 42, 180, 0, 33, 21, 4, 46]
abbrev dktX2_readRows_4 : List UInt8 := dkwX2_readRows_4 ++ dktX2_readRows_5
def dkwX2_readRows_3 : List UInt8 := [154, 0, 125, 28, 158, 0, 121, 42, 180, 0, 68, 27, 46, 54, 4, 42, 180, 0, 71, 27, 46, 4]
abbrev dktX2_readRows_3 : List UInt8 := dkwX2_readRows_3 ++ dktX2_readRows_4
def dkwX2_readRows_2 : List UInt8 := [182, 2, 125, 132, 2, 1, 167, 255, 230, 42, 180, 0, 74, 27, 46, 61, 4, 62, 42, 180, 0, 147, 27, 46]
abbrev dktX2_readRows_2 : List UInt8 := dkwX2_readRows_2 ++ dktX2_readRows_3
def dkwX2_readRows_1 : List UInt8 := [3, 61, 28, 42, 180, 0, 71, 27, 46, 162, 0, 22, 42, 27, 42, 180, 0, 68, 27, 46, 28, 96]
abbrev dktX2_readRows_1 : List UInt8 := dkwX2_readRows_1 ++ dktX2_readRows_2
def dkwX2_readRows_0 : List UInt8 := [3, 60, 27, 42, 180, 2, 26, 162, 1, 84, 42, 180, 0, 144, 27, 3, 79, 42, 180, 0, 147, 27, 3, 79]
abbrev dktX2_readRows_0 : List UInt8 := dkwX2_readRows_0 ++ dktX2_readRows_1
theorem dksX2_readRows_0 : cX2_readRows.data.toList.drop 0 = dktX2_readRows_0 := by decide +kernel
theorem dksX2_readRows_1 : cX2_readRows.data.toList.drop 24 = dktX2_readRows_1 := dk_seg dksX2_readRows_0 24 rfl rfl
theorem dksX2_readRows_2 : cX2_readRows.data.toList.drop 46 = dktX2_readRows_2 := dk_seg dksX2_readRows_1 22 rfl rfl
theorem dksX2_readRows_3 : cX2_readRows.data.toList.drop 70 = dktX2_readRows_3 := dk_seg dksX2_readRows_2 24 rfl rfl
theorem dksX2_readRows_4 : cX2_readRows.data.toList.drop 92 = dktX2_readRows_4 := dk_seg dksX2_readRows_3 22 rfl rfl
theorem dksX2_readRows_5 : cX2_readRows.data.toList.drop 114 = dktX2_readRows_5 := dk_seg dksX2_readRows_4 22 rfl rfl
theorem dksX2_readRows_6 : cX2_readRows.data.toList.drop 137 = dktX2_readRows_6 := dk_seg dksX2_readRows_5 23 rfl rfl
theorem dksX2_readRows_7 : cX2_readRows.data.toList.drop 161 = dktX2_readRows_7 := dk_seg dksX2_readRows_6 24 rfl rfl
theorem dksX2_readRows_8 : cX2_readRows.data.toList.drop 185 = dktX2_readRows_8 := dk_seg dksX2_readRows_7 24 rfl rfl
theorem dksX2_readRows_9 : cX2_readRows.data.toList.drop 209 = dktX2_readRows_9 := dk_seg dksX2_readRows_8 24 rfl rfl
theorem dksX2_readRows_10 : cX2_readRows.data.toList.drop 232 = dktX2_readRows_10 := dk_seg dksX2_readRows_9 23 rfl rfl
theorem dksX2_readRows_11 : cX2_readRows.data.toList.drop 256 = dktX2_readRows_11 := dk_seg dksX2_readRows_10 24 rfl rfl
theorem dksX2_readRows_12 : cX2_readRows.data.toList.drop 279 = dktX2_readRows_12 := dk_seg dksX2_readRows_11 23 rfl rfl
theorem dksX2_readRows_13 : cX2_readRows.data.toList.drop 303 = dktX2_readRows_13 := dk_seg dksX2_readRows_12 24 rfl rfl
theorem dksX2_readRows_14 : cX2_readRows.data.toList.drop 326 = dktX2_readRows_14 := dk_seg dksX2_readRows_13 23 rfl rfl
theorem dX2_readRows_0 : decode cX2_readRows 0 = .ok (.iconst 0, 1) := dk_3 (dk_at dksX2_readRows_0 0 rfl rfl)
theorem dX2_readRows_1 : decode cX2_readRows 1 = .ok (.istore_n 1, 1) := dk_60 (dk_at dksX2_readRows_0 1 rfl rfl)
theorem dX2_readRows_2 : decode cX2_readRows 2 = .ok (.iload_n 1, 1) := dk_27 (dk_at dksX2_readRows_0 2 rfl rfl)
theorem dX2_readRows_3 : decode cX2_readRows 3 = .ok (.aload_n 0, 1) := dk_42 (dk_at dksX2_readRows_0 3 rfl rfl)
theorem dX2_readRows_4 : decode cX2_readRows 4 = .ok (.getfield 538, 3) := dk_180 2 26 (dk_at dksX2_readRows_0 4 rfl rfl)
theorem dX2_readRows_7 : decode cX2_readRows 7 = .ok (.if_icmp .ge 340, 3) := dk_162 1 84 (dk_at dksX2_readRows_0 7 rfl rfl)
theorem dX2_readRows_10 : decode cX2_readRows 10 = .ok (.aload_n 0, 1) := dk_42 (dk_at dksX2_readRows_0 10 rfl rfl)
theorem dX2_readRows_11 : decode cX2_readRows 11 = .ok (.getfield 144, 3) := dk_180 0 144 (dk_at dksX2_readRows_0 11 rfl rfl)
theorem dX2_readRows_14 : decode cX2_readRows 14 = .ok (.iload_n 1, 1) := dk_27 (dk_at dksX2_readRows_0 14 rfl rfl)
theorem dX2_readRows_15 : decode cX2_readRows 15 = .ok (.iconst 0, 1) := dk_3 (dk_at dksX2_readRows_0 15 rfl rfl)
theorem dX2_readRows_16 : decode cX2_readRows 16 = .ok (.iastore, 1) := dk_79 (dk_at dksX2_readRows_0 16 rfl rfl)
theorem dX2_readRows_17 : decode cX2_readRows 17 = .ok (.aload_n 0, 1) := dk_42 (dk_at dksX2_readRows_0 17 rfl rfl)
theorem dX2_readRows_18 : decode cX2_readRows 18 = .ok (.getfield 147, 3) := dk_180 0 147 (dk_at dksX2_readRows_0 18 rfl rfl)
theorem dX2_readRows_21 : decode cX2_readRows 21 = .ok (.iload_n 1, 1) := dk_27 (dk_at dksX2_readRows_0 21 rfl rfl)
theorem dX2_readRows_22 : decode cX2_readRows 22 = .ok (.iconst 0, 1) := dk_3 (dk_at dksX2_readRows_0 22 rfl rfl)
theorem dX2_readRows_23 : decode cX2_readRows 23 = .ok (.iastore, 1) := dk_79 (dk_at dksX2_readRows_0 23 rfl rfl)
theorem dX2_readRows_24 : decode cX2_readRows 24 = .ok (.iconst 0, 1) := dk_3 (dk_at dksX2_readRows_1 0 rfl rfl)
theorem dX2_readRows_25 : decode cX2_readRows 25 = .ok (.istore_n 2, 1) := dk_61 (dk_at dksX2_readRows_1 1 rfl rfl)
theorem dX2_readRows_26 : decode cX2_readRows 26 = .ok (.iload_n 2, 1) := dk_28 (dk_at dksX2_readRows_1 2 rfl rfl)
theorem dX2_readRows_27 : decode cX2_readRows 27 = .ok (.aload_n 0, 1) := dk_42 (dk_at dksX2_readRows_1 3 rfl rfl)
theorem dX2_readRows_28 : decode cX2_readRows 28 = .ok (.getfield 71, 3) := dk_180 0 71 (dk_at dksX2_readRows_1 4 rfl rfl)
theorem dX2_readRows_31 : decode cX2_readRows 31 = .ok (.iload_n 1, 1) := dk_27 (dk_at dksX2_readRows_1 7 rfl rfl)
theorem dX2_readRows_32 : decode cX2_readRows 32 = .ok (.iaload, 1) := dk_46 (dk_at dksX2_readRows_1 8 rfl rfl)
theorem dX2_readRows_33 : decode cX2_readRows 33 = .ok (.if_icmp .ge 22, 3) := dk_162 0 22 (dk_at dksX2_readRows_1 9 rfl rfl)
theorem dX2_readRows_36 : decode cX2_readRows 36 = .ok (.aload_n 0, 1) := dk_42 (dk_at dksX2_readRows_1 12 rfl rfl)
theorem dX2_readRows_37 : decode cX2_readRows 37 = .ok (.iload_n 1, 1) := dk_27 (dk_at dksX2_readRows_1 13 rfl rfl)
theorem dX2_readRows_38 : decode cX2_readRows 38 = .ok (.aload_n 0, 1) := dk_42 (dk_at dksX2_readRows_1 14 rfl rfl)
theorem dX2_readRows_39 : decode cX2_readRows 39 = .ok (.getfield 68, 3) := dk_180 0 68 (dk_at dksX2_readRows_1 15 rfl rfl)
theorem dX2_readRows_42 : decode cX2_readRows 42 = .ok (.iload_n 1, 1) := dk_27 (dk_at dksX2_readRows_1 18 rfl rfl)
theorem dX2_readRows_43 : decode cX2_readRows 43 = .ok (.iaload, 1) := dk_46 (dk_at dksX2_readRows_1 19 rfl rfl)
theorem dX2_readRows_44 : decode cX2_readRows 44 = .ok (.iload_n 2, 1) := dk_28 (dk_at dksX2_readRows_1 20 rfl rfl)
theorem dX2_readRows_45 : decode cX2_readRows 45 = .ok (.iadd, 1) := dk_96 (dk_at dksX2_readRows_1 21 rfl rfl)
theorem dX2_readRows_46 : decode cX2_readRows 46 = .ok (.invokevirtual 637, 3) := dk_182 2 125 (dk_at dksX2_readRows_2 0 rfl rfl)
theorem dX2_readRows_49 : decode cX2_readRows 49 = .ok (.iinc 2 1, 3) := dk_132 2 1 (dk_at dksX2_readRows_2 3 rfl rfl)
theorem dX2_readRows_52 : decode cX2_readRows 52 = .ok (.goto (-26), 3) := dk_167 255 230 (dk_at dksX2_readRows_2 6 rfl rfl)
theorem dX2_readRows_55 : decode cX2_readRows 55 = .ok (.aload_n 0, 1) := dk_42 (dk_at dksX2_readRows_2 9 rfl rfl)
theorem dX2_readRows_56 : decode cX2_readRows 56 = .ok (.getfield 74, 3) := dk_180 0 74 (dk_at dksX2_readRows_2 10 rfl rfl)
theorem dX2_readRows_59 : decode cX2_readRows 59 = .ok (.iload_n 1, 1) := dk_27 (dk_at dksX2_readRows_2 13 rfl rfl)
theorem dX2_readRows_60 : decode cX2_readRows 60 = .ok (.iaload, 1) := dk_46 (dk_at dksX2_readRows_2 14 rfl rfl)
theorem dX2_readRows_61 : decode cX2_readRows 61 = .ok (.istore_n 2, 1) := dk_61 (dk_at dksX2_readRows_2 15 rfl rfl)
theorem dX2_readRows_62 : decode cX2_readRows 62 = .ok (.iconst 1, 1) := dk_4 (dk_at dksX2_readRows_2 16 rfl rfl)
theorem dX2_readRows_63 : decode cX2_readRows 63 = .ok (.istore_n 3, 1) := dk_62 (dk_at dksX2_readRows_2 17 rfl rfl)
theorem dX2_readRows_64 : decode cX2_readRows 64 = .ok (.aload_n 0, 1) := dk_42 (dk_at dksX2_readRows_2 18 rfl rfl)
theorem dX2_readRows_65 : decode cX2_readRows 65 = .ok (.getfield 147, 3) := dk_180 0 147 (dk_at dksX2_readRows_2 19 rfl rfl)
theorem dX2_readRows_68 : decode cX2_readRows 68 = .ok (.iload_n 1, 1) := dk_27 (dk_at dksX2_readRows_2 22 rfl rfl)
theorem dX2_readRows_69 : decode cX2_readRows 69 = .ok (.iaload, 1) := dk_46 (dk_at dksX2_readRows_2 23 rfl rfl)
theorem dX2_readRows_70 : decode cX2_readRows 70 = .ok (.ifCond .ne 125, 3) := dk_154 0 125 (dk_at dksX2_readRows_3 0 rfl rfl)
theorem dX2_readRows_73 : decode cX2_readRows 73 = .ok (.iload_n 2, 1) := dk_28 (dk_at dksX2_readRows_3 3 rfl rfl)
theorem dX2_readRows_74 : decode cX2_readRows 74 = .ok (.ifCond .le 121, 3) := dk_158 0 121 (dk_at dksX2_readRows_3 4 rfl rfl)
theorem dX2_readRows_77 : decode cX2_readRows 77 = .ok (.aload_n 0, 1) := dk_42 (dk_at dksX2_readRows_3 7 rfl rfl)
theorem dX2_readRows_78 : decode cX2_readRows 78 = .ok (.getfield 68, 3) := dk_180 0 68 (dk_at dksX2_readRows_3 8 rfl rfl)
theorem dX2_readRows_81 : decode cX2_readRows 81 = .ok (.iload_n 1, 1) := dk_27 (dk_at dksX2_readRows_3 11 rfl rfl)
theorem dX2_readRows_82 : decode cX2_readRows 82 = .ok (.iaload, 1) := dk_46 (dk_at dksX2_readRows_3 12 rfl rfl)
theorem dX2_readRows_83 : decode cX2_readRows 83 = .ok (.istore 4, 2) := dk_54 4 (dk_at dksX2_readRows_3 13 rfl rfl)
theorem dX2_readRows_85 : decode cX2_readRows 85 = .ok (.aload_n 0, 1) := dk_42 (dk_at dksX2_readRows_3 15 rfl rfl)
theorem dX2_readRows_86 : decode cX2_readRows 86 = .ok (.getfield 71, 3) := dk_180 0 71 (dk_at dksX2_readRows_3 16 rfl rfl)
theorem dX2_readRows_89 : decode cX2_readRows 89 = .ok (.iload_n 1, 1) := dk_27 (dk_at dksX2_readRows_3 19 rfl rfl)
theorem dX2_readRows_90 : decode cX2_readRows 90 = .ok (.iaload, 1) := dk_46 (dk_at dksX2_readRows_3 20 rfl rfl)
theorem dX2_readRows_91 : decode cX2_readRows 91 = .ok (.iconst 1, 1) := dk_4 (dk_at dksX2_readRows_3 21 rfl rfl)
theorem dX2_readRows_92 : decode cX2_readRows 92 = .ok (.if_icmp .ne 35, 3) := dk_160 0 35 (dk_at dksX2_readRows_4 0 rfl rfl)
theorem dX2_readRows_95 : decode cX2_readRows 95 = .ok (.aload_n 0, 1) := dk_42 (dk_at dksX2_readRows_4 3 rfl rfl)
theorem dX2_readRows_96 : decode cX2_readRows 96 = .ok (.getfield 37, 3) := dk_180 0 37 (dk_at dksX2_readRows_4 4 rfl rfl)
theorem dX2_readRows_99 : decode cX2_readRows 99 = .ok (.iload 4, 2) := dk_21 4 (dk_at dksX2_readRows_4 7 rfl rfl)
theorem dX2_readRows_101 : decode cX2_readRows 101 = .ok (.iaload, 1) := dk_46 (dk_at dksX2_readRows_4 9 rfl rfl)
theorem dX2_readRows_102 : decode cX2_readRows 102 = .ok (.iconst 1, 1) := dk_4 (dk_at dksX2_readRows_4 10 rfl rfl)
theorem dX2_readRows_103 : decode cX2_readRows 103 = .ok (.if_icmp .ne 20, 3) := dk_160 0 20 (dk_at dksX2_readRows_4 11 rfl rfl)
theorem dX2_readRows_106 : decode cX2_readRows 106 = .ok (.aload_n 0, 1) := dk_42 (dk_at dksX2_readRows_4 14 rfl rfl)
theorem dX2_readRows_107 : decode cX2_readRows 107 = .ok (.aload_n 0, 1) := dk_42 (dk_at dksX2_readRows_4 15 rfl rfl)
theorem dX2_readRows_108 : decode cX2_readRows 108 = .ok (.getfield 33, 3) := dk_180 0 33 (dk_at dksX2_readRows_4 16 rfl rfl)
theorem dX2_readRows_111 : decode cX2_readRows 111 = .ok (.iload 4, 2) := dk_21 4 (dk_at dksX2_readRows_4 19 rfl rfl)
theorem dX2_readRows_113 : decode cX2_readRows 113 = .ok (.iaload, 1) := dk_46 (dk_at dksX2_readRows_4 21 rfl rfl)
theorem dX2_readRows_114 : decode cX2_readRows 114 = .ok (.invokevirtual 419, 3) := dk_182 1 163 (dk_at dksX2_readRows_5 0 rfl rfl)
theorem dX2_readRows_117 : decode cX2_readRows 117 = .ok (.invokestatic 427, 3) := dk_184 1 171 (dk_at dksX2_readRows_5 3 rfl rfl)
theorem dX2_readRows_120 : decode cX2_readRows 120 = .ok (.ifCond .ne 7, 3) := dk_154 0 7 (dk_at dksX2_readRows_5 6 rfl rfl)
theorem dX2_readRows_123 : decode cX2_readRows 123 = .ok (.iconst 1, 1) := dk_4 (dk_at dksX2_readRows_5 9 rfl rfl)
theorem dX2_readRows_124 : decode cX2_readRows 124 = .ok (.goto 4, 3) := dk_167 0 4 (dk_at dksX2_readRows_5 10 rfl rfl)
theorem dX2_readRows_127 : decode cX2_readRows 127 = .ok (.iconst 0, 1) := dk_3 (dk_at dksX2_readRows_5 13 rfl rfl)
theorem dX2_readRows_128 : decode cX2_readRows 128 = .ok (.istore_n 3, 1) := dk_62 (dk_at dksX2_readRows_5 14 rfl rfl)
theorem dX2_readRows_129 : decode cX2_readRows 129 = .ok (.aload_n 0, 1) := dk_42 (dk_at dksX2_readRows_5 15 rfl rfl)
theorem dX2_readRows_130 : decode cX2_readRows 130 = .ok (.iload_n 1, 1) := dk_27 (dk_at dksX2_readRows_5 16 rfl rfl)
theorem dX2_readRows_131 : decode cX2_readRows 131 = .ok (.aload_n 0, 1) := dk_42 (dk_at dksX2_readRows_5 17 rfl rfl)
theorem dX2_readRows_132 : decode cX2_readRows 132 = .ok (.bipush 40, 2) := dk_16 40 (dk_at dksX2_readRows_5 18 rfl rfl)
theorem dX2_readRows_134 : decode cX2_readRows 134 = .ok (.invokevirtual 640, 3) := dk_182 2 128 (dk_at dksX2_readRows_5 20 rfl rfl)
theorem dX2_readRows_137 : decode cX2_readRows 137 = .ok (.invokevirtual 634, 3) := dk_182 2 122 (dk_at dksX2_readRows_6 0 rfl rfl)
theorem dX2_readRows_140 : decode cX2_readRows 140 = .ok (.iconst 0, 1) := dk_3 (dk_at dksX2_readRows_6 3 rfl rfl)
theorem dX2_readRows_141 : decode cX2_readRows 141 = .ok (.istore 5, 2) := dk_54 5 (dk_at dksX2_readRows_6 4 rfl rfl)
theorem dX2_readRows_143 : decode cX2_readRows 143 = .ok (.iload 5, 2) := dk_21 5 (dk_at dksX2_readRows_6 6 rfl rfl)
theorem dX2_readRows_145 : decode cX2_readRows 145 = .ok (.iload_n 2, 1) := dk_28 (dk_at dksX2_readRows_6 8 rfl rfl)
theorem dX2_readRows_146 : decode cX2_readRows 146 = .ok (.if_icmp .ge 38, 3) := dk_162 0 38 (dk_at dksX2_readRows_6 9 rfl rfl)
theorem dX2_readRows_149 : decode cX2_readRows 149 = .ok (.iload 5, 2) := dk_21 5 (dk_at dksX2_readRows_6 12 rfl rfl)
theorem dX2_readRows_151 : decode cX2_readRows 151 = .ok (.bipush 20, 2) := dk_16 20 (dk_at dksX2_readRows_6 14 rfl rfl)
theorem dX2_readRows_153 : decode cX2_readRows 153 = .ok (.if_icmp .ge 31, 3) := dk_162 0 31 (dk_at dksX2_readRows_6 16 rfl rfl)
theorem dX2_readRows_156 : decode cX2_readRows 156 = .ok (.iload 5, 2) := dk_21 5 (dk_at dksX2_readRows_6 19 rfl rfl)
theorem dX2_readRows_158 : decode cX2_readRows 158 = .ok (.ifCond .le 14, 3) := dk_158 0 14 (dk_at dksX2_readRows_6 21 rfl rfl)
theorem dX2_readRows_161 : decode cX2_readRows 161 = .ok (.aload_n 0, 1) := dk_42 (dk_at dksX2_readRows_7 0 rfl rfl)
theorem dX2_readRows_162 : decode cX2_readRows 162 = .ok (.iload_n 1, 1) := dk_27 (dk_at dksX2_readRows_7 1 rfl rfl)
theorem dX2_readRows_163 : decode cX2_readRows 163 = .ok (.aload_n 0, 1) := dk_42 (dk_at dksX2_readRows_7 2 rfl rfl)
theorem dX2_readRows_164 : decode cX2_readRows 164 = .ok (.bipush 44, 2) := dk_16 44 (dk_at dksX2_readRows_7 3 rfl rfl)
theorem dX2_readRows_166 : decode cX2_readRows 166 = .ok (.invokevirtual 640, 3) := dk_182 2 128 (dk_at dksX2_readRows_7 5 rfl rfl)
theorem dX2_readRows_169 : decode cX2_readRows 169 = .ok (.invokevirtual 634, 3) := dk_182 2 122 (dk_at dksX2_readRows_7 8 rfl rfl)
theorem dX2_readRows_172 : decode cX2_readRows 172 = .ok (.aload_n 0, 1) := dk_42 (dk_at dksX2_readRows_7 11 rfl rfl)
theorem dX2_readRows_173 : decode cX2_readRows 173 = .ok (.iload_n 1, 1) := dk_27 (dk_at dksX2_readRows_7 12 rfl rfl)
theorem dX2_readRows_174 : decode cX2_readRows 174 = .ok (.iconst (-1), 1) := dk_2 (dk_at dksX2_readRows_7 13 rfl rfl)
theorem dX2_readRows_175 : decode cX2_readRows 175 = .ok (.invokevirtual 634, 3) := dk_182 2 122 (dk_at dksX2_readRows_7 14 rfl rfl)
theorem dX2_readRows_178 : decode cX2_readRows 178 = .ok (.iinc 5 1, 3) := dk_132 5 1 (dk_at dksX2_readRows_7 17 rfl rfl)
theorem dX2_readRows_181 : decode cX2_readRows 181 = .ok (.goto (-38), 3) := dk_167 255 218 (dk_at dksX2_readRows_7 20 rfl rfl)
theorem dX2_readRows_184 : decode cX2_readRows 184 = .ok (.aload_n 0, 1) := dk_42 (dk_at dksX2_readRows_7 23 rfl rfl)
theorem dX2_readRows_185 : decode cX2_readRows 185 = .ok (.iload_n 1, 1) := dk_27 (dk_at dksX2_readRows_8 0 rfl rfl)
theorem dX2_readRows_186 : decode cX2_readRows 186 = .ok (.aload_n 0, 1) := dk_42 (dk_at dksX2_readRows_8 1 rfl rfl)
theorem dX2_readRows_187 : decode cX2_readRows 187 = .ok (.bipush 41, 2) := dk_16 41 (dk_at dksX2_readRows_8 2 rfl rfl)
theorem dX2_readRows_189 : decode cX2_readRows 189 = .ok (.invokevirtual 640, 3) := dk_182 2 128 (dk_at dksX2_readRows_8 4 rfl rfl)
theorem dX2_readRows_192 : decode cX2_readRows 192 = .ok (.invokevirtual 634, 3) := dk_182 2 122 (dk_at dksX2_readRows_8 7 rfl rfl)
theorem dX2_readRows_195 : decode cX2_readRows 195 = .ok (.iload_n 3, 1) := dk_29 (dk_at dksX2_readRows_8 10 rfl rfl)
theorem dX2_readRows_196 : decode cX2_readRows 196 = .ok (.ifCond .eq 48, 3) := dk_153 0 48 (dk_at dksX2_readRows_8 11 rfl rfl)
theorem dX2_readRows_199 : decode cX2_readRows 199 = .ok (.aload_n 0, 1) := dk_42 (dk_at dksX2_readRows_8 14 rfl rfl)
theorem dX2_readRows_200 : decode cX2_readRows 200 = .ok (.getfield 147, 3) := dk_180 0 147 (dk_at dksX2_readRows_8 15 rfl rfl)
theorem dX2_readRows_203 : decode cX2_readRows 203 = .ok (.iload_n 1, 1) := dk_27 (dk_at dksX2_readRows_8 18 rfl rfl)
theorem dX2_readRows_204 : decode cX2_readRows 204 = .ok (.iaload, 1) := dk_46 (dk_at dksX2_readRows_8 19 rfl rfl)
theorem dX2_readRows_205 : decode cX2_readRows 205 = .ok (.iload_n 2, 1) := dk_28 (dk_at dksX2_readRows_8 20 rfl rfl)
theorem dX2_readRows_206 : decode cX2_readRows 206 = .ok (.if_icmp .ne 38, 3) := dk_160 0 38 (dk_at dksX2_readRows_8 21 rfl rfl)
theorem dX2_readRows_209 : decode cX2_readRows 209 = .ok (.iload_n 2, 1) := dk_28 (dk_at dksX2_readRows_9 0 rfl rfl)
theorem dX2_readRows_210 : decode cX2_readRows 210 = .ok (.iconst 3, 1) := dk_6 (dk_at dksX2_readRows_9 1 rfl rfl)
theorem dX2_readRows_211 : decode cX2_readRows 211 = .ok (.if_icmp .gt 33, 3) := dk_163 0 33 (dk_at dksX2_readRows_9 2 rfl rfl)
theorem dX2_readRows_214 : decode cX2_readRows 214 = .ok (.aload_n 0, 1) := dk_42 (dk_at dksX2_readRows_9 5 rfl rfl)
theorem dX2_readRows_215 : decode cX2_readRows 215 = .ok (.getfield 144, 3) := dk_180 0 144 (dk_at dksX2_readRows_9 6 rfl rfl)
theorem dX2_readRows_218 : decode cX2_readRows 218 = .ok (.iload_n 1, 1) := dk_27 (dk_at dksX2_readRows_9 9 rfl rfl)
theorem dX2_readRows_219 : decode cX2_readRows 219 = .ok (.iaload, 1) := dk_46 (dk_at dksX2_readRows_9 10 rfl rfl)
theorem dX2_readRows_220 : decode cX2_readRows 220 = .ok (.bipush 12, 2) := dk_16 12 (dk_at dksX2_readRows_9 11 rfl rfl)
theorem dX2_readRows_222 : decode cX2_readRows 222 = .ok (.if_icmp .gt 22, 3) := dk_163 0 22 (dk_at dksX2_readRows_9 13 rfl rfl)
theorem dX2_readRows_225 : decode cX2_readRows 225 = .ok (.aload_n 0, 1) := dk_42 (dk_at dksX2_readRows_9 16 rfl rfl)
theorem dX2_readRows_226 : decode cX2_readRows 226 = .ok (.getfield 144, 3) := dk_180 0 144 (dk_at dksX2_readRows_9 17 rfl rfl)
theorem dX2_readRows_229 : decode cX2_readRows 229 = .ok (.iload_n 1, 1) := dk_27 (dk_at dksX2_readRows_9 20 rfl rfl)
theorem dX2_readRows_230 : decode cX2_readRows 230 = .ok (.iaload, 1) := dk_46 (dk_at dksX2_readRows_9 21 rfl rfl)
theorem dX2_readRows_231 : decode cX2_readRows 231 = .ok (.iconst 1, 1) := dk_4 (dk_at dksX2_readRows_9 22 rfl rfl)
theorem dX2_readRows_232 : decode cX2_readRows 232 = .ok (.if_icmp .ne 8, 3) := dk_160 0 8 (dk_at dksX2_readRows_10 0 rfl rfl)
theorem dX2_readRows_235 : decode cX2_readRows 235 = .ok (.iload_n 2, 1) := dk_28 (dk_at dksX2_readRows_10 3 rfl rfl)
theorem dX2_readRows_236 : decode cX2_readRows 236 = .ok (.iconst 1, 1) := dk_4 (dk_at dksX2_readRows_10 4 rfl rfl)
theorem dX2_readRows_237 : decode cX2_readRows 237 = .ok (.if_icmp .eq 7, 3) := dk_159 0 7 (dk_at dksX2_readRows_10 5 rfl rfl)
theorem dX2_readRows_240 : decode cX2_readRows 240 = .ok (.iconst 1, 1) := dk_4 (dk_at dksX2_readRows_10 8 rfl rfl)
theorem dX2_readRows_241 : decode cX2_readRows 241 = .ok (.goto 4, 3) := dk_167 0 4 (dk_at dksX2_readRows_10 9 rfl rfl)
theorem dX2_readRows_244 : decode cX2_readRows 244 = .ok (.iconst 0, 1) := dk_3 (dk_at dksX2_readRows_10 12 rfl rfl)
theorem dX2_readRows_245 : decode cX2_readRows 245 = .ok (.istore_n 3, 1) := dk_62 (dk_at dksX2_readRows_10 13 rfl rfl)
theorem dX2_readRows_246 : decode cX2_readRows 246 = .ok (.iload_n 3, 1) := dk_29 (dk_at dksX2_readRows_10 14 rfl rfl)
theorem dX2_readRows_247 : decode cX2_readRows 247 = .ok (.ifCond .ne 14, 3) := dk_154 0 14 (dk_at dksX2_readRows_10 15 rfl rfl)
theorem dX2_readRows_250 : decode cX2_readRows 250 = .ok (.aload_n 0, 1) := dk_42 (dk_at dksX2_readRows_10 18 rfl rfl)
theorem dX2_readRows_251 : decode cX2_readRows 251 = .ok (.iconst 3, 1) := dk_6 (dk_at dksX2_readRows_10 19 rfl rfl)
theorem dX2_readRows_252 : decode cX2_readRows 252 = .ok (.aload_n 0, 1) := dk_42 (dk_at dksX2_readRows_10 20 rfl rfl)
theorem dX2_readRows_253 : decode cX2_readRows 253 = .ok (.getfield 65, 3) := dk_180 0 65 (dk_at dksX2_readRows_10 21 rfl rfl)
theorem dX2_readRows_256 : decode cX2_readRows 256 = .ok (.iload_n 1, 1) := dk_27 (dk_at dksX2_readRows_11 0 rfl rfl)
theorem dX2_readRows_257 : decode cX2_readRows 257 = .ok (.iaload, 1) := dk_46 (dk_at dksX2_readRows_11 1 rfl rfl)
theorem dX2_readRows_258 : decode cX2_readRows 258 = .ok (.invokevirtual 611, 3) := dk_182 2 99 (dk_at dksX2_readRows_11 2 rfl rfl)
theorem dX2_readRows_261 : decode cX2_readRows 261 = .ok (.iconst 0, 1) := dk_3 (dk_at dksX2_readRows_11 5 rfl rfl)
theorem dX2_readRows_262 : decode cX2_readRows 262 = .ok (.istore 4, 2) := dk_54 4 (dk_at dksX2_readRows_11 6 rfl rfl)
theorem dX2_readRows_264 : decode cX2_readRows 264 = .ok (.iload 4, 2) := dk_21 4 (dk_at dksX2_readRows_11 8 rfl rfl)
theorem dX2_readRows_266 : decode cX2_readRows 266 = .ok (.iload_n 2, 1) := dk_28 (dk_at dksX2_readRows_11 10 rfl rfl)
theorem dX2_readRows_267 : decode cX2_readRows 267 = .ok (.if_icmp .ge 58, 3) := dk_162 0 58 (dk_at dksX2_readRows_11 11 rfl rfl)
theorem dX2_readRows_270 : decode cX2_readRows 270 = .ok (.iload 4, 2) := dk_21 4 (dk_at dksX2_readRows_11 14 rfl rfl)
theorem dX2_readRows_272 : decode cX2_readRows 272 = .ok (.bipush 20, 2) := dk_16 20 (dk_at dksX2_readRows_11 16 rfl rfl)
theorem dX2_readRows_274 : decode cX2_readRows 274 = .ok (.if_icmp .ge 22, 3) := dk_162 0 22 (dk_at dksX2_readRows_11 18 rfl rfl)
theorem dX2_readRows_277 : decode cX2_readRows 277 = .ok (.aload_n 0, 1) := dk_42 (dk_at dksX2_readRows_11 21 rfl rfl)
theorem dX2_readRows_278 : decode cX2_readRows 278 = .ok (.aload_n 0, 1) := dk_42 (dk_at dksX2_readRows_11 22 rfl rfl)
theorem dX2_readRows_279 : decode cX2_readRows 279 = .ok (.getfield 77, 3) := dk_180 0 77 (dk_at dksX2_readRows_12 0 rfl rfl)
theorem dX2_readRows_282 : decode cX2_readRows 282 = .ok (.bipush 20, 2) := dk_16 20 (dk_at dksX2_readRows_12 3 rfl rfl)
theorem dX2_readRows_284 : decode cX2_readRows 284 = .ok (.iload_n 1, 1) := dk_27 (dk_at dksX2_readRows_12 5 rfl rfl)
theorem dX2_readRows_285 : decode cX2_readRows 285 = .ok (.imul, 1) := dk_104 (dk_at dksX2_readRows_12 6 rfl rfl)
theorem dX2_readRows_286 : decode cX2_readRows 286 = .ok (.iload 4, 2) := dk_21 4 (dk_at dksX2_readRows_12 7 rfl rfl)
theorem dX2_readRows_288 : decode cX2_readRows 288 = .ok (.iadd, 1) := dk_96 (dk_at dksX2_readRows_12 9 rfl rfl)
theorem dX2_readRows_289 : decode cX2_readRows 289 = .ok (.iaload, 1) := dk_46 (dk_at dksX2_readRows_12 10 rfl rfl)
theorem dX2_readRows_290 : decode cX2_readRows 290 = .ok (.invokevirtual 621, 3) := dk_182 2 109 (dk_at dksX2_readRows_12 11 rfl rfl)
theorem dX2_readRows_293 : decode cX2_readRows 293 = .ok (.goto 5, 3) := dk_167 0 5 (dk_at dksX2_readRows_12 14 rfl rfl)
theorem dX2_readRows_296 : decode cX2_readRows 296 = .ok (.bipush (-2), 2) := dk_16 254 (dk_at dksX2_readRows_12 17 rfl rfl)
theorem dX2_readRows_298 : decode cX2_readRows 298 = .ok (.istore 5, 2) := dk_54 5 (dk_at dksX2_readRows_12 19 rfl rfl)
theorem dX2_readRows_300 : decode cX2_readRows 300 = .ok (.iload 4, 2) := dk_21 4 (dk_at dksX2_readRows_12 21 rfl rfl)
theorem dX2_readRows_302 : decode cX2_readRows 302 = .ok (.iconst 5, 1) := dk_8 (dk_at dksX2_readRows_12 23 rfl rfl)
theorem dX2_readRows_303 : decode cX2_readRows 303 = .ok (.if_icmp .ge 16, 3) := dk_162 0 16 (dk_at dksX2_readRows_13 0 rfl rfl)
theorem dX2_readRows_306 : decode cX2_readRows 306 = .ok (.aload_n 0, 1) := dk_42 (dk_at dksX2_readRows_13 3 rfl rfl)
theorem dX2_readRows_307 : decode cX2_readRows 307 = .ok (.getfield 150, 3) := dk_180 0 150 (dk_at dksX2_readRows_13 4 rfl rfl)
theorem dX2_readRows_310 : decode cX2_readRows 310 = .ok (.iconst 5, 1) := dk_8 (dk_at dksX2_readRows_13 7 rfl rfl)
theorem dX2_readRows_311 : decode cX2_readRows 311 = .ok (.iload_n 1, 1) := dk_27 (dk_at dksX2_readRows_13 8 rfl rfl)
theorem dX2_readRows_312 : decode cX2_readRows 312 = .ok (.imul, 1) := dk_104 (dk_at dksX2_readRows_13 9 rfl rfl)
theorem dX2_readRows_313 : decode cX2_readRows 313 = .ok (.iload 4, 2) := dk_21 4 (dk_at dksX2_readRows_13 10 rfl rfl)
theorem dX2_readRows_315 : decode cX2_readRows 315 = .ok (.iadd, 1) := dk_96 (dk_at dksX2_readRows_13 12 rfl rfl)
theorem dX2_readRows_316 : decode cX2_readRows 316 = .ok (.iload 5, 2) := dk_21 5 (dk_at dksX2_readRows_13 13 rfl rfl)
theorem dX2_readRows_318 : decode cX2_readRows 318 = .ok (.iastore, 1) := dk_79 (dk_at dksX2_readRows_13 15 rfl rfl)
theorem dX2_readRows_319 : decode cX2_readRows 319 = .ok (.iinc 4 1, 3) := dk_132 4 1 (dk_at dksX2_readRows_13 16 rfl rfl)
theorem dX2_readRows_322 : decode cX2_readRows 322 = .ok (.goto (-58), 3) := dk_167 255 198 (dk_at dksX2_readRows_13 19 rfl rfl)
theorem dX2_readRows_325 : decode cX2_readRows 325 = .ok (.aload_n 0, 1) := dk_42 (dk_at dksX2_readRows_13 22 rfl rfl)
theorem dX2_readRows_326 : decode cX2_readRows 326 = .ok (.getfield 153, 3) := dk_180 0 153 (dk_at dksX2_readRows_14 0 rfl rfl)
theorem dX2_readRows_329 : decode cX2_readRows 329 = .ok (.iload_n 1, 1) := dk_27 (dk_at dksX2_readRows_14 3 rfl rfl)
theorem dX2_readRows_330 : decode cX2_readRows 330 = .ok (.aload_n 0, 1) := dk_42 (dk_at dksX2_readRows_14 4 rfl rfl)
theorem dX2_readRows_331 : decode cX2_readRows 331 = .ok (.aload_n 0, 1) := dk_42 (dk_at dksX2_readRows_14 5 rfl rfl)
theorem dX2_readRows_332 : decode cX2_readRows 332 = .ok (.getfield 80, 3) := dk_180 0 80 (dk_at dksX2_readRows_14 6 rfl rfl)
theorem dX2_readRows_335 : decode cX2_readRows 335 = .ok (.iload_n 1, 1) := dk_27 (dk_at dksX2_readRows_14 9 rfl rfl)
theorem dX2_readRows_336 : decode cX2_readRows 336 = .ok (.iaload, 1) := dk_46 (dk_at dksX2_readRows_14 10 rfl rfl)
theorem dX2_readRows_337 : decode cX2_readRows 337 = .ok (.invokevirtual 621, 3) := dk_182 2 109 (dk_at dksX2_readRows_14 11 rfl rfl)
theorem dX2_readRows_340 : decode cX2_readRows 340 = .ok (.iastore, 1) := dk_79 (dk_at dksX2_readRows_14 14 rfl rfl)
theorem dX2_readRows_341 : decode cX2_readRows 341 = .ok (.iinc 1 1, 3) := dk_132 1 1 (dk_at dksX2_readRows_14 15 rfl rfl)
theorem dX2_readRows_344 : decode cX2_readRows 344 = .ok (.goto (-342), 3) := dk_167 254 170 (dk_at dksX2_readRows_14 18 rfl rfl)
theorem dX2_readRows_347 : decode cX2_readRows 347 = .ok (.return_, 1) := dk_177 (dk_at dksX2_readRows_14 21 rfl rfl)
abbrev cX2_splitWord : ByteArray := prog_4_method_45_code
def yX2_splitWord : MethodName := ⟨RX2, "splitWord", "(II)V"⟩
def dkwX2_splitWord_4 : List UInt8 := [182, 2, 122, 167, 255, 182, 177]
abbrev dktX2_splitWord_4 : List UInt8 := dkwX2_splitWord_4 ++ []
def dkwX2_splitWord_3 : List UInt8 := [16, 95, 159, 0, 9, 132, 4, 1, 167, 255, 235, 42, 27, 42, 21, 5, 21, 4, 21, 5, 100, 182, 1, 239]
abbrev dktX2_splitWord_3 : List UInt8 := dkwX2_splitWord_3 ++ dktX2_splitWord_4
def dkwX2_splitWord_2 : List UInt8 := [132, 4, 1, 167, 255, 229, 21, 4, 54, 5, 21, 4, 29, 162, 0, 21, 42, 180, 0, 30, 21, 4, 51]
abbrev dktX2_splitWord_2 : List UInt8 := dkwX2_splitWord_2 ++ dktX2_splitWord_3
def dkwX2_splitWord_1 : List UInt8 := [29, 162, 0, 74, 42, 180, 0, 30, 21, 4, 51, 16, 95, 160, 0, 15, 42, 27, 2, 182, 2, 122]
abbrev dktX2_splitWord_1 : List UInt8 := dkwX2_splitWord_1 ++ dktX2_splitWord_2
def dkwX2_splitWord_0 : List UInt8 := [42, 180, 0, 33, 28, 46, 42, 180, 0, 37, 28, 46, 96, 62, 42, 180, 0, 33, 28, 46, 54, 4, 21, 4]
abbrev dktX2_splitWord_0 : List UInt8 := dkwX2_splitWord_0 ++ dktX2_splitWord_1
theorem dksX2_splitWord_0 : cX2_splitWord.data.toList.drop 0 = dktX2_splitWord_0 := by decide +kernel
theorem dksX2_splitWord_1 : cX2_splitWord.data.toList.drop 24 = dktX2_splitWord_1 := dk_seg dksX2_splitWord_0 24 rfl rfl
theorem dksX2_splitWord_2 : cX2_splitWord.data.toList.drop 46 = dktX2_splitWord_2 := dk_seg dksX2_splitWord_1 22 rfl rfl
theorem dksX2_splitWord_3 : cX2_splitWord.data.toList.drop 69 = dktX2_splitWord_3 := dk_seg dksX2_splitWord_2 23 rfl rfl
theorem dksX2_splitWord_4 : cX2_splitWord.data.toList.drop 93 = dktX2_splitWord_4 := dk_seg dksX2_splitWord_3 24 rfl rfl
theorem dX2_splitWord_0 : decode cX2_splitWord 0 = .ok (.aload_n 0, 1) := dk_42 (dk_at dksX2_splitWord_0 0 rfl rfl)
theorem dX2_splitWord_1 : decode cX2_splitWord 1 = .ok (.getfield 33, 3) := dk_180 0 33 (dk_at dksX2_splitWord_0 1 rfl rfl)
theorem dX2_splitWord_4 : decode cX2_splitWord 4 = .ok (.iload_n 2, 1) := dk_28 (dk_at dksX2_splitWord_0 4 rfl rfl)
theorem dX2_splitWord_5 : decode cX2_splitWord 5 = .ok (.iaload, 1) := dk_46 (dk_at dksX2_splitWord_0 5 rfl rfl)
theorem dX2_splitWord_6 : decode cX2_splitWord 6 = .ok (.aload_n 0, 1) := dk_42 (dk_at dksX2_splitWord_0 6 rfl rfl)
theorem dX2_splitWord_7 : decode cX2_splitWord 7 = .ok (.getfield 37, 3) := dk_180 0 37 (dk_at dksX2_splitWord_0 7 rfl rfl)
theorem dX2_splitWord_10 : decode cX2_splitWord 10 = .ok (.iload_n 2, 1) := dk_28 (dk_at dksX2_splitWord_0 10 rfl rfl)
theorem dX2_splitWord_11 : decode cX2_splitWord 11 = .ok (.iaload, 1) := dk_46 (dk_at dksX2_splitWord_0 11 rfl rfl)
theorem dX2_splitWord_12 : decode cX2_splitWord 12 = .ok (.iadd, 1) := dk_96 (dk_at dksX2_splitWord_0 12 rfl rfl)
theorem dX2_splitWord_13 : decode cX2_splitWord 13 = .ok (.istore_n 3, 1) := dk_62 (dk_at dksX2_splitWord_0 13 rfl rfl)
theorem dX2_splitWord_14 : decode cX2_splitWord 14 = .ok (.aload_n 0, 1) := dk_42 (dk_at dksX2_splitWord_0 14 rfl rfl)
theorem dX2_splitWord_15 : decode cX2_splitWord 15 = .ok (.getfield 33, 3) := dk_180 0 33 (dk_at dksX2_splitWord_0 15 rfl rfl)
theorem dX2_splitWord_18 : decode cX2_splitWord 18 = .ok (.iload_n 2, 1) := dk_28 (dk_at dksX2_splitWord_0 18 rfl rfl)
theorem dX2_splitWord_19 : decode cX2_splitWord 19 = .ok (.iaload, 1) := dk_46 (dk_at dksX2_splitWord_0 19 rfl rfl)
theorem dX2_splitWord_20 : decode cX2_splitWord 20 = .ok (.istore 4, 2) := dk_54 4 (dk_at dksX2_splitWord_0 20 rfl rfl)
theorem dX2_splitWord_22 : decode cX2_splitWord 22 = .ok (.iload 4, 2) := dk_21 4 (dk_at dksX2_splitWord_0 22 rfl rfl)
theorem dX2_splitWord_24 : decode cX2_splitWord 24 = .ok (.iload_n 3, 1) := dk_29 (dk_at dksX2_splitWord_1 0 rfl rfl)
theorem dX2_splitWord_25 : decode cX2_splitWord 25 = .ok (.if_icmp .ge 74, 3) := dk_162 0 74 (dk_at dksX2_splitWord_1 1 rfl rfl)
theorem dX2_splitWord_28 : decode cX2_splitWord 28 = .ok (.aload_n 0, 1) := dk_42 (dk_at dksX2_splitWord_1 4 rfl rfl)
theorem dX2_splitWord_29 : decode cX2_splitWord 29 = .ok (.getfield 30, 3) := dk_180 0 30 (dk_at dksX2_splitWord_1 5 rfl rfl)
theorem dX2_splitWord_32 : decode cX2_splitWord 32 = .ok (.iload 4, 2) := dk_21 4 (dk_at dksX2_splitWord_1 8 rfl rfl)
theorem dX2_splitWord_34 : decode cX2_splitWord 34 = .ok (.baload, 1) := dk_51 (dk_at dksX2_splitWord_1 10 rfl rfl)
theorem dX2_splitWord_35 : decode cX2_splitWord 35 = .ok (.bipush 95, 2) := dk_16 95 (dk_at dksX2_splitWord_1 11 rfl rfl)
theorem dX2_splitWord_37 : decode cX2_splitWord 37 = .ok (.if_icmp .ne 15, 3) := dk_160 0 15 (dk_at dksX2_splitWord_1 13 rfl rfl)
theorem dX2_splitWord_40 : decode cX2_splitWord 40 = .ok (.aload_n 0, 1) := dk_42 (dk_at dksX2_splitWord_1 16 rfl rfl)
theorem dX2_splitWord_41 : decode cX2_splitWord 41 = .ok (.iload_n 1, 1) := dk_27 (dk_at dksX2_splitWord_1 17 rfl rfl)
theorem dX2_splitWord_42 : decode cX2_splitWord 42 = .ok (.iconst (-1), 1) := dk_2 (dk_at dksX2_splitWord_1 18 rfl rfl)
theorem dX2_splitWord_43 : decode cX2_splitWord 43 = .ok (.invokevirtual 634, 3) := dk_182 2 122 (dk_at dksX2_splitWord_1 19 rfl rfl)
theorem dX2_splitWord_46 : decode cX2_splitWord 46 = .ok (.iinc 4 1, 3) := dk_132 4 1 (dk_at dksX2_splitWord_2 0 rfl rfl)
theorem dX2_splitWord_49 : decode cX2_splitWord 49 = .ok (.goto (-27), 3) := dk_167 255 229 (dk_at dksX2_splitWord_2 3 rfl rfl)
theorem dX2_splitWord_52 : decode cX2_splitWord 52 = .ok (.iload 4, 2) := dk_21 4 (dk_at dksX2_splitWord_2 6 rfl rfl)
theorem dX2_splitWord_54 : decode cX2_splitWord 54 = .ok (.istore 5, 2) := dk_54 5 (dk_at dksX2_splitWord_2 8 rfl rfl)
theorem dX2_splitWord_56 : decode cX2_splitWord 56 = .ok (.iload 4, 2) := dk_21 4 (dk_at dksX2_splitWord_2 10 rfl rfl)
theorem dX2_splitWord_58 : decode cX2_splitWord 58 = .ok (.iload_n 3, 1) := dk_29 (dk_at dksX2_splitWord_2 12 rfl rfl)
theorem dX2_splitWord_59 : decode cX2_splitWord 59 = .ok (.if_icmp .ge 21, 3) := dk_162 0 21 (dk_at dksX2_splitWord_2 13 rfl rfl)
theorem dX2_splitWord_62 : decode cX2_splitWord 62 = .ok (.aload_n 0, 1) := dk_42 (dk_at dksX2_splitWord_2 16 rfl rfl)
theorem dX2_splitWord_63 : decode cX2_splitWord 63 = .ok (.getfield 30, 3) := dk_180 0 30 (dk_at dksX2_splitWord_2 17 rfl rfl)
theorem dX2_splitWord_66 : decode cX2_splitWord 66 = .ok (.iload 4, 2) := dk_21 4 (dk_at dksX2_splitWord_2 20 rfl rfl)
theorem dX2_splitWord_68 : decode cX2_splitWord 68 = .ok (.baload, 1) := dk_51 (dk_at dksX2_splitWord_2 22 rfl rfl)
theorem dX2_splitWord_69 : decode cX2_splitWord 69 = .ok (.bipush 95, 2) := dk_16 95 (dk_at dksX2_splitWord_3 0 rfl rfl)
theorem dX2_splitWord_71 : decode cX2_splitWord 71 = .ok (.if_icmp .eq 9, 3) := dk_159 0 9 (dk_at dksX2_splitWord_3 2 rfl rfl)
theorem dX2_splitWord_74 : decode cX2_splitWord 74 = .ok (.iinc 4 1, 3) := dk_132 4 1 (dk_at dksX2_splitWord_3 5 rfl rfl)
theorem dX2_splitWord_77 : decode cX2_splitWord 77 = .ok (.goto (-21), 3) := dk_167 255 235 (dk_at dksX2_splitWord_3 8 rfl rfl)
theorem dX2_splitWord_80 : decode cX2_splitWord 80 = .ok (.aload_n 0, 1) := dk_42 (dk_at dksX2_splitWord_3 11 rfl rfl)
theorem dX2_splitWord_81 : decode cX2_splitWord 81 = .ok (.iload_n 1, 1) := dk_27 (dk_at dksX2_splitWord_3 12 rfl rfl)
theorem dX2_splitWord_82 : decode cX2_splitWord 82 = .ok (.aload_n 0, 1) := dk_42 (dk_at dksX2_splitWord_3 13 rfl rfl)
theorem dX2_splitWord_83 : decode cX2_splitWord 83 = .ok (.iload 5, 2) := dk_21 5 (dk_at dksX2_splitWord_3 14 rfl rfl)
theorem dX2_splitWord_85 : decode cX2_splitWord 85 = .ok (.iload 4, 2) := dk_21 4 (dk_at dksX2_splitWord_3 16 rfl rfl)
theorem dX2_splitWord_87 : decode cX2_splitWord 87 = .ok (.iload 5, 2) := dk_21 5 (dk_at dksX2_splitWord_3 18 rfl rfl)
theorem dX2_splitWord_89 : decode cX2_splitWord 89 = .ok (.isub, 1) := dk_100 (dk_at dksX2_splitWord_3 20 rfl rfl)
theorem dX2_splitWord_90 : decode cX2_splitWord 90 = .ok (.invokevirtual 495, 3) := dk_182 1 239 (dk_at dksX2_splitWord_3 21 rfl rfl)
theorem dX2_splitWord_93 : decode cX2_splitWord 93 = .ok (.invokevirtual 634, 3) := dk_182 2 122 (dk_at dksX2_splitWord_4 0 rfl rfl)
theorem dX2_splitWord_96 : decode cX2_splitWord 96 = .ok (.goto (-74), 3) := dk_167 255 182 (dk_at dksX2_splitWord_4 3 rfl rfl)
theorem dX2_splitWord_99 : decode cX2_splitWord 99 = .ok (.return_, 1) := dk_177 (dk_at dksX2_splitWord_4 6 rfl rfl)
abbrev cX2_addPart : ByteArray := prog_4_method_44_code
def yX2_addPart : MethodName := ⟨RX2, "addPart", "(II)V"⟩
def dkwX2_addPart_2 : List UInt8 := [46, 28, 2, 160, 0, 7, 4, 167, 0, 4, 3, 96, 79, 177]
abbrev dktX2_addPart_2 : List UInt8 := dkwX2_addPart_2 ++ []
def dkwX2_addPart_1 : List UInt8 := [46, 96, 28, 79, 42, 180, 0, 144, 27, 92, 46, 4, 96, 79, 42, 180, 0, 147, 27, 42, 180, 0, 147, 27]
abbrev dktX2_addPart_1 : List UInt8 := dkwX2_addPart_1 ++ dktX2_addPart_2
def dkwX2_addPart_0 : List UInt8 := [42, 180, 0, 144, 27, 46, 16, 13, 162, 0, 20, 42, 180, 0, 141, 16, 13, 27, 104, 42, 180, 0, 144, 27]
abbrev dktX2_addPart_0 : List UInt8 := dkwX2_addPart_0 ++ dktX2_addPart_1
theorem dksX2_addPart_0 : cX2_addPart.data.toList.drop 0 = dktX2_addPart_0 := by decide +kernel
theorem dksX2_addPart_1 : cX2_addPart.data.toList.drop 24 = dktX2_addPart_1 := dk_seg dksX2_addPart_0 24 rfl rfl
theorem dksX2_addPart_2 : cX2_addPart.data.toList.drop 48 = dktX2_addPart_2 := dk_seg dksX2_addPart_1 24 rfl rfl
theorem dX2_addPart_0 : decode cX2_addPart 0 = .ok (.aload_n 0, 1) := dk_42 (dk_at dksX2_addPart_0 0 rfl rfl)
theorem dX2_addPart_1 : decode cX2_addPart 1 = .ok (.getfield 144, 3) := dk_180 0 144 (dk_at dksX2_addPart_0 1 rfl rfl)
theorem dX2_addPart_4 : decode cX2_addPart 4 = .ok (.iload_n 1, 1) := dk_27 (dk_at dksX2_addPart_0 4 rfl rfl)
theorem dX2_addPart_5 : decode cX2_addPart 5 = .ok (.iaload, 1) := dk_46 (dk_at dksX2_addPart_0 5 rfl rfl)
theorem dX2_addPart_6 : decode cX2_addPart 6 = .ok (.bipush 13, 2) := dk_16 13 (dk_at dksX2_addPart_0 6 rfl rfl)
theorem dX2_addPart_8 : decode cX2_addPart 8 = .ok (.if_icmp .ge 20, 3) := dk_162 0 20 (dk_at dksX2_addPart_0 8 rfl rfl)
theorem dX2_addPart_11 : decode cX2_addPart 11 = .ok (.aload_n 0, 1) := dk_42 (dk_at dksX2_addPart_0 11 rfl rfl)
theorem dX2_addPart_12 : decode cX2_addPart 12 = .ok (.getfield 141, 3) := dk_180 0 141 (dk_at dksX2_addPart_0 12 rfl rfl)
theorem dX2_addPart_15 : decode cX2_addPart 15 = .ok (.bipush 13, 2) := dk_16 13 (dk_at dksX2_addPart_0 15 rfl rfl)
theorem dX2_addPart_17 : decode cX2_addPart 17 = .ok (.iload_n 1, 1) := dk_27 (dk_at dksX2_addPart_0 17 rfl rfl)
theorem dX2_addPart_18 : decode cX2_addPart 18 = .ok (.imul, 1) := dk_104 (dk_at dksX2_addPart_0 18 rfl rfl)
theorem dX2_addPart_19 : decode cX2_addPart 19 = .ok (.aload_n 0, 1) := dk_42 (dk_at dksX2_addPart_0 19 rfl rfl)
theorem dX2_addPart_20 : decode cX2_addPart 20 = .ok (.getfield 144, 3) := dk_180 0 144 (dk_at dksX2_addPart_0 20 rfl rfl)
theorem dX2_addPart_23 : decode cX2_addPart 23 = .ok (.iload_n 1, 1) := dk_27 (dk_at dksX2_addPart_0 23 rfl rfl)
theorem dX2_addPart_24 : decode cX2_addPart 24 = .ok (.iaload, 1) := dk_46 (dk_at dksX2_addPart_1 0 rfl rfl)
theorem dX2_addPart_25 : decode cX2_addPart 25 = .ok (.iadd, 1) := dk_96 (dk_at dksX2_addPart_1 1 rfl rfl)
theorem dX2_addPart_26 : decode cX2_addPart 26 = .ok (.iload_n 2, 1) := dk_28 (dk_at dksX2_addPart_1 2 rfl rfl)
theorem dX2_addPart_27 : decode cX2_addPart 27 = .ok (.iastore, 1) := dk_79 (dk_at dksX2_addPart_1 3 rfl rfl)
theorem dX2_addPart_28 : decode cX2_addPart 28 = .ok (.aload_n 0, 1) := dk_42 (dk_at dksX2_addPart_1 4 rfl rfl)
theorem dX2_addPart_29 : decode cX2_addPart 29 = .ok (.getfield 144, 3) := dk_180 0 144 (dk_at dksX2_addPart_1 5 rfl rfl)
theorem dX2_addPart_32 : decode cX2_addPart 32 = .ok (.iload_n 1, 1) := dk_27 (dk_at dksX2_addPart_1 8 rfl rfl)
theorem dX2_addPart_33 : decode cX2_addPart 33 = .ok (.dup2, 1) := dk_92 (dk_at dksX2_addPart_1 9 rfl rfl)
theorem dX2_addPart_34 : decode cX2_addPart 34 = .ok (.iaload, 1) := dk_46 (dk_at dksX2_addPart_1 10 rfl rfl)
theorem dX2_addPart_35 : decode cX2_addPart 35 = .ok (.iconst 1, 1) := dk_4 (dk_at dksX2_addPart_1 11 rfl rfl)
theorem dX2_addPart_36 : decode cX2_addPart 36 = .ok (.iadd, 1) := dk_96 (dk_at dksX2_addPart_1 12 rfl rfl)
theorem dX2_addPart_37 : decode cX2_addPart 37 = .ok (.iastore, 1) := dk_79 (dk_at dksX2_addPart_1 13 rfl rfl)
theorem dX2_addPart_38 : decode cX2_addPart 38 = .ok (.aload_n 0, 1) := dk_42 (dk_at dksX2_addPart_1 14 rfl rfl)
theorem dX2_addPart_39 : decode cX2_addPart 39 = .ok (.getfield 147, 3) := dk_180 0 147 (dk_at dksX2_addPart_1 15 rfl rfl)
theorem dX2_addPart_42 : decode cX2_addPart 42 = .ok (.iload_n 1, 1) := dk_27 (dk_at dksX2_addPart_1 18 rfl rfl)
theorem dX2_addPart_43 : decode cX2_addPart 43 = .ok (.aload_n 0, 1) := dk_42 (dk_at dksX2_addPart_1 19 rfl rfl)
theorem dX2_addPart_44 : decode cX2_addPart 44 = .ok (.getfield 147, 3) := dk_180 0 147 (dk_at dksX2_addPart_1 20 rfl rfl)
theorem dX2_addPart_47 : decode cX2_addPart 47 = .ok (.iload_n 1, 1) := dk_27 (dk_at dksX2_addPart_1 23 rfl rfl)
theorem dX2_addPart_48 : decode cX2_addPart 48 = .ok (.iaload, 1) := dk_46 (dk_at dksX2_addPart_2 0 rfl rfl)
theorem dX2_addPart_49 : decode cX2_addPart 49 = .ok (.iload_n 2, 1) := dk_28 (dk_at dksX2_addPart_2 1 rfl rfl)
theorem dX2_addPart_50 : decode cX2_addPart 50 = .ok (.iconst (-1), 1) := dk_2 (dk_at dksX2_addPart_2 2 rfl rfl)
theorem dX2_addPart_51 : decode cX2_addPart 51 = .ok (.if_icmp .ne 7, 3) := dk_160 0 7 (dk_at dksX2_addPart_2 3 rfl rfl)
theorem dX2_addPart_54 : decode cX2_addPart 54 = .ok (.iconst 1, 1) := dk_4 (dk_at dksX2_addPart_2 6 rfl rfl)
theorem dX2_addPart_55 : decode cX2_addPart 55 = .ok (.goto 4, 3) := dk_167 0 4 (dk_at dksX2_addPart_2 7 rfl rfl)
theorem dX2_addPart_58 : decode cX2_addPart 58 = .ok (.iconst 0, 1) := dk_3 (dk_at dksX2_addPart_2 10 rfl rfl)
theorem dX2_addPart_59 : decode cX2_addPart 59 = .ok (.iadd, 1) := dk_96 (dk_at dksX2_addPart_2 11 rfl rfl)
theorem dX2_addPart_60 : decode cX2_addPart 60 = .ok (.iastore, 1) := dk_79 (dk_at dksX2_addPart_2 12 rfl rfl)
theorem dX2_addPart_61 : decode cX2_addPart 61 = .ok (.return_, 1) := dk_177 (dk_at dksX2_addPart_2 13 rfl rfl)
abbrev cX2_signName : ByteArray := prog_4_method_23_code
def yX2_signName : MethodName := ⟨RX2, "signName", "(I)I"⟩
def dkwX2_signName_3 : List UInt8 := [181, 1, 232, 42, 180, 1, 232, 4, 100, 172]
abbrev dktX2_signName_3 : List UInt8 := dkwX2_signName_3 ++ []
def dkwX2_signName_2 : List UInt8 := [180, 1, 232, 104, 27, 145, 84, 42, 180, 0, 50, 42, 180, 1, 232, 4, 79, 42, 89, 180, 1, 232, 4, 96]
abbrev dktX2_signName_2 : List UInt8 := dkwX2_signName_2 ++ dktX2_signName_3
def dkwX2_signName_1 : List UInt8 := [16, 16, 28, 104, 51, 27, 160, 0, 5, 28, 172, 132, 2, 1, 167, 255, 220, 42, 180, 0, 47, 16, 16, 42]
abbrev dktX2_signName_1 : List UInt8 := dkwX2_signName_1 ++ dktX2_signName_2
def dkwX2_signName_0 : List UInt8 := [3, 61, 28, 42, 180, 1, 232, 162, 0, 34, 42, 180, 0, 50, 28, 46, 4, 160, 0, 18, 42, 180, 0, 47]
abbrev dktX2_signName_0 : List UInt8 := dkwX2_signName_0 ++ dktX2_signName_1
theorem dksX2_signName_0 : cX2_signName.data.toList.drop 0 = dktX2_signName_0 := by decide +kernel
theorem dksX2_signName_1 : cX2_signName.data.toList.drop 24 = dktX2_signName_1 := dk_seg dksX2_signName_0 24 rfl rfl
theorem dksX2_signName_2 : cX2_signName.data.toList.drop 48 = dktX2_signName_2 := dk_seg dksX2_signName_1 24 rfl rfl
theorem dksX2_signName_3 : cX2_signName.data.toList.drop 72 = dktX2_signName_3 := dk_seg dksX2_signName_2 24 rfl rfl
theorem dX2_signName_0 : decode cX2_signName 0 = .ok (.iconst 0, 1) := dk_3 (dk_at dksX2_signName_0 0 rfl rfl)
theorem dX2_signName_1 : decode cX2_signName 1 = .ok (.istore_n 2, 1) := dk_61 (dk_at dksX2_signName_0 1 rfl rfl)
theorem dX2_signName_2 : decode cX2_signName 2 = .ok (.iload_n 2, 1) := dk_28 (dk_at dksX2_signName_0 2 rfl rfl)
theorem dX2_signName_3 : decode cX2_signName 3 = .ok (.aload_n 0, 1) := dk_42 (dk_at dksX2_signName_0 3 rfl rfl)
theorem dX2_signName_4 : decode cX2_signName 4 = .ok (.getfield 488, 3) := dk_180 1 232 (dk_at dksX2_signName_0 4 rfl rfl)
theorem dX2_signName_7 : decode cX2_signName 7 = .ok (.if_icmp .ge 34, 3) := dk_162 0 34 (dk_at dksX2_signName_0 7 rfl rfl)
theorem dX2_signName_10 : decode cX2_signName 10 = .ok (.aload_n 0, 1) := dk_42 (dk_at dksX2_signName_0 10 rfl rfl)
theorem dX2_signName_11 : decode cX2_signName 11 = .ok (.getfield 50, 3) := dk_180 0 50 (dk_at dksX2_signName_0 11 rfl rfl)
theorem dX2_signName_14 : decode cX2_signName 14 = .ok (.iload_n 2, 1) := dk_28 (dk_at dksX2_signName_0 14 rfl rfl)
theorem dX2_signName_15 : decode cX2_signName 15 = .ok (.iaload, 1) := dk_46 (dk_at dksX2_signName_0 15 rfl rfl)
theorem dX2_signName_16 : decode cX2_signName 16 = .ok (.iconst 1, 1) := dk_4 (dk_at dksX2_signName_0 16 rfl rfl)
theorem dX2_signName_17 : decode cX2_signName 17 = .ok (.if_icmp .ne 18, 3) := dk_160 0 18 (dk_at dksX2_signName_0 17 rfl rfl)
theorem dX2_signName_20 : decode cX2_signName 20 = .ok (.aload_n 0, 1) := dk_42 (dk_at dksX2_signName_0 20 rfl rfl)
theorem dX2_signName_21 : decode cX2_signName 21 = .ok (.getfield 47, 3) := dk_180 0 47 (dk_at dksX2_signName_0 21 rfl rfl)
theorem dX2_signName_24 : decode cX2_signName 24 = .ok (.bipush 16, 2) := dk_16 16 (dk_at dksX2_signName_1 0 rfl rfl)
theorem dX2_signName_26 : decode cX2_signName 26 = .ok (.iload_n 2, 1) := dk_28 (dk_at dksX2_signName_1 2 rfl rfl)
theorem dX2_signName_27 : decode cX2_signName 27 = .ok (.imul, 1) := dk_104 (dk_at dksX2_signName_1 3 rfl rfl)
theorem dX2_signName_28 : decode cX2_signName 28 = .ok (.baload, 1) := dk_51 (dk_at dksX2_signName_1 4 rfl rfl)
theorem dX2_signName_29 : decode cX2_signName 29 = .ok (.iload_n 1, 1) := dk_27 (dk_at dksX2_signName_1 5 rfl rfl)
theorem dX2_signName_30 : decode cX2_signName 30 = .ok (.if_icmp .ne 5, 3) := dk_160 0 5 (dk_at dksX2_signName_1 6 rfl rfl)
theorem dX2_signName_33 : decode cX2_signName 33 = .ok (.iload_n 2, 1) := dk_28 (dk_at dksX2_signName_1 9 rfl rfl)
theorem dX2_signName_34 : decode cX2_signName 34 = .ok (.ireturn, 1) := dk_172 (dk_at dksX2_signName_1 10 rfl rfl)
theorem dX2_signName_35 : decode cX2_signName 35 = .ok (.iinc 2 1, 3) := dk_132 2 1 (dk_at dksX2_signName_1 11 rfl rfl)
theorem dX2_signName_38 : decode cX2_signName 38 = .ok (.goto (-36), 3) := dk_167 255 220 (dk_at dksX2_signName_1 14 rfl rfl)
theorem dX2_signName_41 : decode cX2_signName 41 = .ok (.aload_n 0, 1) := dk_42 (dk_at dksX2_signName_1 17 rfl rfl)
theorem dX2_signName_42 : decode cX2_signName 42 = .ok (.getfield 47, 3) := dk_180 0 47 (dk_at dksX2_signName_1 18 rfl rfl)
theorem dX2_signName_45 : decode cX2_signName 45 = .ok (.bipush 16, 2) := dk_16 16 (dk_at dksX2_signName_1 21 rfl rfl)
theorem dX2_signName_47 : decode cX2_signName 47 = .ok (.aload_n 0, 1) := dk_42 (dk_at dksX2_signName_1 23 rfl rfl)
theorem dX2_signName_48 : decode cX2_signName 48 = .ok (.getfield 488, 3) := dk_180 1 232 (dk_at dksX2_signName_2 0 rfl rfl)
theorem dX2_signName_51 : decode cX2_signName 51 = .ok (.imul, 1) := dk_104 (dk_at dksX2_signName_2 3 rfl rfl)
theorem dX2_signName_52 : decode cX2_signName 52 = .ok (.iload_n 1, 1) := dk_27 (dk_at dksX2_signName_2 4 rfl rfl)
theorem dX2_signName_53 : decode cX2_signName 53 = .ok (.i2b, 1) := dk_145 (dk_at dksX2_signName_2 5 rfl rfl)
theorem dX2_signName_54 : decode cX2_signName 54 = .ok (.bastore, 1) := dk_84 (dk_at dksX2_signName_2 6 rfl rfl)
theorem dX2_signName_55 : decode cX2_signName 55 = .ok (.aload_n 0, 1) := dk_42 (dk_at dksX2_signName_2 7 rfl rfl)
theorem dX2_signName_56 : decode cX2_signName 56 = .ok (.getfield 50, 3) := dk_180 0 50 (dk_at dksX2_signName_2 8 rfl rfl)
theorem dX2_signName_59 : decode cX2_signName 59 = .ok (.aload_n 0, 1) := dk_42 (dk_at dksX2_signName_2 11 rfl rfl)
theorem dX2_signName_60 : decode cX2_signName 60 = .ok (.getfield 488, 3) := dk_180 1 232 (dk_at dksX2_signName_2 12 rfl rfl)
theorem dX2_signName_63 : decode cX2_signName 63 = .ok (.iconst 1, 1) := dk_4 (dk_at dksX2_signName_2 15 rfl rfl)
theorem dX2_signName_64 : decode cX2_signName 64 = .ok (.iastore, 1) := dk_79 (dk_at dksX2_signName_2 16 rfl rfl)
theorem dX2_signName_65 : decode cX2_signName 65 = .ok (.aload_n 0, 1) := dk_42 (dk_at dksX2_signName_2 17 rfl rfl)
theorem dX2_signName_66 : decode cX2_signName 66 = .ok (.dup, 1) := dk_89 (dk_at dksX2_signName_2 18 rfl rfl)
theorem dX2_signName_67 : decode cX2_signName 67 = .ok (.getfield 488, 3) := dk_180 1 232 (dk_at dksX2_signName_2 19 rfl rfl)
theorem dX2_signName_70 : decode cX2_signName 70 = .ok (.iconst 1, 1) := dk_4 (dk_at dksX2_signName_2 22 rfl rfl)
theorem dX2_signName_71 : decode cX2_signName 71 = .ok (.iadd, 1) := dk_96 (dk_at dksX2_signName_2 23 rfl rfl)
theorem dX2_signName_72 : decode cX2_signName 72 = .ok (.putfield 488, 3) := dk_181 1 232 (dk_at dksX2_signName_3 0 rfl rfl)
theorem dX2_signName_75 : decode cX2_signName 75 = .ok (.aload_n 0, 1) := dk_42 (dk_at dksX2_signName_3 3 rfl rfl)
theorem dX2_signName_76 : decode cX2_signName 76 = .ok (.getfield 488, 3) := dk_180 1 232 (dk_at dksX2_signName_3 4 rfl rfl)
theorem dX2_signName_79 : decode cX2_signName 79 = .ok (.iconst 1, 1) := dk_4 (dk_at dksX2_signName_3 7 rfl rfl)
theorem dX2_signName_80 : decode cX2_signName 80 = .ok (.isub, 1) := dk_100 (dk_at dksX2_signName_3 8 rfl rfl)
theorem dX2_signName_81 : decode cX2_signName 81 = .ok (.ireturn, 1) := dk_172 (dk_at dksX2_signName_3 9 rfl rfl)
abbrev cX2_findKinds : ByteArray := prog_4_method_42_code
def yX2_findKinds : MethodName := ⟨RX2, "findKinds", "()V"⟩
def dkwX2_findKinds_8 : List UInt8 := [167, 255, 103, 177]
abbrev dktX2_findKinds_8 : List UInt8 := dkwX2_findKinds_8 ++ []
def dkwX2_findKinds_7 : List UInt8 := [132, 3, 1, 167, 255, 159, 167, 255, 148, 42, 89, 180, 2, 119, 4, 96, 181, 2, 119, 132, 1, 1]
abbrev dktX2_findKinds_7 : List UInt8 := dkwX2_findKinds_7 ++ dktX2_findKinds_8
def dkwX2_findKinds_6 : List UInt8 := [46, 156, 0, 16, 42, 180, 0, 132, 21, 4, 42, 180, 2, 119, 79, 4, 61, 132, 4, 1, 167, 255, 176]
abbrev dktX2_findKinds_6 : List UInt8 := dkwX2_findKinds_6 ++ dktX2_findKinds_7
def dkwX2_findKinds_5 : List UInt8 := [21, 5, 153, 0, 39, 42, 180, 0, 132, 29, 46, 42, 180, 2, 119, 160, 0, 26, 42, 180, 0, 132, 21, 4]
abbrev dktX2_findKinds_5 : List UInt8 := dkwX2_findKinds_5 ++ dktX2_findKinds_6
def dkwX2_findKinds_4 : List UInt8 := [182, 2, 102, 154, 0, 13, 42, 21, 4, 29, 182, 2, 102, 153, 0, 7, 4, 167, 0, 4, 3, 54, 5]
abbrev dktX2_findKinds_4 : List UInt8 := dkwX2_findKinds_4 ++ dktX2_findKinds_5
def dkwX2_findKinds_3 : List UInt8 := [42, 180, 2, 9, 162, 0, 95, 3, 54, 4, 21, 4, 42, 180, 2, 9, 162, 0, 77, 42, 29, 21, 4]
abbrev dktX2_findKinds_3 : List UInt8 := dkwX2_findKinds_3 ++ dktX2_findKinds_4
def dkwX2_findKinds_2 : List UInt8 := [156, 0, 136, 42, 180, 0, 132, 27, 42, 180, 2, 119, 79, 4, 61, 28, 153, 0, 110, 3, 61, 3, 62, 29]
abbrev dktX2_findKinds_2 : List UInt8 := dkwX2_findKinds_2 ++ dktX2_findKinds_3
def dkwX2_findKinds_1 : List UInt8 := [132, 1, 1, 167, 255, 238, 3, 60, 27, 42, 180, 2, 9, 162, 0, 151, 42, 180, 0, 132, 27, 46]
abbrev dktX2_findKinds_1 : List UInt8 := dkwX2_findKinds_1 ++ dktX2_findKinds_2
def dkwX2_findKinds_0 : List UInt8 := [42, 3, 181, 2, 119, 3, 60, 27, 42, 180, 2, 9, 162, 0, 16, 42, 180, 0, 132, 27, 2, 79]
abbrev dktX2_findKinds_0 : List UInt8 := dkwX2_findKinds_0 ++ dktX2_findKinds_1
theorem dksX2_findKinds_0 : cX2_findKinds.data.toList.drop 0 = dktX2_findKinds_0 := by decide +kernel
theorem dksX2_findKinds_1 : cX2_findKinds.data.toList.drop 22 = dktX2_findKinds_1 := dk_seg dksX2_findKinds_0 22 rfl rfl
theorem dksX2_findKinds_2 : cX2_findKinds.data.toList.drop 44 = dktX2_findKinds_2 := dk_seg dksX2_findKinds_1 22 rfl rfl
theorem dksX2_findKinds_3 : cX2_findKinds.data.toList.drop 68 = dktX2_findKinds_3 := dk_seg dksX2_findKinds_2 24 rfl rfl
theorem dksX2_findKinds_4 : cX2_findKinds.data.toList.drop 91 = dktX2_findKinds_4 := dk_seg dksX2_findKinds_3 23 rfl rfl
theorem dksX2_findKinds_5 : cX2_findKinds.data.toList.drop 114 = dktX2_findKinds_5 := dk_seg dksX2_findKinds_4 23 rfl rfl
theorem dksX2_findKinds_6 : cX2_findKinds.data.toList.drop 138 = dktX2_findKinds_6 := dk_seg dksX2_findKinds_5 24 rfl rfl
theorem dksX2_findKinds_7 : cX2_findKinds.data.toList.drop 161 = dktX2_findKinds_7 := dk_seg dksX2_findKinds_6 23 rfl rfl
theorem dksX2_findKinds_8 : cX2_findKinds.data.toList.drop 183 = dktX2_findKinds_8 := dk_seg dksX2_findKinds_7 22 rfl rfl
theorem dX2_findKinds_0 : decode cX2_findKinds 0 = .ok (.aload_n 0, 1) := dk_42 (dk_at dksX2_findKinds_0 0 rfl rfl)
theorem dX2_findKinds_1 : decode cX2_findKinds 1 = .ok (.iconst 0, 1) := dk_3 (dk_at dksX2_findKinds_0 1 rfl rfl)
theorem dX2_findKinds_2 : decode cX2_findKinds 2 = .ok (.putfield 631, 3) := dk_181 2 119 (dk_at dksX2_findKinds_0 2 rfl rfl)
theorem dX2_findKinds_5 : decode cX2_findKinds 5 = .ok (.iconst 0, 1) := dk_3 (dk_at dksX2_findKinds_0 5 rfl rfl)
theorem dX2_findKinds_6 : decode cX2_findKinds 6 = .ok (.istore_n 1, 1) := dk_60 (dk_at dksX2_findKinds_0 6 rfl rfl)
theorem dX2_findKinds_7 : decode cX2_findKinds 7 = .ok (.iload_n 1, 1) := dk_27 (dk_at dksX2_findKinds_0 7 rfl rfl)
theorem dX2_findKinds_8 : decode cX2_findKinds 8 = .ok (.aload_n 0, 1) := dk_42 (dk_at dksX2_findKinds_0 8 rfl rfl)
theorem dX2_findKinds_9 : decode cX2_findKinds 9 = .ok (.getfield 521, 3) := dk_180 2 9 (dk_at dksX2_findKinds_0 9 rfl rfl)
theorem dX2_findKinds_12 : decode cX2_findKinds 12 = .ok (.if_icmp .ge 16, 3) := dk_162 0 16 (dk_at dksX2_findKinds_0 12 rfl rfl)
theorem dX2_findKinds_15 : decode cX2_findKinds 15 = .ok (.aload_n 0, 1) := dk_42 (dk_at dksX2_findKinds_0 15 rfl rfl)
theorem dX2_findKinds_16 : decode cX2_findKinds 16 = .ok (.getfield 132, 3) := dk_180 0 132 (dk_at dksX2_findKinds_0 16 rfl rfl)
theorem dX2_findKinds_19 : decode cX2_findKinds 19 = .ok (.iload_n 1, 1) := dk_27 (dk_at dksX2_findKinds_0 19 rfl rfl)
theorem dX2_findKinds_20 : decode cX2_findKinds 20 = .ok (.iconst (-1), 1) := dk_2 (dk_at dksX2_findKinds_0 20 rfl rfl)
theorem dX2_findKinds_21 : decode cX2_findKinds 21 = .ok (.iastore, 1) := dk_79 (dk_at dksX2_findKinds_0 21 rfl rfl)
theorem dX2_findKinds_22 : decode cX2_findKinds 22 = .ok (.iinc 1 1, 3) := dk_132 1 1 (dk_at dksX2_findKinds_1 0 rfl rfl)
theorem dX2_findKinds_25 : decode cX2_findKinds 25 = .ok (.goto (-18), 3) := dk_167 255 238 (dk_at dksX2_findKinds_1 3 rfl rfl)
theorem dX2_findKinds_28 : decode cX2_findKinds 28 = .ok (.iconst 0, 1) := dk_3 (dk_at dksX2_findKinds_1 6 rfl rfl)
theorem dX2_findKinds_29 : decode cX2_findKinds 29 = .ok (.istore_n 1, 1) := dk_60 (dk_at dksX2_findKinds_1 7 rfl rfl)
theorem dX2_findKinds_30 : decode cX2_findKinds 30 = .ok (.iload_n 1, 1) := dk_27 (dk_at dksX2_findKinds_1 8 rfl rfl)
theorem dX2_findKinds_31 : decode cX2_findKinds 31 = .ok (.aload_n 0, 1) := dk_42 (dk_at dksX2_findKinds_1 9 rfl rfl)
theorem dX2_findKinds_32 : decode cX2_findKinds 32 = .ok (.getfield 521, 3) := dk_180 2 9 (dk_at dksX2_findKinds_1 10 rfl rfl)
theorem dX2_findKinds_35 : decode cX2_findKinds 35 = .ok (.if_icmp .ge 151, 3) := dk_162 0 151 (dk_at dksX2_findKinds_1 13 rfl rfl)
theorem dX2_findKinds_38 : decode cX2_findKinds 38 = .ok (.aload_n 0, 1) := dk_42 (dk_at dksX2_findKinds_1 16 rfl rfl)
theorem dX2_findKinds_39 : decode cX2_findKinds 39 = .ok (.getfield 132, 3) := dk_180 0 132 (dk_at dksX2_findKinds_1 17 rfl rfl)
theorem dX2_findKinds_42 : decode cX2_findKinds 42 = .ok (.iload_n 1, 1) := dk_27 (dk_at dksX2_findKinds_1 20 rfl rfl)
theorem dX2_findKinds_43 : decode cX2_findKinds 43 = .ok (.iaload, 1) := dk_46 (dk_at dksX2_findKinds_1 21 rfl rfl)
theorem dX2_findKinds_44 : decode cX2_findKinds 44 = .ok (.ifCond .ge 136, 3) := dk_156 0 136 (dk_at dksX2_findKinds_2 0 rfl rfl)
theorem dX2_findKinds_47 : decode cX2_findKinds 47 = .ok (.aload_n 0, 1) := dk_42 (dk_at dksX2_findKinds_2 3 rfl rfl)
theorem dX2_findKinds_48 : decode cX2_findKinds 48 = .ok (.getfield 132, 3) := dk_180 0 132 (dk_at dksX2_findKinds_2 4 rfl rfl)
theorem dX2_findKinds_51 : decode cX2_findKinds 51 = .ok (.iload_n 1, 1) := dk_27 (dk_at dksX2_findKinds_2 7 rfl rfl)
theorem dX2_findKinds_52 : decode cX2_findKinds 52 = .ok (.aload_n 0, 1) := dk_42 (dk_at dksX2_findKinds_2 8 rfl rfl)
theorem dX2_findKinds_53 : decode cX2_findKinds 53 = .ok (.getfield 631, 3) := dk_180 2 119 (dk_at dksX2_findKinds_2 9 rfl rfl)
theorem dX2_findKinds_56 : decode cX2_findKinds 56 = .ok (.iastore, 1) := dk_79 (dk_at dksX2_findKinds_2 12 rfl rfl)
theorem dX2_findKinds_57 : decode cX2_findKinds 57 = .ok (.iconst 1, 1) := dk_4 (dk_at dksX2_findKinds_2 13 rfl rfl)
theorem dX2_findKinds_58 : decode cX2_findKinds 58 = .ok (.istore_n 2, 1) := dk_61 (dk_at dksX2_findKinds_2 14 rfl rfl)
theorem dX2_findKinds_59 : decode cX2_findKinds 59 = .ok (.iload_n 2, 1) := dk_28 (dk_at dksX2_findKinds_2 15 rfl rfl)
theorem dX2_findKinds_60 : decode cX2_findKinds 60 = .ok (.ifCond .eq 110, 3) := dk_153 0 110 (dk_at dksX2_findKinds_2 16 rfl rfl)
theorem dX2_findKinds_63 : decode cX2_findKinds 63 = .ok (.iconst 0, 1) := dk_3 (dk_at dksX2_findKinds_2 19 rfl rfl)
theorem dX2_findKinds_64 : decode cX2_findKinds 64 = .ok (.istore_n 2, 1) := dk_61 (dk_at dksX2_findKinds_2 20 rfl rfl)
theorem dX2_findKinds_65 : decode cX2_findKinds 65 = .ok (.iconst 0, 1) := dk_3 (dk_at dksX2_findKinds_2 21 rfl rfl)
theorem dX2_findKinds_66 : decode cX2_findKinds 66 = .ok (.istore_n 3, 1) := dk_62 (dk_at dksX2_findKinds_2 22 rfl rfl)
theorem dX2_findKinds_67 : decode cX2_findKinds 67 = .ok (.iload_n 3, 1) := dk_29 (dk_at dksX2_findKinds_2 23 rfl rfl)
theorem dX2_findKinds_68 : decode cX2_findKinds 68 = .ok (.aload_n 0, 1) := dk_42 (dk_at dksX2_findKinds_3 0 rfl rfl)
theorem dX2_findKinds_69 : decode cX2_findKinds 69 = .ok (.getfield 521, 3) := dk_180 2 9 (dk_at dksX2_findKinds_3 1 rfl rfl)
theorem dX2_findKinds_72 : decode cX2_findKinds 72 = .ok (.if_icmp .ge 95, 3) := dk_162 0 95 (dk_at dksX2_findKinds_3 4 rfl rfl)
theorem dX2_findKinds_75 : decode cX2_findKinds 75 = .ok (.iconst 0, 1) := dk_3 (dk_at dksX2_findKinds_3 7 rfl rfl)
theorem dX2_findKinds_76 : decode cX2_findKinds 76 = .ok (.istore 4, 2) := dk_54 4 (dk_at dksX2_findKinds_3 8 rfl rfl)
theorem dX2_findKinds_78 : decode cX2_findKinds 78 = .ok (.iload 4, 2) := dk_21 4 (dk_at dksX2_findKinds_3 10 rfl rfl)
theorem dX2_findKinds_80 : decode cX2_findKinds 80 = .ok (.aload_n 0, 1) := dk_42 (dk_at dksX2_findKinds_3 12 rfl rfl)
theorem dX2_findKinds_81 : decode cX2_findKinds 81 = .ok (.getfield 521, 3) := dk_180 2 9 (dk_at dksX2_findKinds_3 13 rfl rfl)
theorem dX2_findKinds_84 : decode cX2_findKinds 84 = .ok (.if_icmp .ge 77, 3) := dk_162 0 77 (dk_at dksX2_findKinds_3 16 rfl rfl)
theorem dX2_findKinds_87 : decode cX2_findKinds 87 = .ok (.aload_n 0, 1) := dk_42 (dk_at dksX2_findKinds_3 19 rfl rfl)
theorem dX2_findKinds_88 : decode cX2_findKinds 88 = .ok (.iload_n 3, 1) := dk_29 (dk_at dksX2_findKinds_3 20 rfl rfl)
theorem dX2_findKinds_89 : decode cX2_findKinds 89 = .ok (.iload 4, 2) := dk_21 4 (dk_at dksX2_findKinds_3 21 rfl rfl)
theorem dX2_findKinds_91 : decode cX2_findKinds 91 = .ok (.invokevirtual 614, 3) := dk_182 2 102 (dk_at dksX2_findKinds_4 0 rfl rfl)
theorem dX2_findKinds_94 : decode cX2_findKinds 94 = .ok (.ifCond .ne 13, 3) := dk_154 0 13 (dk_at dksX2_findKinds_4 3 rfl rfl)
theorem dX2_findKinds_97 : decode cX2_findKinds 97 = .ok (.aload_n 0, 1) := dk_42 (dk_at dksX2_findKinds_4 6 rfl rfl)
theorem dX2_findKinds_98 : decode cX2_findKinds 98 = .ok (.iload 4, 2) := dk_21 4 (dk_at dksX2_findKinds_4 7 rfl rfl)
theorem dX2_findKinds_100 : decode cX2_findKinds 100 = .ok (.iload_n 3, 1) := dk_29 (dk_at dksX2_findKinds_4 9 rfl rfl)
theorem dX2_findKinds_101 : decode cX2_findKinds 101 = .ok (.invokevirtual 614, 3) := dk_182 2 102 (dk_at dksX2_findKinds_4 10 rfl rfl)
theorem dX2_findKinds_104 : decode cX2_findKinds 104 = .ok (.ifCond .eq 7, 3) := dk_153 0 7 (dk_at dksX2_findKinds_4 13 rfl rfl)
theorem dX2_findKinds_107 : decode cX2_findKinds 107 = .ok (.iconst 1, 1) := dk_4 (dk_at dksX2_findKinds_4 16 rfl rfl)
theorem dX2_findKinds_108 : decode cX2_findKinds 108 = .ok (.goto 4, 3) := dk_167 0 4 (dk_at dksX2_findKinds_4 17 rfl rfl)
theorem dX2_findKinds_111 : decode cX2_findKinds 111 = .ok (.iconst 0, 1) := dk_3 (dk_at dksX2_findKinds_4 20 rfl rfl)
theorem dX2_findKinds_112 : decode cX2_findKinds 112 = .ok (.istore 5, 2) := dk_54 5 (dk_at dksX2_findKinds_4 21 rfl rfl)
theorem dX2_findKinds_114 : decode cX2_findKinds 114 = .ok (.iload 5, 2) := dk_21 5 (dk_at dksX2_findKinds_5 0 rfl rfl)
theorem dX2_findKinds_116 : decode cX2_findKinds 116 = .ok (.ifCond .eq 39, 3) := dk_153 0 39 (dk_at dksX2_findKinds_5 2 rfl rfl)
theorem dX2_findKinds_119 : decode cX2_findKinds 119 = .ok (.aload_n 0, 1) := dk_42 (dk_at dksX2_findKinds_5 5 rfl rfl)
theorem dX2_findKinds_120 : decode cX2_findKinds 120 = .ok (.getfield 132, 3) := dk_180 0 132 (dk_at dksX2_findKinds_5 6 rfl rfl)
theorem dX2_findKinds_123 : decode cX2_findKinds 123 = .ok (.iload_n 3, 1) := dk_29 (dk_at dksX2_findKinds_5 9 rfl rfl)
theorem dX2_findKinds_124 : decode cX2_findKinds 124 = .ok (.iaload, 1) := dk_46 (dk_at dksX2_findKinds_5 10 rfl rfl)
theorem dX2_findKinds_125 : decode cX2_findKinds 125 = .ok (.aload_n 0, 1) := dk_42 (dk_at dksX2_findKinds_5 11 rfl rfl)
theorem dX2_findKinds_126 : decode cX2_findKinds 126 = .ok (.getfield 631, 3) := dk_180 2 119 (dk_at dksX2_findKinds_5 12 rfl rfl)
theorem dX2_findKinds_129 : decode cX2_findKinds 129 = .ok (.if_icmp .ne 26, 3) := dk_160 0 26 (dk_at dksX2_findKinds_5 15 rfl rfl)
theorem dX2_findKinds_132 : decode cX2_findKinds 132 = .ok (.aload_n 0, 1) := dk_42 (dk_at dksX2_findKinds_5 18 rfl rfl)
theorem dX2_findKinds_133 : decode cX2_findKinds 133 = .ok (.getfield 132, 3) := dk_180 0 132 (dk_at dksX2_findKinds_5 19 rfl rfl)
theorem dX2_findKinds_136 : decode cX2_findKinds 136 = .ok (.iload 4, 2) := dk_21 4 (dk_at dksX2_findKinds_5 22 rfl rfl)
theorem dX2_findKinds_138 : decode cX2_findKinds 138 = .ok (.iaload, 1) := dk_46 (dk_at dksX2_findKinds_6 0 rfl rfl)
theorem dX2_findKinds_139 : decode cX2_findKinds 139 = .ok (.ifCond .ge 16, 3) := dk_156 0 16 (dk_at dksX2_findKinds_6 1 rfl rfl)
theorem dX2_findKinds_142 : decode cX2_findKinds 142 = .ok (.aload_n 0, 1) := dk_42 (dk_at dksX2_findKinds_6 4 rfl rfl)
theorem dX2_findKinds_143 : decode cX2_findKinds 143 = .ok (.getfield 132, 3) := dk_180 0 132 (dk_at dksX2_findKinds_6 5 rfl rfl)
theorem dX2_findKinds_146 : decode cX2_findKinds 146 = .ok (.iload 4, 2) := dk_21 4 (dk_at dksX2_findKinds_6 8 rfl rfl)
theorem dX2_findKinds_148 : decode cX2_findKinds 148 = .ok (.aload_n 0, 1) := dk_42 (dk_at dksX2_findKinds_6 10 rfl rfl)
theorem dX2_findKinds_149 : decode cX2_findKinds 149 = .ok (.getfield 631, 3) := dk_180 2 119 (dk_at dksX2_findKinds_6 11 rfl rfl)
theorem dX2_findKinds_152 : decode cX2_findKinds 152 = .ok (.iastore, 1) := dk_79 (dk_at dksX2_findKinds_6 14 rfl rfl)
theorem dX2_findKinds_153 : decode cX2_findKinds 153 = .ok (.iconst 1, 1) := dk_4 (dk_at dksX2_findKinds_6 15 rfl rfl)
theorem dX2_findKinds_154 : decode cX2_findKinds 154 = .ok (.istore_n 2, 1) := dk_61 (dk_at dksX2_findKinds_6 16 rfl rfl)
theorem dX2_findKinds_155 : decode cX2_findKinds 155 = .ok (.iinc 4 1, 3) := dk_132 4 1 (dk_at dksX2_findKinds_6 17 rfl rfl)
theorem dX2_findKinds_158 : decode cX2_findKinds 158 = .ok (.goto (-80), 3) := dk_167 255 176 (dk_at dksX2_findKinds_6 20 rfl rfl)
theorem dX2_findKinds_161 : decode cX2_findKinds 161 = .ok (.iinc 3 1, 3) := dk_132 3 1 (dk_at dksX2_findKinds_7 0 rfl rfl)
theorem dX2_findKinds_164 : decode cX2_findKinds 164 = .ok (.goto (-97), 3) := dk_167 255 159 (dk_at dksX2_findKinds_7 3 rfl rfl)
theorem dX2_findKinds_167 : decode cX2_findKinds 167 = .ok (.goto (-108), 3) := dk_167 255 148 (dk_at dksX2_findKinds_7 6 rfl rfl)
theorem dX2_findKinds_170 : decode cX2_findKinds 170 = .ok (.aload_n 0, 1) := dk_42 (dk_at dksX2_findKinds_7 9 rfl rfl)
theorem dX2_findKinds_171 : decode cX2_findKinds 171 = .ok (.dup, 1) := dk_89 (dk_at dksX2_findKinds_7 10 rfl rfl)
theorem dX2_findKinds_172 : decode cX2_findKinds 172 = .ok (.getfield 631, 3) := dk_180 2 119 (dk_at dksX2_findKinds_7 11 rfl rfl)
theorem dX2_findKinds_175 : decode cX2_findKinds 175 = .ok (.iconst 1, 1) := dk_4 (dk_at dksX2_findKinds_7 14 rfl rfl)
theorem dX2_findKinds_176 : decode cX2_findKinds 176 = .ok (.iadd, 1) := dk_96 (dk_at dksX2_findKinds_7 15 rfl rfl)
theorem dX2_findKinds_177 : decode cX2_findKinds 177 = .ok (.putfield 631, 3) := dk_181 2 119 (dk_at dksX2_findKinds_7 16 rfl rfl)
theorem dX2_findKinds_180 : decode cX2_findKinds 180 = .ok (.iinc 1 1, 3) := dk_132 1 1 (dk_at dksX2_findKinds_7 19 rfl rfl)
theorem dX2_findKinds_183 : decode cX2_findKinds 183 = .ok (.goto (-153), 3) := dk_167 255 103 (dk_at dksX2_findKinds_8 0 rfl rfl)
theorem dX2_findKinds_186 : decode cX2_findKinds 186 = .ok (.return_, 1) := dk_177 (dk_at dksX2_findKinds_8 3 rfl rfl)
abbrev cX2_makeOps : ByteArray := prog_4_method_52_code
def yX2_makeOps : MethodName := ⟨RX2, "makeOps", "()V"⟩
def dkwX2_makeOps_11 : List UInt8 := [27, 46, 92, 46, 4, 96, 79, 132, 1, 1, 167, 254, 249, 177]
abbrev dktX2_makeOps_11 : List UInt8 := dkwX2_makeOps_11 ++ []
def dkwX2_makeOps_10 : List UInt8 := [180, 0, 177, 28, 3, 79, 42, 89, 180, 2, 131, 4, 96, 181, 2, 131, 42, 180, 0, 177, 42, 180, 0, 156]
abbrev dktX2_makeOps_10 : List UInt8 := dkwX2_makeOps_10 ++ dktX2_makeOps_11
def dkwX2_makeOps_9 : List UInt8 := [27, 51, 84, 42, 180, 0, 171, 28, 42, 180, 0, 87, 27, 51, 84, 42, 180, 0, 174, 28, 16, 254, 79, 42]
abbrev dktX2_makeOps_9 : List UInt8 := dkwX2_makeOps_9 ++ dktX2_makeOps_10
def dkwX2_makeOps_8 : List UInt8 := [46, 167, 0, 13, 29, 153, 0, 8, 16, 41, 167, 0, 4, 3, 79, 42, 180, 0, 168, 28, 42, 180, 0, 83]
abbrev dktX2_makeOps_8 : List UInt8 := dkwX2_makeOps_8 ++ dktX2_makeOps_9
def dkwX2_makeOps_7 : List UInt8 := [167, 0, 4, 3, 62, 42, 180, 0, 165, 28, 42, 180, 0, 93, 27, 46, 155, 0, 12, 42, 180, 0, 93, 27]
abbrev dktX2_makeOps_7 : List UInt8 := dkwX2_makeOps_7 ++ dktX2_makeOps_8
def dkwX2_makeOps_6 : List UInt8 := [42, 180, 0, 141, 16, 13, 27, 104, 42, 180, 0, 144, 27, 46, 96, 4, 100, 46, 2, 160, 0, 7, 4]
abbrev dktX2_makeOps_6 : List UInt8 := dkwX2_makeOps_6 ++ dktX2_makeOps_7
def dkwX2_makeOps_5 : List UInt8 := [180, 0, 132, 42, 180, 0, 153, 27, 46, 46, 79, 42, 180, 0, 141, 16, 13, 27, 104, 46, 2, 159, 0, 25]
abbrev dktX2_makeOps_5 : List UInt8 := dkwX2_makeOps_5 ++ dktX2_makeOps_6
def dkwX2_makeOps_4 : List UInt8 := [180, 2, 131, 61, 42, 180, 0, 156, 27, 28, 79, 42, 180, 0, 159, 28, 27, 79, 42, 180, 0, 162, 28, 42]
abbrev dktX2_makeOps_4 : List UInt8 := dkwX2_makeOps_4 ++ dktX2_makeOps_5
def dkwX2_makeOps_3 : List UInt8 := [180, 0, 156, 27, 28, 79, 132, 2, 1, 167, 255, 201, 42, 180, 0, 156, 27, 46, 156, 0, 163, 42]
abbrev dktX2_makeOps_3 : List UInt8 := dkwX2_makeOps_3 ++ dktX2_makeOps_4
def dkwX2_makeOps_2 : List UInt8 := [28, 46, 182, 2, 134, 153, 0, 24, 42, 27, 42, 180, 0, 159, 28, 46, 182, 2, 137, 153, 0, 10, 42]
abbrev dktX2_makeOps_2 : List UInt8 := dkwX2_makeOps_2 ++ dktX2_makeOps_3
def dkwX2_makeOps_1 : List UInt8 := [61, 28, 42, 180, 2, 131, 162, 0, 53, 42, 180, 0, 156, 27, 46, 156, 0, 44, 42, 27, 42, 180, 0, 159]
abbrev dktX2_makeOps_1 : List UInt8 := dkwX2_makeOps_1 ++ dktX2_makeOps_2
def dkwX2_makeOps_0 : List UInt8 := [42, 3, 181, 2, 131, 3, 60, 27, 42, 180, 2, 26, 162, 1, 5, 42, 180, 0, 156, 27, 16, 254, 79, 3]
abbrev dktX2_makeOps_0 : List UInt8 := dkwX2_makeOps_0 ++ dktX2_makeOps_1
theorem dksX2_makeOps_0 : cX2_makeOps.data.toList.drop 0 = dktX2_makeOps_0 := by decide +kernel
theorem dksX2_makeOps_1 : cX2_makeOps.data.toList.drop 24 = dktX2_makeOps_1 := dk_seg dksX2_makeOps_0 24 rfl rfl
theorem dksX2_makeOps_2 : cX2_makeOps.data.toList.drop 48 = dktX2_makeOps_2 := dk_seg dksX2_makeOps_1 24 rfl rfl
theorem dksX2_makeOps_3 : cX2_makeOps.data.toList.drop 71 = dktX2_makeOps_3 := dk_seg dksX2_makeOps_2 23 rfl rfl
theorem dksX2_makeOps_4 : cX2_makeOps.data.toList.drop 93 = dktX2_makeOps_4 := dk_seg dksX2_makeOps_3 22 rfl rfl
theorem dksX2_makeOps_5 : cX2_makeOps.data.toList.drop 117 = dktX2_makeOps_5 := dk_seg dksX2_makeOps_4 24 rfl rfl
theorem dksX2_makeOps_6 : cX2_makeOps.data.toList.drop 141 = dktX2_makeOps_6 := dk_seg dksX2_makeOps_5 24 rfl rfl
theorem dksX2_makeOps_7 : cX2_makeOps.data.toList.drop 164 = dktX2_makeOps_7 := dk_seg dksX2_makeOps_6 23 rfl rfl
theorem dksX2_makeOps_8 : cX2_makeOps.data.toList.drop 188 = dktX2_makeOps_8 := dk_seg dksX2_makeOps_7 24 rfl rfl
theorem dksX2_makeOps_9 : cX2_makeOps.data.toList.drop 212 = dktX2_makeOps_9 := dk_seg dksX2_makeOps_8 24 rfl rfl
theorem dksX2_makeOps_10 : cX2_makeOps.data.toList.drop 236 = dktX2_makeOps_10 := dk_seg dksX2_makeOps_9 24 rfl rfl
theorem dksX2_makeOps_11 : cX2_makeOps.data.toList.drop 260 = dktX2_makeOps_11 := dk_seg dksX2_makeOps_10 24 rfl rfl
theorem dX2_makeOps_0 : decode cX2_makeOps 0 = .ok (.aload_n 0, 1) := dk_42 (dk_at dksX2_makeOps_0 0 rfl rfl)
theorem dX2_makeOps_1 : decode cX2_makeOps 1 = .ok (.iconst 0, 1) := dk_3 (dk_at dksX2_makeOps_0 1 rfl rfl)
theorem dX2_makeOps_2 : decode cX2_makeOps 2 = .ok (.putfield 643, 3) := dk_181 2 131 (dk_at dksX2_makeOps_0 2 rfl rfl)
theorem dX2_makeOps_5 : decode cX2_makeOps 5 = .ok (.iconst 0, 1) := dk_3 (dk_at dksX2_makeOps_0 5 rfl rfl)
theorem dX2_makeOps_6 : decode cX2_makeOps 6 = .ok (.istore_n 1, 1) := dk_60 (dk_at dksX2_makeOps_0 6 rfl rfl)
theorem dX2_makeOps_7 : decode cX2_makeOps 7 = .ok (.iload_n 1, 1) := dk_27 (dk_at dksX2_makeOps_0 7 rfl rfl)
theorem dX2_makeOps_8 : decode cX2_makeOps 8 = .ok (.aload_n 0, 1) := dk_42 (dk_at dksX2_makeOps_0 8 rfl rfl)
theorem dX2_makeOps_9 : decode cX2_makeOps 9 = .ok (.getfield 538, 3) := dk_180 2 26 (dk_at dksX2_makeOps_0 9 rfl rfl)
theorem dX2_makeOps_12 : decode cX2_makeOps 12 = .ok (.if_icmp .ge 261, 3) := dk_162 1 5 (dk_at dksX2_makeOps_0 12 rfl rfl)
theorem dX2_makeOps_15 : decode cX2_makeOps 15 = .ok (.aload_n 0, 1) := dk_42 (dk_at dksX2_makeOps_0 15 rfl rfl)
theorem dX2_makeOps_16 : decode cX2_makeOps 16 = .ok (.getfield 156, 3) := dk_180 0 156 (dk_at dksX2_makeOps_0 16 rfl rfl)
theorem dX2_makeOps_19 : decode cX2_makeOps 19 = .ok (.iload_n 1, 1) := dk_27 (dk_at dksX2_makeOps_0 19 rfl rfl)
theorem dX2_makeOps_20 : decode cX2_makeOps 20 = .ok (.bipush (-2), 2) := dk_16 254 (dk_at dksX2_makeOps_0 20 rfl rfl)
theorem dX2_makeOps_22 : decode cX2_makeOps 22 = .ok (.iastore, 1) := dk_79 (dk_at dksX2_makeOps_0 22 rfl rfl)
theorem dX2_makeOps_23 : decode cX2_makeOps 23 = .ok (.iconst 0, 1) := dk_3 (dk_at dksX2_makeOps_0 23 rfl rfl)
theorem dX2_makeOps_24 : decode cX2_makeOps 24 = .ok (.istore_n 2, 1) := dk_61 (dk_at dksX2_makeOps_1 0 rfl rfl)
theorem dX2_makeOps_25 : decode cX2_makeOps 25 = .ok (.iload_n 2, 1) := dk_28 (dk_at dksX2_makeOps_1 1 rfl rfl)
theorem dX2_makeOps_26 : decode cX2_makeOps 26 = .ok (.aload_n 0, 1) := dk_42 (dk_at dksX2_makeOps_1 2 rfl rfl)
theorem dX2_makeOps_27 : decode cX2_makeOps 27 = .ok (.getfield 643, 3) := dk_180 2 131 (dk_at dksX2_makeOps_1 3 rfl rfl)
theorem dX2_makeOps_30 : decode cX2_makeOps 30 = .ok (.if_icmp .ge 53, 3) := dk_162 0 53 (dk_at dksX2_makeOps_1 6 rfl rfl)
theorem dX2_makeOps_33 : decode cX2_makeOps 33 = .ok (.aload_n 0, 1) := dk_42 (dk_at dksX2_makeOps_1 9 rfl rfl)
theorem dX2_makeOps_34 : decode cX2_makeOps 34 = .ok (.getfield 156, 3) := dk_180 0 156 (dk_at dksX2_makeOps_1 10 rfl rfl)
theorem dX2_makeOps_37 : decode cX2_makeOps 37 = .ok (.iload_n 1, 1) := dk_27 (dk_at dksX2_makeOps_1 13 rfl rfl)
theorem dX2_makeOps_38 : decode cX2_makeOps 38 = .ok (.iaload, 1) := dk_46 (dk_at dksX2_makeOps_1 14 rfl rfl)
theorem dX2_makeOps_39 : decode cX2_makeOps 39 = .ok (.ifCond .ge 44, 3) := dk_156 0 44 (dk_at dksX2_makeOps_1 15 rfl rfl)
theorem dX2_makeOps_42 : decode cX2_makeOps 42 = .ok (.aload_n 0, 1) := dk_42 (dk_at dksX2_makeOps_1 18 rfl rfl)
theorem dX2_makeOps_43 : decode cX2_makeOps 43 = .ok (.iload_n 1, 1) := dk_27 (dk_at dksX2_makeOps_1 19 rfl rfl)
theorem dX2_makeOps_44 : decode cX2_makeOps 44 = .ok (.aload_n 0, 1) := dk_42 (dk_at dksX2_makeOps_1 20 rfl rfl)
theorem dX2_makeOps_45 : decode cX2_makeOps 45 = .ok (.getfield 159, 3) := dk_180 0 159 (dk_at dksX2_makeOps_1 21 rfl rfl)
theorem dX2_makeOps_48 : decode cX2_makeOps 48 = .ok (.iload_n 2, 1) := dk_28 (dk_at dksX2_makeOps_2 0 rfl rfl)
theorem dX2_makeOps_49 : decode cX2_makeOps 49 = .ok (.iaload, 1) := dk_46 (dk_at dksX2_makeOps_2 1 rfl rfl)
theorem dX2_makeOps_50 : decode cX2_makeOps 50 = .ok (.invokevirtual 646, 3) := dk_182 2 134 (dk_at dksX2_makeOps_2 2 rfl rfl)
theorem dX2_makeOps_53 : decode cX2_makeOps 53 = .ok (.ifCond .eq 24, 3) := dk_153 0 24 (dk_at dksX2_makeOps_2 5 rfl rfl)
theorem dX2_makeOps_56 : decode cX2_makeOps 56 = .ok (.aload_n 0, 1) := dk_42 (dk_at dksX2_makeOps_2 8 rfl rfl)
theorem dX2_makeOps_57 : decode cX2_makeOps 57 = .ok (.iload_n 1, 1) := dk_27 (dk_at dksX2_makeOps_2 9 rfl rfl)
theorem dX2_makeOps_58 : decode cX2_makeOps 58 = .ok (.aload_n 0, 1) := dk_42 (dk_at dksX2_makeOps_2 10 rfl rfl)
theorem dX2_makeOps_59 : decode cX2_makeOps 59 = .ok (.getfield 159, 3) := dk_180 0 159 (dk_at dksX2_makeOps_2 11 rfl rfl)
theorem dX2_makeOps_62 : decode cX2_makeOps 62 = .ok (.iload_n 2, 1) := dk_28 (dk_at dksX2_makeOps_2 14 rfl rfl)
theorem dX2_makeOps_63 : decode cX2_makeOps 63 = .ok (.iaload, 1) := dk_46 (dk_at dksX2_makeOps_2 15 rfl rfl)
theorem dX2_makeOps_64 : decode cX2_makeOps 64 = .ok (.invokevirtual 649, 3) := dk_182 2 137 (dk_at dksX2_makeOps_2 16 rfl rfl)
theorem dX2_makeOps_67 : decode cX2_makeOps 67 = .ok (.ifCond .eq 10, 3) := dk_153 0 10 (dk_at dksX2_makeOps_2 19 rfl rfl)
theorem dX2_makeOps_70 : decode cX2_makeOps 70 = .ok (.aload_n 0, 1) := dk_42 (dk_at dksX2_makeOps_2 22 rfl rfl)
theorem dX2_makeOps_71 : decode cX2_makeOps 71 = .ok (.getfield 156, 3) := dk_180 0 156 (dk_at dksX2_makeOps_3 0 rfl rfl)
theorem dX2_makeOps_74 : decode cX2_makeOps 74 = .ok (.iload_n 1, 1) := dk_27 (dk_at dksX2_makeOps_3 3 rfl rfl)
theorem dX2_makeOps_75 : decode cX2_makeOps 75 = .ok (.iload_n 2, 1) := dk_28 (dk_at dksX2_makeOps_3 4 rfl rfl)
theorem dX2_makeOps_76 : decode cX2_makeOps 76 = .ok (.iastore, 1) := dk_79 (dk_at dksX2_makeOps_3 5 rfl rfl)
theorem dX2_makeOps_77 : decode cX2_makeOps 77 = .ok (.iinc 2 1, 3) := dk_132 2 1 (dk_at dksX2_makeOps_3 6 rfl rfl)
theorem dX2_makeOps_80 : decode cX2_makeOps 80 = .ok (.goto (-55), 3) := dk_167 255 201 (dk_at dksX2_makeOps_3 9 rfl rfl)
theorem dX2_makeOps_83 : decode cX2_makeOps 83 = .ok (.aload_n 0, 1) := dk_42 (dk_at dksX2_makeOps_3 12 rfl rfl)
theorem dX2_makeOps_84 : decode cX2_makeOps 84 = .ok (.getfield 156, 3) := dk_180 0 156 (dk_at dksX2_makeOps_3 13 rfl rfl)
theorem dX2_makeOps_87 : decode cX2_makeOps 87 = .ok (.iload_n 1, 1) := dk_27 (dk_at dksX2_makeOps_3 16 rfl rfl)
theorem dX2_makeOps_88 : decode cX2_makeOps 88 = .ok (.iaload, 1) := dk_46 (dk_at dksX2_makeOps_3 17 rfl rfl)
theorem dX2_makeOps_89 : decode cX2_makeOps 89 = .ok (.ifCond .ge 163, 3) := dk_156 0 163 (dk_at dksX2_makeOps_3 18 rfl rfl)
theorem dX2_makeOps_92 : decode cX2_makeOps 92 = .ok (.aload_n 0, 1) := dk_42 (dk_at dksX2_makeOps_3 21 rfl rfl)
theorem dX2_makeOps_93 : decode cX2_makeOps 93 = .ok (.getfield 643, 3) := dk_180 2 131 (dk_at dksX2_makeOps_4 0 rfl rfl)
theorem dX2_makeOps_96 : decode cX2_makeOps 96 = .ok (.istore_n 2, 1) := dk_61 (dk_at dksX2_makeOps_4 3 rfl rfl)
theorem dX2_makeOps_97 : decode cX2_makeOps 97 = .ok (.aload_n 0, 1) := dk_42 (dk_at dksX2_makeOps_4 4 rfl rfl)
theorem dX2_makeOps_98 : decode cX2_makeOps 98 = .ok (.getfield 156, 3) := dk_180 0 156 (dk_at dksX2_makeOps_4 5 rfl rfl)
theorem dX2_makeOps_101 : decode cX2_makeOps 101 = .ok (.iload_n 1, 1) := dk_27 (dk_at dksX2_makeOps_4 8 rfl rfl)
theorem dX2_makeOps_102 : decode cX2_makeOps 102 = .ok (.iload_n 2, 1) := dk_28 (dk_at dksX2_makeOps_4 9 rfl rfl)
theorem dX2_makeOps_103 : decode cX2_makeOps 103 = .ok (.iastore, 1) := dk_79 (dk_at dksX2_makeOps_4 10 rfl rfl)
theorem dX2_makeOps_104 : decode cX2_makeOps 104 = .ok (.aload_n 0, 1) := dk_42 (dk_at dksX2_makeOps_4 11 rfl rfl)
theorem dX2_makeOps_105 : decode cX2_makeOps 105 = .ok (.getfield 159, 3) := dk_180 0 159 (dk_at dksX2_makeOps_4 12 rfl rfl)
theorem dX2_makeOps_108 : decode cX2_makeOps 108 = .ok (.iload_n 2, 1) := dk_28 (dk_at dksX2_makeOps_4 15 rfl rfl)
theorem dX2_makeOps_109 : decode cX2_makeOps 109 = .ok (.iload_n 1, 1) := dk_27 (dk_at dksX2_makeOps_4 16 rfl rfl)
theorem dX2_makeOps_110 : decode cX2_makeOps 110 = .ok (.iastore, 1) := dk_79 (dk_at dksX2_makeOps_4 17 rfl rfl)
theorem dX2_makeOps_111 : decode cX2_makeOps 111 = .ok (.aload_n 0, 1) := dk_42 (dk_at dksX2_makeOps_4 18 rfl rfl)
theorem dX2_makeOps_112 : decode cX2_makeOps 112 = .ok (.getfield 162, 3) := dk_180 0 162 (dk_at dksX2_makeOps_4 19 rfl rfl)
theorem dX2_makeOps_115 : decode cX2_makeOps 115 = .ok (.iload_n 2, 1) := dk_28 (dk_at dksX2_makeOps_4 22 rfl rfl)
theorem dX2_makeOps_116 : decode cX2_makeOps 116 = .ok (.aload_n 0, 1) := dk_42 (dk_at dksX2_makeOps_4 23 rfl rfl)
theorem dX2_makeOps_117 : decode cX2_makeOps 117 = .ok (.getfield 132, 3) := dk_180 0 132 (dk_at dksX2_makeOps_5 0 rfl rfl)
theorem dX2_makeOps_120 : decode cX2_makeOps 120 = .ok (.aload_n 0, 1) := dk_42 (dk_at dksX2_makeOps_5 3 rfl rfl)
theorem dX2_makeOps_121 : decode cX2_makeOps 121 = .ok (.getfield 153, 3) := dk_180 0 153 (dk_at dksX2_makeOps_5 4 rfl rfl)
theorem dX2_makeOps_124 : decode cX2_makeOps 124 = .ok (.iload_n 1, 1) := dk_27 (dk_at dksX2_makeOps_5 7 rfl rfl)
theorem dX2_makeOps_125 : decode cX2_makeOps 125 = .ok (.iaload, 1) := dk_46 (dk_at dksX2_makeOps_5 8 rfl rfl)
theorem dX2_makeOps_126 : decode cX2_makeOps 126 = .ok (.iaload, 1) := dk_46 (dk_at dksX2_makeOps_5 9 rfl rfl)
theorem dX2_makeOps_127 : decode cX2_makeOps 127 = .ok (.iastore, 1) := dk_79 (dk_at dksX2_makeOps_5 10 rfl rfl)
theorem dX2_makeOps_128 : decode cX2_makeOps 128 = .ok (.aload_n 0, 1) := dk_42 (dk_at dksX2_makeOps_5 11 rfl rfl)
theorem dX2_makeOps_129 : decode cX2_makeOps 129 = .ok (.getfield 141, 3) := dk_180 0 141 (dk_at dksX2_makeOps_5 12 rfl rfl)
theorem dX2_makeOps_132 : decode cX2_makeOps 132 = .ok (.bipush 13, 2) := dk_16 13 (dk_at dksX2_makeOps_5 15 rfl rfl)
theorem dX2_makeOps_134 : decode cX2_makeOps 134 = .ok (.iload_n 1, 1) := dk_27 (dk_at dksX2_makeOps_5 17 rfl rfl)
theorem dX2_makeOps_135 : decode cX2_makeOps 135 = .ok (.imul, 1) := dk_104 (dk_at dksX2_makeOps_5 18 rfl rfl)
theorem dX2_makeOps_136 : decode cX2_makeOps 136 = .ok (.iaload, 1) := dk_46 (dk_at dksX2_makeOps_5 19 rfl rfl)
theorem dX2_makeOps_137 : decode cX2_makeOps 137 = .ok (.iconst (-1), 1) := dk_2 (dk_at dksX2_makeOps_5 20 rfl rfl)
theorem dX2_makeOps_138 : decode cX2_makeOps 138 = .ok (.if_icmp .eq 25, 3) := dk_159 0 25 (dk_at dksX2_makeOps_5 21 rfl rfl)
theorem dX2_makeOps_141 : decode cX2_makeOps 141 = .ok (.aload_n 0, 1) := dk_42 (dk_at dksX2_makeOps_6 0 rfl rfl)
theorem dX2_makeOps_142 : decode cX2_makeOps 142 = .ok (.getfield 141, 3) := dk_180 0 141 (dk_at dksX2_makeOps_6 1 rfl rfl)
theorem dX2_makeOps_145 : decode cX2_makeOps 145 = .ok (.bipush 13, 2) := dk_16 13 (dk_at dksX2_makeOps_6 4 rfl rfl)
theorem dX2_makeOps_147 : decode cX2_makeOps 147 = .ok (.iload_n 1, 1) := dk_27 (dk_at dksX2_makeOps_6 6 rfl rfl)
theorem dX2_makeOps_148 : decode cX2_makeOps 148 = .ok (.imul, 1) := dk_104 (dk_at dksX2_makeOps_6 7 rfl rfl)
theorem dX2_makeOps_149 : decode cX2_makeOps 149 = .ok (.aload_n 0, 1) := dk_42 (dk_at dksX2_makeOps_6 8 rfl rfl)
theorem dX2_makeOps_150 : decode cX2_makeOps 150 = .ok (.getfield 144, 3) := dk_180 0 144 (dk_at dksX2_makeOps_6 9 rfl rfl)
theorem dX2_makeOps_153 : decode cX2_makeOps 153 = .ok (.iload_n 1, 1) := dk_27 (dk_at dksX2_makeOps_6 12 rfl rfl)
theorem dX2_makeOps_154 : decode cX2_makeOps 154 = .ok (.iaload, 1) := dk_46 (dk_at dksX2_makeOps_6 13 rfl rfl)
theorem dX2_makeOps_155 : decode cX2_makeOps 155 = .ok (.iadd, 1) := dk_96 (dk_at dksX2_makeOps_6 14 rfl rfl)
theorem dX2_makeOps_156 : decode cX2_makeOps 156 = .ok (.iconst 1, 1) := dk_4 (dk_at dksX2_makeOps_6 15 rfl rfl)
theorem dX2_makeOps_157 : decode cX2_makeOps 157 = .ok (.isub, 1) := dk_100 (dk_at dksX2_makeOps_6 16 rfl rfl)
theorem dX2_makeOps_158 : decode cX2_makeOps 158 = .ok (.iaload, 1) := dk_46 (dk_at dksX2_makeOps_6 17 rfl rfl)
theorem dX2_makeOps_159 : decode cX2_makeOps 159 = .ok (.iconst (-1), 1) := dk_2 (dk_at dksX2_makeOps_6 18 rfl rfl)
theorem dX2_makeOps_160 : decode cX2_makeOps 160 = .ok (.if_icmp .ne 7, 3) := dk_160 0 7 (dk_at dksX2_makeOps_6 19 rfl rfl)
theorem dX2_makeOps_163 : decode cX2_makeOps 163 = .ok (.iconst 1, 1) := dk_4 (dk_at dksX2_makeOps_6 22 rfl rfl)
theorem dX2_makeOps_164 : decode cX2_makeOps 164 = .ok (.goto 4, 3) := dk_167 0 4 (dk_at dksX2_makeOps_7 0 rfl rfl)
theorem dX2_makeOps_167 : decode cX2_makeOps 167 = .ok (.iconst 0, 1) := dk_3 (dk_at dksX2_makeOps_7 3 rfl rfl)
theorem dX2_makeOps_168 : decode cX2_makeOps 168 = .ok (.istore_n 3, 1) := dk_62 (dk_at dksX2_makeOps_7 4 rfl rfl)
theorem dX2_makeOps_169 : decode cX2_makeOps 169 = .ok (.aload_n 0, 1) := dk_42 (dk_at dksX2_makeOps_7 5 rfl rfl)
theorem dX2_makeOps_170 : decode cX2_makeOps 170 = .ok (.getfield 165, 3) := dk_180 0 165 (dk_at dksX2_makeOps_7 6 rfl rfl)
theorem dX2_makeOps_173 : decode cX2_makeOps 173 = .ok (.iload_n 2, 1) := dk_28 (dk_at dksX2_makeOps_7 9 rfl rfl)
theorem dX2_makeOps_174 : decode cX2_makeOps 174 = .ok (.aload_n 0, 1) := dk_42 (dk_at dksX2_makeOps_7 10 rfl rfl)
theorem dX2_makeOps_175 : decode cX2_makeOps 175 = .ok (.getfield 93, 3) := dk_180 0 93 (dk_at dksX2_makeOps_7 11 rfl rfl)
theorem dX2_makeOps_178 : decode cX2_makeOps 178 = .ok (.iload_n 1, 1) := dk_27 (dk_at dksX2_makeOps_7 14 rfl rfl)
theorem dX2_makeOps_179 : decode cX2_makeOps 179 = .ok (.iaload, 1) := dk_46 (dk_at dksX2_makeOps_7 15 rfl rfl)
theorem dX2_makeOps_180 : decode cX2_makeOps 180 = .ok (.ifCond .lt 12, 3) := dk_155 0 12 (dk_at dksX2_makeOps_7 16 rfl rfl)
theorem dX2_makeOps_183 : decode cX2_makeOps 183 = .ok (.aload_n 0, 1) := dk_42 (dk_at dksX2_makeOps_7 19 rfl rfl)
theorem dX2_makeOps_184 : decode cX2_makeOps 184 = .ok (.getfield 93, 3) := dk_180 0 93 (dk_at dksX2_makeOps_7 20 rfl rfl)
theorem dX2_makeOps_187 : decode cX2_makeOps 187 = .ok (.iload_n 1, 1) := dk_27 (dk_at dksX2_makeOps_7 23 rfl rfl)
theorem dX2_makeOps_188 : decode cX2_makeOps 188 = .ok (.iaload, 1) := dk_46 (dk_at dksX2_makeOps_8 0 rfl rfl)
theorem dX2_makeOps_189 : decode cX2_makeOps 189 = .ok (.goto 13, 3) := dk_167 0 13 (dk_at dksX2_makeOps_8 1 rfl rfl)
theorem dX2_makeOps_192 : decode cX2_makeOps 192 = .ok (.iload_n 3, 1) := dk_29 (dk_at dksX2_makeOps_8 4 rfl rfl)
theorem dX2_makeOps_193 : decode cX2_makeOps 193 = .ok (.ifCond .eq 8, 3) := dk_153 0 8 (dk_at dksX2_makeOps_8 5 rfl rfl)
theorem dX2_makeOps_196 : decode cX2_makeOps 196 = .ok (.bipush 41, 2) := dk_16 41 (dk_at dksX2_makeOps_8 8 rfl rfl)
theorem dX2_makeOps_198 : decode cX2_makeOps 198 = .ok (.goto 4, 3) := dk_167 0 4 (dk_at dksX2_makeOps_8 10 rfl rfl)
theorem dX2_makeOps_201 : decode cX2_makeOps 201 = .ok (.iconst 0, 1) := dk_3 (dk_at dksX2_makeOps_8 13 rfl rfl)
theorem dX2_makeOps_202 : decode cX2_makeOps 202 = .ok (.iastore, 1) := dk_79 (dk_at dksX2_makeOps_8 14 rfl rfl)
theorem dX2_makeOps_203 : decode cX2_makeOps 203 = .ok (.aload_n 0, 1) := dk_42 (dk_at dksX2_makeOps_8 15 rfl rfl)
theorem dX2_makeOps_204 : decode cX2_makeOps 204 = .ok (.getfield 168, 3) := dk_180 0 168 (dk_at dksX2_makeOps_8 16 rfl rfl)
theorem dX2_makeOps_207 : decode cX2_makeOps 207 = .ok (.iload_n 2, 1) := dk_28 (dk_at dksX2_makeOps_8 19 rfl rfl)
theorem dX2_makeOps_208 : decode cX2_makeOps 208 = .ok (.aload_n 0, 1) := dk_42 (dk_at dksX2_makeOps_8 20 rfl rfl)
theorem dX2_makeOps_209 : decode cX2_makeOps 209 = .ok (.getfield 83, 3) := dk_180 0 83 (dk_at dksX2_makeOps_8 21 rfl rfl)
theorem dX2_makeOps_212 : decode cX2_makeOps 212 = .ok (.iload_n 1, 1) := dk_27 (dk_at dksX2_makeOps_9 0 rfl rfl)
theorem dX2_makeOps_213 : decode cX2_makeOps 213 = .ok (.baload, 1) := dk_51 (dk_at dksX2_makeOps_9 1 rfl rfl)
theorem dX2_makeOps_214 : decode cX2_makeOps 214 = .ok (.bastore, 1) := dk_84 (dk_at dksX2_makeOps_9 2 rfl rfl)
theorem dX2_makeOps_215 : decode cX2_makeOps 215 = .ok (.aload_n 0, 1) := dk_42 (dk_at dksX2_makeOps_9 3 rfl rfl)
theorem dX2_makeOps_216 : decode cX2_makeOps 216 = .ok (.getfield 171, 3) := dk_180 0 171 (dk_at dksX2_makeOps_9 4 rfl rfl)
theorem dX2_makeOps_219 : decode cX2_makeOps 219 = .ok (.iload_n 2, 1) := dk_28 (dk_at dksX2_makeOps_9 7 rfl rfl)
theorem dX2_makeOps_220 : decode cX2_makeOps 220 = .ok (.aload_n 0, 1) := dk_42 (dk_at dksX2_makeOps_9 8 rfl rfl)
theorem dX2_makeOps_221 : decode cX2_makeOps 221 = .ok (.getfield 87, 3) := dk_180 0 87 (dk_at dksX2_makeOps_9 9 rfl rfl)
theorem dX2_makeOps_224 : decode cX2_makeOps 224 = .ok (.iload_n 1, 1) := dk_27 (dk_at dksX2_makeOps_9 12 rfl rfl)
theorem dX2_makeOps_225 : decode cX2_makeOps 225 = .ok (.baload, 1) := dk_51 (dk_at dksX2_makeOps_9 13 rfl rfl)
theorem dX2_makeOps_226 : decode cX2_makeOps 226 = .ok (.bastore, 1) := dk_84 (dk_at dksX2_makeOps_9 14 rfl rfl)
theorem dX2_makeOps_227 : decode cX2_makeOps 227 = .ok (.aload_n 0, 1) := dk_42 (dk_at dksX2_makeOps_9 15 rfl rfl)
theorem dX2_makeOps_228 : decode cX2_makeOps 228 = .ok (.getfield 174, 3) := dk_180 0 174 (dk_at dksX2_makeOps_9 16 rfl rfl)
theorem dX2_makeOps_231 : decode cX2_makeOps 231 = .ok (.iload_n 2, 1) := dk_28 (dk_at dksX2_makeOps_9 19 rfl rfl)
theorem dX2_makeOps_232 : decode cX2_makeOps 232 = .ok (.bipush (-2), 2) := dk_16 254 (dk_at dksX2_makeOps_9 20 rfl rfl)
theorem dX2_makeOps_234 : decode cX2_makeOps 234 = .ok (.iastore, 1) := dk_79 (dk_at dksX2_makeOps_9 22 rfl rfl)
theorem dX2_makeOps_235 : decode cX2_makeOps 235 = .ok (.aload_n 0, 1) := dk_42 (dk_at dksX2_makeOps_9 23 rfl rfl)
theorem dX2_makeOps_236 : decode cX2_makeOps 236 = .ok (.getfield 177, 3) := dk_180 0 177 (dk_at dksX2_makeOps_10 0 rfl rfl)
theorem dX2_makeOps_239 : decode cX2_makeOps 239 = .ok (.iload_n 2, 1) := dk_28 (dk_at dksX2_makeOps_10 3 rfl rfl)
theorem dX2_makeOps_240 : decode cX2_makeOps 240 = .ok (.iconst 0, 1) := dk_3 (dk_at dksX2_makeOps_10 4 rfl rfl)
theorem dX2_makeOps_241 : decode cX2_makeOps 241 = .ok (.iastore, 1) := dk_79 (dk_at dksX2_makeOps_10 5 rfl rfl)
theorem dX2_makeOps_242 : decode cX2_makeOps 242 = .ok (.aload_n 0, 1) := dk_42 (dk_at dksX2_makeOps_10 6 rfl rfl)
theorem dX2_makeOps_243 : decode cX2_makeOps 243 = .ok (.dup, 1) := dk_89 (dk_at dksX2_makeOps_10 7 rfl rfl)
theorem dX2_makeOps_244 : decode cX2_makeOps 244 = .ok (.getfield 643, 3) := dk_180 2 131 (dk_at dksX2_makeOps_10 8 rfl rfl)
theorem dX2_makeOps_247 : decode cX2_makeOps 247 = .ok (.iconst 1, 1) := dk_4 (dk_at dksX2_makeOps_10 11 rfl rfl)
theorem dX2_makeOps_248 : decode cX2_makeOps 248 = .ok (.iadd, 1) := dk_96 (dk_at dksX2_makeOps_10 12 rfl rfl)
theorem dX2_makeOps_249 : decode cX2_makeOps 249 = .ok (.putfield 643, 3) := dk_181 2 131 (dk_at dksX2_makeOps_10 13 rfl rfl)
theorem dX2_makeOps_252 : decode cX2_makeOps 252 = .ok (.aload_n 0, 1) := dk_42 (dk_at dksX2_makeOps_10 16 rfl rfl)
theorem dX2_makeOps_253 : decode cX2_makeOps 253 = .ok (.getfield 177, 3) := dk_180 0 177 (dk_at dksX2_makeOps_10 17 rfl rfl)
theorem dX2_makeOps_256 : decode cX2_makeOps 256 = .ok (.aload_n 0, 1) := dk_42 (dk_at dksX2_makeOps_10 20 rfl rfl)
theorem dX2_makeOps_257 : decode cX2_makeOps 257 = .ok (.getfield 156, 3) := dk_180 0 156 (dk_at dksX2_makeOps_10 21 rfl rfl)
theorem dX2_makeOps_260 : decode cX2_makeOps 260 = .ok (.iload_n 1, 1) := dk_27 (dk_at dksX2_makeOps_11 0 rfl rfl)
theorem dX2_makeOps_261 : decode cX2_makeOps 261 = .ok (.iaload, 1) := dk_46 (dk_at dksX2_makeOps_11 1 rfl rfl)
theorem dX2_makeOps_262 : decode cX2_makeOps 262 = .ok (.dup2, 1) := dk_92 (dk_at dksX2_makeOps_11 2 rfl rfl)
theorem dX2_makeOps_263 : decode cX2_makeOps 263 = .ok (.iaload, 1) := dk_46 (dk_at dksX2_makeOps_11 3 rfl rfl)
theorem dX2_makeOps_264 : decode cX2_makeOps 264 = .ok (.iconst 1, 1) := dk_4 (dk_at dksX2_makeOps_11 4 rfl rfl)
theorem dX2_makeOps_265 : decode cX2_makeOps 265 = .ok (.iadd, 1) := dk_96 (dk_at dksX2_makeOps_11 5 rfl rfl)
theorem dX2_makeOps_266 : decode cX2_makeOps 266 = .ok (.iastore, 1) := dk_79 (dk_at dksX2_makeOps_11 6 rfl rfl)
theorem dX2_makeOps_267 : decode cX2_makeOps 267 = .ok (.iinc 1 1, 3) := dk_132 1 1 (dk_at dksX2_makeOps_11 7 rfl rfl)
theorem dX2_makeOps_270 : decode cX2_makeOps 270 = .ok (.goto (-263), 3) := dk_167 254 249 (dk_at dksX2_makeOps_11 10 rfl rfl)
theorem dX2_makeOps_273 : decode cX2_makeOps 273 = .ok (.return_, 1) := dk_177 (dk_at dksX2_makeOps_11 13 rfl rfl)
abbrev cX2_isOneForm : ByteArray := prog_4_method_47_code
def yX2_isOneForm : MethodName := ⟨RX2, "isOneForm", "(II)Z"⟩
def dkwX2_isOneForm_4 : List UInt8 := [172]
abbrev dktX2_isOneForm_4 : List UInt8 := dkwX2_isOneForm_4 ++ []
def dkwX2_isOneForm_3 : List UInt8 := [16, 13, 28, 104, 21, 4, 96, 46, 160, 0, 7, 4, 167, 0, 4, 3, 62, 132, 4, 1, 167, 255, 205, 29]
abbrev dktX2_isOneForm_3 : List UInt8 := dkwX2_isOneForm_3 ++ dktX2_isOneForm_4
def dkwX2_isOneForm_2 : List UInt8 := [180, 0, 144, 27, 46, 162, 0, 42, 42, 180, 0, 141, 16, 13, 27, 104, 21, 4, 96, 46, 42, 180, 0, 141]
abbrev dktX2_isOneForm_2 : List UInt8 := dkwX2_isOneForm_2 ++ dktX2_isOneForm_3
def dkwX2_isOneForm_1 : List UInt8 := [180, 0, 147, 28, 46, 160, 0, 7, 4, 167, 0, 4, 3, 62, 3, 54, 4, 29, 153, 0, 53, 21, 4, 42]
abbrev dktX2_isOneForm_1 : List UInt8 := dkwX2_isOneForm_1 ++ dktX2_isOneForm_2
def dkwX2_isOneForm_0 : List UInt8 := [42, 180, 0, 144, 27, 46, 42, 180, 0, 144, 28, 46, 160, 0, 22, 42, 180, 0, 147, 27, 46, 42]
abbrev dktX2_isOneForm_0 : List UInt8 := dkwX2_isOneForm_0 ++ dktX2_isOneForm_1
theorem dksX2_isOneForm_0 : cX2_isOneForm.data.toList.drop 0 = dktX2_isOneForm_0 := by decide +kernel
theorem dksX2_isOneForm_1 : cX2_isOneForm.data.toList.drop 22 = dktX2_isOneForm_1 := dk_seg dksX2_isOneForm_0 22 rfl rfl
theorem dksX2_isOneForm_2 : cX2_isOneForm.data.toList.drop 46 = dktX2_isOneForm_2 := dk_seg dksX2_isOneForm_1 24 rfl rfl
theorem dksX2_isOneForm_3 : cX2_isOneForm.data.toList.drop 70 = dktX2_isOneForm_3 := dk_seg dksX2_isOneForm_2 24 rfl rfl
theorem dksX2_isOneForm_4 : cX2_isOneForm.data.toList.drop 94 = dktX2_isOneForm_4 := dk_seg dksX2_isOneForm_3 24 rfl rfl
theorem dX2_isOneForm_0 : decode cX2_isOneForm 0 = .ok (.aload_n 0, 1) := dk_42 (dk_at dksX2_isOneForm_0 0 rfl rfl)
theorem dX2_isOneForm_1 : decode cX2_isOneForm 1 = .ok (.getfield 144, 3) := dk_180 0 144 (dk_at dksX2_isOneForm_0 1 rfl rfl)
theorem dX2_isOneForm_4 : decode cX2_isOneForm 4 = .ok (.iload_n 1, 1) := dk_27 (dk_at dksX2_isOneForm_0 4 rfl rfl)
theorem dX2_isOneForm_5 : decode cX2_isOneForm 5 = .ok (.iaload, 1) := dk_46 (dk_at dksX2_isOneForm_0 5 rfl rfl)
theorem dX2_isOneForm_6 : decode cX2_isOneForm 6 = .ok (.aload_n 0, 1) := dk_42 (dk_at dksX2_isOneForm_0 6 rfl rfl)
theorem dX2_isOneForm_7 : decode cX2_isOneForm 7 = .ok (.getfield 144, 3) := dk_180 0 144 (dk_at dksX2_isOneForm_0 7 rfl rfl)
theorem dX2_isOneForm_10 : decode cX2_isOneForm 10 = .ok (.iload_n 2, 1) := dk_28 (dk_at dksX2_isOneForm_0 10 rfl rfl)
theorem dX2_isOneForm_11 : decode cX2_isOneForm 11 = .ok (.iaload, 1) := dk_46 (dk_at dksX2_isOneForm_0 11 rfl rfl)
theorem dX2_isOneForm_12 : decode cX2_isOneForm 12 = .ok (.if_icmp .ne 22, 3) := dk_160 0 22 (dk_at dksX2_isOneForm_0 12 rfl rfl)
theorem dX2_isOneForm_15 : decode cX2_isOneForm 15 = .ok (.aload_n 0, 1) := dk_42 (dk_at dksX2_isOneForm_0 15 rfl rfl)
theorem dX2_isOneForm_16 : decode cX2_isOneForm 16 = .ok (.getfield 147, 3) := dk_180 0 147 (dk_at dksX2_isOneForm_0 16 rfl rfl)
theorem dX2_isOneForm_19 : decode cX2_isOneForm 19 = .ok (.iload_n 1, 1) := dk_27 (dk_at dksX2_isOneForm_0 19 rfl rfl)
theorem dX2_isOneForm_20 : decode cX2_isOneForm 20 = .ok (.iaload, 1) := dk_46 (dk_at dksX2_isOneForm_0 20 rfl rfl)
theorem dX2_isOneForm_21 : decode cX2_isOneForm 21 = .ok (.aload_n 0, 1) := dk_42 (dk_at dksX2_isOneForm_0 21 rfl rfl)
theorem dX2_isOneForm_22 : decode cX2_isOneForm 22 = .ok (.getfield 147, 3) := dk_180 0 147 (dk_at dksX2_isOneForm_1 0 rfl rfl)
theorem dX2_isOneForm_25 : decode cX2_isOneForm 25 = .ok (.iload_n 2, 1) := dk_28 (dk_at dksX2_isOneForm_1 3 rfl rfl)
theorem dX2_isOneForm_26 : decode cX2_isOneForm 26 = .ok (.iaload, 1) := dk_46 (dk_at dksX2_isOneForm_1 4 rfl rfl)
theorem dX2_isOneForm_27 : decode cX2_isOneForm 27 = .ok (.if_icmp .ne 7, 3) := dk_160 0 7 (dk_at dksX2_isOneForm_1 5 rfl rfl)
theorem dX2_isOneForm_30 : decode cX2_isOneForm 30 = .ok (.iconst 1, 1) := dk_4 (dk_at dksX2_isOneForm_1 8 rfl rfl)
theorem dX2_isOneForm_31 : decode cX2_isOneForm 31 = .ok (.goto 4, 3) := dk_167 0 4 (dk_at dksX2_isOneForm_1 9 rfl rfl)
theorem dX2_isOneForm_34 : decode cX2_isOneForm 34 = .ok (.iconst 0, 1) := dk_3 (dk_at dksX2_isOneForm_1 12 rfl rfl)
theorem dX2_isOneForm_35 : decode cX2_isOneForm 35 = .ok (.istore_n 3, 1) := dk_62 (dk_at dksX2_isOneForm_1 13 rfl rfl)
theorem dX2_isOneForm_36 : decode cX2_isOneForm 36 = .ok (.iconst 0, 1) := dk_3 (dk_at dksX2_isOneForm_1 14 rfl rfl)
theorem dX2_isOneForm_37 : decode cX2_isOneForm 37 = .ok (.istore 4, 2) := dk_54 4 (dk_at dksX2_isOneForm_1 15 rfl rfl)
theorem dX2_isOneForm_39 : decode cX2_isOneForm 39 = .ok (.iload_n 3, 1) := dk_29 (dk_at dksX2_isOneForm_1 17 rfl rfl)
theorem dX2_isOneForm_40 : decode cX2_isOneForm 40 = .ok (.ifCond .eq 53, 3) := dk_153 0 53 (dk_at dksX2_isOneForm_1 18 rfl rfl)
theorem dX2_isOneForm_43 : decode cX2_isOneForm 43 = .ok (.iload 4, 2) := dk_21 4 (dk_at dksX2_isOneForm_1 21 rfl rfl)
theorem dX2_isOneForm_45 : decode cX2_isOneForm 45 = .ok (.aload_n 0, 1) := dk_42 (dk_at dksX2_isOneForm_1 23 rfl rfl)
theorem dX2_isOneForm_46 : decode cX2_isOneForm 46 = .ok (.getfield 144, 3) := dk_180 0 144 (dk_at dksX2_isOneForm_2 0 rfl rfl)
theorem dX2_isOneForm_49 : decode cX2_isOneForm 49 = .ok (.iload_n 1, 1) := dk_27 (dk_at dksX2_isOneForm_2 3 rfl rfl)
theorem dX2_isOneForm_50 : decode cX2_isOneForm 50 = .ok (.iaload, 1) := dk_46 (dk_at dksX2_isOneForm_2 4 rfl rfl)
theorem dX2_isOneForm_51 : decode cX2_isOneForm 51 = .ok (.if_icmp .ge 42, 3) := dk_162 0 42 (dk_at dksX2_isOneForm_2 5 rfl rfl)
theorem dX2_isOneForm_54 : decode cX2_isOneForm 54 = .ok (.aload_n 0, 1) := dk_42 (dk_at dksX2_isOneForm_2 8 rfl rfl)
theorem dX2_isOneForm_55 : decode cX2_isOneForm 55 = .ok (.getfield 141, 3) := dk_180 0 141 (dk_at dksX2_isOneForm_2 9 rfl rfl)
theorem dX2_isOneForm_58 : decode cX2_isOneForm 58 = .ok (.bipush 13, 2) := dk_16 13 (dk_at dksX2_isOneForm_2 12 rfl rfl)
theorem dX2_isOneForm_60 : decode cX2_isOneForm 60 = .ok (.iload_n 1, 1) := dk_27 (dk_at dksX2_isOneForm_2 14 rfl rfl)
theorem dX2_isOneForm_61 : decode cX2_isOneForm 61 = .ok (.imul, 1) := dk_104 (dk_at dksX2_isOneForm_2 15 rfl rfl)
theorem dX2_isOneForm_62 : decode cX2_isOneForm 62 = .ok (.iload 4, 2) := dk_21 4 (dk_at dksX2_isOneForm_2 16 rfl rfl)
theorem dX2_isOneForm_64 : decode cX2_isOneForm 64 = .ok (.iadd, 1) := dk_96 (dk_at dksX2_isOneForm_2 18 rfl rfl)
theorem dX2_isOneForm_65 : decode cX2_isOneForm 65 = .ok (.iaload, 1) := dk_46 (dk_at dksX2_isOneForm_2 19 rfl rfl)
theorem dX2_isOneForm_66 : decode cX2_isOneForm 66 = .ok (.aload_n 0, 1) := dk_42 (dk_at dksX2_isOneForm_2 20 rfl rfl)
theorem dX2_isOneForm_67 : decode cX2_isOneForm 67 = .ok (.getfield 141, 3) := dk_180 0 141 (dk_at dksX2_isOneForm_2 21 rfl rfl)
theorem dX2_isOneForm_70 : decode cX2_isOneForm 70 = .ok (.bipush 13, 2) := dk_16 13 (dk_at dksX2_isOneForm_3 0 rfl rfl)
theorem dX2_isOneForm_72 : decode cX2_isOneForm 72 = .ok (.iload_n 2, 1) := dk_28 (dk_at dksX2_isOneForm_3 2 rfl rfl)
theorem dX2_isOneForm_73 : decode cX2_isOneForm 73 = .ok (.imul, 1) := dk_104 (dk_at dksX2_isOneForm_3 3 rfl rfl)
theorem dX2_isOneForm_74 : decode cX2_isOneForm 74 = .ok (.iload 4, 2) := dk_21 4 (dk_at dksX2_isOneForm_3 4 rfl rfl)
theorem dX2_isOneForm_76 : decode cX2_isOneForm 76 = .ok (.iadd, 1) := dk_96 (dk_at dksX2_isOneForm_3 6 rfl rfl)
theorem dX2_isOneForm_77 : decode cX2_isOneForm 77 = .ok (.iaload, 1) := dk_46 (dk_at dksX2_isOneForm_3 7 rfl rfl)
theorem dX2_isOneForm_78 : decode cX2_isOneForm 78 = .ok (.if_icmp .ne 7, 3) := dk_160 0 7 (dk_at dksX2_isOneForm_3 8 rfl rfl)
theorem dX2_isOneForm_81 : decode cX2_isOneForm 81 = .ok (.iconst 1, 1) := dk_4 (dk_at dksX2_isOneForm_3 11 rfl rfl)
theorem dX2_isOneForm_82 : decode cX2_isOneForm 82 = .ok (.goto 4, 3) := dk_167 0 4 (dk_at dksX2_isOneForm_3 12 rfl rfl)
theorem dX2_isOneForm_85 : decode cX2_isOneForm 85 = .ok (.iconst 0, 1) := dk_3 (dk_at dksX2_isOneForm_3 15 rfl rfl)
theorem dX2_isOneForm_86 : decode cX2_isOneForm 86 = .ok (.istore_n 3, 1) := dk_62 (dk_at dksX2_isOneForm_3 16 rfl rfl)
theorem dX2_isOneForm_87 : decode cX2_isOneForm 87 = .ok (.iinc 4 1, 3) := dk_132 4 1 (dk_at dksX2_isOneForm_3 17 rfl rfl)
theorem dX2_isOneForm_90 : decode cX2_isOneForm 90 = .ok (.goto (-51), 3) := dk_167 255 205 (dk_at dksX2_isOneForm_3 20 rfl rfl)
theorem dX2_isOneForm_93 : decode cX2_isOneForm 93 = .ok (.iload_n 3, 1) := dk_29 (dk_at dksX2_isOneForm_3 23 rfl rfl)
theorem dX2_isOneForm_94 : decode cX2_isOneForm 94 = .ok (.ireturn, 1) := dk_172 (dk_at dksX2_isOneForm_4 0 rfl rfl)
abbrev cX2_areOneKinds : ByteArray := prog_4_method_48_code
def yX2_areOneKinds : MethodName := ⟨RX2, "areOneKinds", "(II)Z"⟩
def dkwX2_areOneKinds_2 : List UInt8 := [21, 4, 96, 46, 46, 160, 0, 7, 4, 167, 0, 4, 3, 62, 132, 4, 1, 167, 255, 197, 29, 172]
abbrev dktX2_areOneKinds_2 : List UInt8 := dkwX2_areOneKinds_2 ++ []
def dkwX2_areOneKinds_1 : List UInt8 := [42, 180, 0, 150, 8, 27, 104, 21, 4, 96, 46, 46, 42, 180, 0, 132, 42, 180, 0, 150, 8, 28, 104]
abbrev dktX2_areOneKinds_1 : List UInt8 := dkwX2_areOneKinds_1 ++ dktX2_areOneKinds_2
def dkwX2_areOneKinds_0 : List UInt8 := [4, 62, 3, 54, 4, 21, 4, 42, 180, 0, 147, 27, 46, 162, 0, 54, 29, 153, 0, 50, 42, 180, 0, 132]
abbrev dktX2_areOneKinds_0 : List UInt8 := dkwX2_areOneKinds_0 ++ dktX2_areOneKinds_1
theorem dksX2_areOneKinds_0 : cX2_areOneKinds.data.toList.drop 0 = dktX2_areOneKinds_0 := by decide +kernel
theorem dksX2_areOneKinds_1 : cX2_areOneKinds.data.toList.drop 24 = dktX2_areOneKinds_1 := dk_seg dksX2_areOneKinds_0 24 rfl rfl
theorem dksX2_areOneKinds_2 : cX2_areOneKinds.data.toList.drop 47 = dktX2_areOneKinds_2 := dk_seg dksX2_areOneKinds_1 23 rfl rfl
theorem dX2_areOneKinds_0 : decode cX2_areOneKinds 0 = .ok (.iconst 1, 1) := dk_4 (dk_at dksX2_areOneKinds_0 0 rfl rfl)
theorem dX2_areOneKinds_1 : decode cX2_areOneKinds 1 = .ok (.istore_n 3, 1) := dk_62 (dk_at dksX2_areOneKinds_0 1 rfl rfl)
theorem dX2_areOneKinds_2 : decode cX2_areOneKinds 2 = .ok (.iconst 0, 1) := dk_3 (dk_at dksX2_areOneKinds_0 2 rfl rfl)
theorem dX2_areOneKinds_3 : decode cX2_areOneKinds 3 = .ok (.istore 4, 2) := dk_54 4 (dk_at dksX2_areOneKinds_0 3 rfl rfl)
theorem dX2_areOneKinds_5 : decode cX2_areOneKinds 5 = .ok (.iload 4, 2) := dk_21 4 (dk_at dksX2_areOneKinds_0 5 rfl rfl)
theorem dX2_areOneKinds_7 : decode cX2_areOneKinds 7 = .ok (.aload_n 0, 1) := dk_42 (dk_at dksX2_areOneKinds_0 7 rfl rfl)
theorem dX2_areOneKinds_8 : decode cX2_areOneKinds 8 = .ok (.getfield 147, 3) := dk_180 0 147 (dk_at dksX2_areOneKinds_0 8 rfl rfl)
theorem dX2_areOneKinds_11 : decode cX2_areOneKinds 11 = .ok (.iload_n 1, 1) := dk_27 (dk_at dksX2_areOneKinds_0 11 rfl rfl)
theorem dX2_areOneKinds_12 : decode cX2_areOneKinds 12 = .ok (.iaload, 1) := dk_46 (dk_at dksX2_areOneKinds_0 12 rfl rfl)
theorem dX2_areOneKinds_13 : decode cX2_areOneKinds 13 = .ok (.if_icmp .ge 54, 3) := dk_162 0 54 (dk_at dksX2_areOneKinds_0 13 rfl rfl)
theorem dX2_areOneKinds_16 : decode cX2_areOneKinds 16 = .ok (.iload_n 3, 1) := dk_29 (dk_at dksX2_areOneKinds_0 16 rfl rfl)
theorem dX2_areOneKinds_17 : decode cX2_areOneKinds 17 = .ok (.ifCond .eq 50, 3) := dk_153 0 50 (dk_at dksX2_areOneKinds_0 17 rfl rfl)
theorem dX2_areOneKinds_20 : decode cX2_areOneKinds 20 = .ok (.aload_n 0, 1) := dk_42 (dk_at dksX2_areOneKinds_0 20 rfl rfl)
theorem dX2_areOneKinds_21 : decode cX2_areOneKinds 21 = .ok (.getfield 132, 3) := dk_180 0 132 (dk_at dksX2_areOneKinds_0 21 rfl rfl)
theorem dX2_areOneKinds_24 : decode cX2_areOneKinds 24 = .ok (.aload_n 0, 1) := dk_42 (dk_at dksX2_areOneKinds_1 0 rfl rfl)
theorem dX2_areOneKinds_25 : decode cX2_areOneKinds 25 = .ok (.getfield 150, 3) := dk_180 0 150 (dk_at dksX2_areOneKinds_1 1 rfl rfl)
theorem dX2_areOneKinds_28 : decode cX2_areOneKinds 28 = .ok (.iconst 5, 1) := dk_8 (dk_at dksX2_areOneKinds_1 4 rfl rfl)
theorem dX2_areOneKinds_29 : decode cX2_areOneKinds 29 = .ok (.iload_n 1, 1) := dk_27 (dk_at dksX2_areOneKinds_1 5 rfl rfl)
theorem dX2_areOneKinds_30 : decode cX2_areOneKinds 30 = .ok (.imul, 1) := dk_104 (dk_at dksX2_areOneKinds_1 6 rfl rfl)
theorem dX2_areOneKinds_31 : decode cX2_areOneKinds 31 = .ok (.iload 4, 2) := dk_21 4 (dk_at dksX2_areOneKinds_1 7 rfl rfl)
theorem dX2_areOneKinds_33 : decode cX2_areOneKinds 33 = .ok (.iadd, 1) := dk_96 (dk_at dksX2_areOneKinds_1 9 rfl rfl)
theorem dX2_areOneKinds_34 : decode cX2_areOneKinds 34 = .ok (.iaload, 1) := dk_46 (dk_at dksX2_areOneKinds_1 10 rfl rfl)
theorem dX2_areOneKinds_35 : decode cX2_areOneKinds 35 = .ok (.iaload, 1) := dk_46 (dk_at dksX2_areOneKinds_1 11 rfl rfl)
theorem dX2_areOneKinds_36 : decode cX2_areOneKinds 36 = .ok (.aload_n 0, 1) := dk_42 (dk_at dksX2_areOneKinds_1 12 rfl rfl)
theorem dX2_areOneKinds_37 : decode cX2_areOneKinds 37 = .ok (.getfield 132, 3) := dk_180 0 132 (dk_at dksX2_areOneKinds_1 13 rfl rfl)
theorem dX2_areOneKinds_40 : decode cX2_areOneKinds 40 = .ok (.aload_n 0, 1) := dk_42 (dk_at dksX2_areOneKinds_1 16 rfl rfl)
theorem dX2_areOneKinds_41 : decode cX2_areOneKinds 41 = .ok (.getfield 150, 3) := dk_180 0 150 (dk_at dksX2_areOneKinds_1 17 rfl rfl)
theorem dX2_areOneKinds_44 : decode cX2_areOneKinds 44 = .ok (.iconst 5, 1) := dk_8 (dk_at dksX2_areOneKinds_1 20 rfl rfl)
theorem dX2_areOneKinds_45 : decode cX2_areOneKinds 45 = .ok (.iload_n 2, 1) := dk_28 (dk_at dksX2_areOneKinds_1 21 rfl rfl)
theorem dX2_areOneKinds_46 : decode cX2_areOneKinds 46 = .ok (.imul, 1) := dk_104 (dk_at dksX2_areOneKinds_1 22 rfl rfl)
theorem dX2_areOneKinds_47 : decode cX2_areOneKinds 47 = .ok (.iload 4, 2) := dk_21 4 (dk_at dksX2_areOneKinds_2 0 rfl rfl)
theorem dX2_areOneKinds_49 : decode cX2_areOneKinds 49 = .ok (.iadd, 1) := dk_96 (dk_at dksX2_areOneKinds_2 2 rfl rfl)
theorem dX2_areOneKinds_50 : decode cX2_areOneKinds 50 = .ok (.iaload, 1) := dk_46 (dk_at dksX2_areOneKinds_2 3 rfl rfl)
theorem dX2_areOneKinds_51 : decode cX2_areOneKinds 51 = .ok (.iaload, 1) := dk_46 (dk_at dksX2_areOneKinds_2 4 rfl rfl)
theorem dX2_areOneKinds_52 : decode cX2_areOneKinds 52 = .ok (.if_icmp .ne 7, 3) := dk_160 0 7 (dk_at dksX2_areOneKinds_2 5 rfl rfl)
theorem dX2_areOneKinds_55 : decode cX2_areOneKinds 55 = .ok (.iconst 1, 1) := dk_4 (dk_at dksX2_areOneKinds_2 8 rfl rfl)
theorem dX2_areOneKinds_56 : decode cX2_areOneKinds 56 = .ok (.goto 4, 3) := dk_167 0 4 (dk_at dksX2_areOneKinds_2 9 rfl rfl)
theorem dX2_areOneKinds_59 : decode cX2_areOneKinds 59 = .ok (.iconst 0, 1) := dk_3 (dk_at dksX2_areOneKinds_2 12 rfl rfl)
theorem dX2_areOneKinds_60 : decode cX2_areOneKinds 60 = .ok (.istore_n 3, 1) := dk_62 (dk_at dksX2_areOneKinds_2 13 rfl rfl)
theorem dX2_areOneKinds_61 : decode cX2_areOneKinds 61 = .ok (.iinc 4 1, 3) := dk_132 4 1 (dk_at dksX2_areOneKinds_2 14 rfl rfl)
theorem dX2_areOneKinds_64 : decode cX2_areOneKinds 64 = .ok (.goto (-59), 3) := dk_167 255 197 (dk_at dksX2_areOneKinds_2 17 rfl rfl)
theorem dX2_areOneKinds_67 : decode cX2_areOneKinds 67 = .ok (.iload_n 3, 1) := dk_29 (dk_at dksX2_areOneKinds_2 20 rfl rfl)
theorem dX2_areOneKinds_68 : decode cX2_areOneKinds 68 = .ok (.ireturn, 1) := dk_172 (dk_at dksX2_areOneKinds_2 21 rfl rfl)
abbrev cX2_checkRows : ByteArray := prog_4_method_54_code
def yX2_checkRows : MethodName := ⟨RX2, "checkRows", "()V"⟩
def dkwX2_checkRows_14 : List UInt8 := [46, 182, 2, 99, 132, 1, 1, 167, 254, 174, 177]
abbrev dktX2_checkRows_14 : List UInt8 := dkwX2_checkRows_14 ++ []
def dkwX2_checkRows_13 : List UInt8 := [27, 160, 0, 12, 42, 180, 0, 174, 21, 5, 21, 7, 79, 28, 154, 0, 14, 42, 8, 42, 180, 0, 65, 27]
abbrev dktX2_checkRows_13 : List UInt8 := dkwX2_checkRows_13 ++ dktX2_checkRows_14
def dkwX2_checkRows_12 : List UInt8 := [180, 0, 153, 27, 46, 46, 182, 2, 149, 54, 7, 21, 7, 155, 0, 7, 4, 167, 0, 4, 3, 61, 21, 6]
abbrev dktX2_checkRows_12 : List UInt8 := dkwX2_checkRows_12 ++ dktX2_checkRows_13
def dkwX2_checkRows_11 : List UInt8 := [180, 0, 90, 27, 46, 155, 0, 41, 42, 42, 42, 180, 0, 90, 27, 46, 182, 2, 106, 42, 180, 0, 132, 42]
abbrev dktX2_checkRows_11 : List UInt8 := dkwX2_checkRows_11 ++ dktX2_checkRows_12
def dkwX2_checkRows_10 : List UInt8 := [154, 0, 7, 4, 167, 0, 4, 3, 61, 132, 7, 1, 167, 255, 215, 16, 254, 54, 7, 28, 153, 0, 50, 42]
abbrev dktX2_checkRows_10 : List UInt8 := dkwX2_checkRows_10 ++ dktX2_checkRows_11
def dkwX2_checkRows_9 : List UInt8 := [153, 0, 29, 42, 180, 0, 156, 21, 7, 46, 21, 5, 160, 0, 13, 42, 21, 7, 27, 182, 2, 146]
abbrev dktX2_checkRows_9 : List UInt8 := dkwX2_checkRows_9 ++ dktX2_checkRows_10
def dkwX2_checkRows_8 : List UInt8 := [21, 6, 182, 2, 143, 153, 0, 7, 4, 167, 0, 4, 3, 61, 3, 54, 7, 21, 7, 27, 162, 0, 41, 28]
abbrev dktX2_checkRows_8 : List UInt8 := dkwX2_checkRows_8 ++ dktX2_checkRows_9
def dkwX2_checkRows_7 : List UInt8 := [46, 54, 5, 42, 180, 0, 159, 21, 5, 46, 54, 6, 28, 153, 0, 23, 21, 6, 27, 159, 0, 13, 42, 27]
abbrev dktX2_checkRows_7 : List UInt8 := dkwX2_checkRows_7 ++ dktX2_checkRows_8
def dkwX2_checkRows_6 : List UInt8 := [180, 0, 90, 27, 46, 155, 0, 8, 21, 4, 153, 0, 7, 4, 167, 0, 4, 3, 61, 42, 180, 0, 156, 27]
abbrev dktX2_checkRows_6 : List UInt8 := dkwX2_checkRows_6 ++ dktX2_checkRows_7
def dkwX2_checkRows_5 : List UInt8 := [27, 51, 153, 0, 8, 21, 4, 153, 0, 34, 42, 180, 0, 87, 27, 51, 153, 0, 7, 29, 153, 0, 21, 42]
abbrev dktX2_checkRows_5 : List UInt8 := dkwX2_checkRows_5 ++ dktX2_checkRows_6
def dkwX2_checkRows_4 : List UInt8 := [180, 0, 153, 27, 46, 46, 160, 0, 7, 4, 167, 0, 4, 3, 54, 4, 28, 153, 0, 48, 42, 180, 0, 83]
abbrev dktX2_checkRows_4 : List UInt8 := dkwX2_checkRows_4 ++ dktX2_checkRows_5
def dkwX2_checkRows_3 : List UInt8 := [160, 0, 7, 4, 167, 0, 4, 3, 62, 29, 153, 0, 27, 42, 27, 3, 182, 2, 140, 42, 180, 0, 132, 42]
abbrev dktX2_checkRows_3 : List UInt8 := dkwX2_checkRows_3 ++ dktX2_checkRows_4
def dkwX2_checkRows_2 : List UInt8 := [61, 42, 180, 0, 147, 27, 46, 5, 160, 0, 22, 42, 27, 3, 182, 2, 140, 42, 27, 4, 182, 2, 140]
abbrev dktX2_checkRows_2 : List UInt8 := dkwX2_checkRows_2 ++ dktX2_checkRows_3
def dkwX2_checkRows_1 : List UInt8 := [46, 155, 0, 18, 42, 180, 0, 96, 27, 46, 42, 180, 0, 147, 27, 46, 160, 0, 7, 4, 167, 0, 4, 3]
abbrev dktX2_checkRows_1 : List UInt8 := dkwX2_checkRows_1 ++ dktX2_checkRows_2
def dkwX2_checkRows_0 : List UInt8 := [3, 60, 27, 42, 180, 2, 26, 162, 1, 80, 42, 180, 0, 102, 27, 51, 154, 0, 31, 42, 180, 0, 96, 27]
abbrev dktX2_checkRows_0 : List UInt8 := dkwX2_checkRows_0 ++ dktX2_checkRows_1
theorem dksX2_checkRows_0 : cX2_checkRows.data.toList.drop 0 = dktX2_checkRows_0 := by decide +kernel
theorem dksX2_checkRows_1 : cX2_checkRows.data.toList.drop 24 = dktX2_checkRows_1 := dk_seg dksX2_checkRows_0 24 rfl rfl
theorem dksX2_checkRows_2 : cX2_checkRows.data.toList.drop 48 = dktX2_checkRows_2 := dk_seg dksX2_checkRows_1 24 rfl rfl
theorem dksX2_checkRows_3 : cX2_checkRows.data.toList.drop 71 = dktX2_checkRows_3 := dk_seg dksX2_checkRows_2 23 rfl rfl
theorem dksX2_checkRows_4 : cX2_checkRows.data.toList.drop 95 = dktX2_checkRows_4 := dk_seg dksX2_checkRows_3 24 rfl rfl
theorem dksX2_checkRows_5 : cX2_checkRows.data.toList.drop 119 = dktX2_checkRows_5 := dk_seg dksX2_checkRows_4 24 rfl rfl
theorem dksX2_checkRows_6 : cX2_checkRows.data.toList.drop 143 = dktX2_checkRows_6 := dk_seg dksX2_checkRows_5 24 rfl rfl
theorem dksX2_checkRows_7 : cX2_checkRows.data.toList.drop 167 = dktX2_checkRows_7 := dk_seg dksX2_checkRows_6 24 rfl rfl
theorem dksX2_checkRows_8 : cX2_checkRows.data.toList.drop 191 = dktX2_checkRows_8 := dk_seg dksX2_checkRows_7 24 rfl rfl
theorem dksX2_checkRows_9 : cX2_checkRows.data.toList.drop 215 = dktX2_checkRows_9 := dk_seg dksX2_checkRows_8 24 rfl rfl
theorem dksX2_checkRows_10 : cX2_checkRows.data.toList.drop 237 = dktX2_checkRows_10 := dk_seg dksX2_checkRows_9 22 rfl rfl
theorem dksX2_checkRows_11 : cX2_checkRows.data.toList.drop 261 = dktX2_checkRows_11 := dk_seg dksX2_checkRows_10 24 rfl rfl
theorem dksX2_checkRows_12 : cX2_checkRows.data.toList.drop 285 = dktX2_checkRows_12 := dk_seg dksX2_checkRows_11 24 rfl rfl
theorem dksX2_checkRows_13 : cX2_checkRows.data.toList.drop 309 = dktX2_checkRows_13 := dk_seg dksX2_checkRows_12 24 rfl rfl
theorem dksX2_checkRows_14 : cX2_checkRows.data.toList.drop 333 = dktX2_checkRows_14 := dk_seg dksX2_checkRows_13 24 rfl rfl
theorem dX2_checkRows_0 : decode cX2_checkRows 0 = .ok (.iconst 0, 1) := dk_3 (dk_at dksX2_checkRows_0 0 rfl rfl)
theorem dX2_checkRows_1 : decode cX2_checkRows 1 = .ok (.istore_n 1, 1) := dk_60 (dk_at dksX2_checkRows_0 1 rfl rfl)
theorem dX2_checkRows_2 : decode cX2_checkRows 2 = .ok (.iload_n 1, 1) := dk_27 (dk_at dksX2_checkRows_0 2 rfl rfl)
theorem dX2_checkRows_3 : decode cX2_checkRows 3 = .ok (.aload_n 0, 1) := dk_42 (dk_at dksX2_checkRows_0 3 rfl rfl)
theorem dX2_checkRows_4 : decode cX2_checkRows 4 = .ok (.getfield 538, 3) := dk_180 2 26 (dk_at dksX2_checkRows_0 4 rfl rfl)
theorem dX2_checkRows_7 : decode cX2_checkRows 7 = .ok (.if_icmp .ge 336, 3) := dk_162 1 80 (dk_at dksX2_checkRows_0 7 rfl rfl)
theorem dX2_checkRows_10 : decode cX2_checkRows 10 = .ok (.aload_n 0, 1) := dk_42 (dk_at dksX2_checkRows_0 10 rfl rfl)
theorem dX2_checkRows_11 : decode cX2_checkRows 11 = .ok (.getfield 102, 3) := dk_180 0 102 (dk_at dksX2_checkRows_0 11 rfl rfl)
theorem dX2_checkRows_14 : decode cX2_checkRows 14 = .ok (.iload_n 1, 1) := dk_27 (dk_at dksX2_checkRows_0 14 rfl rfl)
theorem dX2_checkRows_15 : decode cX2_checkRows 15 = .ok (.baload, 1) := dk_51 (dk_at dksX2_checkRows_0 15 rfl rfl)
theorem dX2_checkRows_16 : decode cX2_checkRows 16 = .ok (.ifCond .ne 31, 3) := dk_154 0 31 (dk_at dksX2_checkRows_0 16 rfl rfl)
theorem dX2_checkRows_19 : decode cX2_checkRows 19 = .ok (.aload_n 0, 1) := dk_42 (dk_at dksX2_checkRows_0 19 rfl rfl)
theorem dX2_checkRows_20 : decode cX2_checkRows 20 = .ok (.getfield 96, 3) := dk_180 0 96 (dk_at dksX2_checkRows_0 20 rfl rfl)
theorem dX2_checkRows_23 : decode cX2_checkRows 23 = .ok (.iload_n 1, 1) := dk_27 (dk_at dksX2_checkRows_0 23 rfl rfl)
theorem dX2_checkRows_24 : decode cX2_checkRows 24 = .ok (.iaload, 1) := dk_46 (dk_at dksX2_checkRows_1 0 rfl rfl)
theorem dX2_checkRows_25 : decode cX2_checkRows 25 = .ok (.ifCond .lt 18, 3) := dk_155 0 18 (dk_at dksX2_checkRows_1 1 rfl rfl)
theorem dX2_checkRows_28 : decode cX2_checkRows 28 = .ok (.aload_n 0, 1) := dk_42 (dk_at dksX2_checkRows_1 4 rfl rfl)
theorem dX2_checkRows_29 : decode cX2_checkRows 29 = .ok (.getfield 96, 3) := dk_180 0 96 (dk_at dksX2_checkRows_1 5 rfl rfl)
theorem dX2_checkRows_32 : decode cX2_checkRows 32 = .ok (.iload_n 1, 1) := dk_27 (dk_at dksX2_checkRows_1 8 rfl rfl)
theorem dX2_checkRows_33 : decode cX2_checkRows 33 = .ok (.iaload, 1) := dk_46 (dk_at dksX2_checkRows_1 9 rfl rfl)
theorem dX2_checkRows_34 : decode cX2_checkRows 34 = .ok (.aload_n 0, 1) := dk_42 (dk_at dksX2_checkRows_1 10 rfl rfl)
theorem dX2_checkRows_35 : decode cX2_checkRows 35 = .ok (.getfield 147, 3) := dk_180 0 147 (dk_at dksX2_checkRows_1 11 rfl rfl)
theorem dX2_checkRows_38 : decode cX2_checkRows 38 = .ok (.iload_n 1, 1) := dk_27 (dk_at dksX2_checkRows_1 14 rfl rfl)
theorem dX2_checkRows_39 : decode cX2_checkRows 39 = .ok (.iaload, 1) := dk_46 (dk_at dksX2_checkRows_1 15 rfl rfl)
theorem dX2_checkRows_40 : decode cX2_checkRows 40 = .ok (.if_icmp .ne 7, 3) := dk_160 0 7 (dk_at dksX2_checkRows_1 16 rfl rfl)
theorem dX2_checkRows_43 : decode cX2_checkRows 43 = .ok (.iconst 1, 1) := dk_4 (dk_at dksX2_checkRows_1 19 rfl rfl)
theorem dX2_checkRows_44 : decode cX2_checkRows 44 = .ok (.goto 4, 3) := dk_167 0 4 (dk_at dksX2_checkRows_1 20 rfl rfl)
theorem dX2_checkRows_47 : decode cX2_checkRows 47 = .ok (.iconst 0, 1) := dk_3 (dk_at dksX2_checkRows_1 23 rfl rfl)
theorem dX2_checkRows_48 : decode cX2_checkRows 48 = .ok (.istore_n 2, 1) := dk_61 (dk_at dksX2_checkRows_2 0 rfl rfl)
theorem dX2_checkRows_49 : decode cX2_checkRows 49 = .ok (.aload_n 0, 1) := dk_42 (dk_at dksX2_checkRows_2 1 rfl rfl)
theorem dX2_checkRows_50 : decode cX2_checkRows 50 = .ok (.getfield 147, 3) := dk_180 0 147 (dk_at dksX2_checkRows_2 2 rfl rfl)
theorem dX2_checkRows_53 : decode cX2_checkRows 53 = .ok (.iload_n 1, 1) := dk_27 (dk_at dksX2_checkRows_2 5 rfl rfl)
theorem dX2_checkRows_54 : decode cX2_checkRows 54 = .ok (.iaload, 1) := dk_46 (dk_at dksX2_checkRows_2 6 rfl rfl)
theorem dX2_checkRows_55 : decode cX2_checkRows 55 = .ok (.iconst 2, 1) := dk_5 (dk_at dksX2_checkRows_2 7 rfl rfl)
theorem dX2_checkRows_56 : decode cX2_checkRows 56 = .ok (.if_icmp .ne 22, 3) := dk_160 0 22 (dk_at dksX2_checkRows_2 8 rfl rfl)
theorem dX2_checkRows_59 : decode cX2_checkRows 59 = .ok (.aload_n 0, 1) := dk_42 (dk_at dksX2_checkRows_2 11 rfl rfl)
theorem dX2_checkRows_60 : decode cX2_checkRows 60 = .ok (.iload_n 1, 1) := dk_27 (dk_at dksX2_checkRows_2 12 rfl rfl)
theorem dX2_checkRows_61 : decode cX2_checkRows 61 = .ok (.iconst 0, 1) := dk_3 (dk_at dksX2_checkRows_2 13 rfl rfl)
theorem dX2_checkRows_62 : decode cX2_checkRows 62 = .ok (.invokevirtual 652, 3) := dk_182 2 140 (dk_at dksX2_checkRows_2 14 rfl rfl)
theorem dX2_checkRows_65 : decode cX2_checkRows 65 = .ok (.aload_n 0, 1) := dk_42 (dk_at dksX2_checkRows_2 17 rfl rfl)
theorem dX2_checkRows_66 : decode cX2_checkRows 66 = .ok (.iload_n 1, 1) := dk_27 (dk_at dksX2_checkRows_2 18 rfl rfl)
theorem dX2_checkRows_67 : decode cX2_checkRows 67 = .ok (.iconst 1, 1) := dk_4 (dk_at dksX2_checkRows_2 19 rfl rfl)
theorem dX2_checkRows_68 : decode cX2_checkRows 68 = .ok (.invokevirtual 652, 3) := dk_182 2 140 (dk_at dksX2_checkRows_2 20 rfl rfl)
theorem dX2_checkRows_71 : decode cX2_checkRows 71 = .ok (.if_icmp .ne 7, 3) := dk_160 0 7 (dk_at dksX2_checkRows_3 0 rfl rfl)
theorem dX2_checkRows_74 : decode cX2_checkRows 74 = .ok (.iconst 1, 1) := dk_4 (dk_at dksX2_checkRows_3 3 rfl rfl)
theorem dX2_checkRows_75 : decode cX2_checkRows 75 = .ok (.goto 4, 3) := dk_167 0 4 (dk_at dksX2_checkRows_3 4 rfl rfl)
theorem dX2_checkRows_78 : decode cX2_checkRows 78 = .ok (.iconst 0, 1) := dk_3 (dk_at dksX2_checkRows_3 7 rfl rfl)
theorem dX2_checkRows_79 : decode cX2_checkRows 79 = .ok (.istore_n 3, 1) := dk_62 (dk_at dksX2_checkRows_3 8 rfl rfl)
theorem dX2_checkRows_80 : decode cX2_checkRows 80 = .ok (.iload_n 3, 1) := dk_29 (dk_at dksX2_checkRows_3 9 rfl rfl)
theorem dX2_checkRows_81 : decode cX2_checkRows 81 = .ok (.ifCond .eq 27, 3) := dk_153 0 27 (dk_at dksX2_checkRows_3 10 rfl rfl)
theorem dX2_checkRows_84 : decode cX2_checkRows 84 = .ok (.aload_n 0, 1) := dk_42 (dk_at dksX2_checkRows_3 13 rfl rfl)
theorem dX2_checkRows_85 : decode cX2_checkRows 85 = .ok (.iload_n 1, 1) := dk_27 (dk_at dksX2_checkRows_3 14 rfl rfl)
theorem dX2_checkRows_86 : decode cX2_checkRows 86 = .ok (.iconst 0, 1) := dk_3 (dk_at dksX2_checkRows_3 15 rfl rfl)
theorem dX2_checkRows_87 : decode cX2_checkRows 87 = .ok (.invokevirtual 652, 3) := dk_182 2 140 (dk_at dksX2_checkRows_3 16 rfl rfl)
theorem dX2_checkRows_90 : decode cX2_checkRows 90 = .ok (.aload_n 0, 1) := dk_42 (dk_at dksX2_checkRows_3 19 rfl rfl)
theorem dX2_checkRows_91 : decode cX2_checkRows 91 = .ok (.getfield 132, 3) := dk_180 0 132 (dk_at dksX2_checkRows_3 20 rfl rfl)
theorem dX2_checkRows_94 : decode cX2_checkRows 94 = .ok (.aload_n 0, 1) := dk_42 (dk_at dksX2_checkRows_3 23 rfl rfl)
theorem dX2_checkRows_95 : decode cX2_checkRows 95 = .ok (.getfield 153, 3) := dk_180 0 153 (dk_at dksX2_checkRows_4 0 rfl rfl)
theorem dX2_checkRows_98 : decode cX2_checkRows 98 = .ok (.iload_n 1, 1) := dk_27 (dk_at dksX2_checkRows_4 3 rfl rfl)
theorem dX2_checkRows_99 : decode cX2_checkRows 99 = .ok (.iaload, 1) := dk_46 (dk_at dksX2_checkRows_4 4 rfl rfl)
theorem dX2_checkRows_100 : decode cX2_checkRows 100 = .ok (.iaload, 1) := dk_46 (dk_at dksX2_checkRows_4 5 rfl rfl)
theorem dX2_checkRows_101 : decode cX2_checkRows 101 = .ok (.if_icmp .ne 7, 3) := dk_160 0 7 (dk_at dksX2_checkRows_4 6 rfl rfl)
theorem dX2_checkRows_104 : decode cX2_checkRows 104 = .ok (.iconst 1, 1) := dk_4 (dk_at dksX2_checkRows_4 9 rfl rfl)
theorem dX2_checkRows_105 : decode cX2_checkRows 105 = .ok (.goto 4, 3) := dk_167 0 4 (dk_at dksX2_checkRows_4 10 rfl rfl)
theorem dX2_checkRows_108 : decode cX2_checkRows 108 = .ok (.iconst 0, 1) := dk_3 (dk_at dksX2_checkRows_4 13 rfl rfl)
theorem dX2_checkRows_109 : decode cX2_checkRows 109 = .ok (.istore 4, 2) := dk_54 4 (dk_at dksX2_checkRows_4 14 rfl rfl)
theorem dX2_checkRows_111 : decode cX2_checkRows 111 = .ok (.iload_n 2, 1) := dk_28 (dk_at dksX2_checkRows_4 16 rfl rfl)
theorem dX2_checkRows_112 : decode cX2_checkRows 112 = .ok (.ifCond .eq 48, 3) := dk_153 0 48 (dk_at dksX2_checkRows_4 17 rfl rfl)
theorem dX2_checkRows_115 : decode cX2_checkRows 115 = .ok (.aload_n 0, 1) := dk_42 (dk_at dksX2_checkRows_4 20 rfl rfl)
theorem dX2_checkRows_116 : decode cX2_checkRows 116 = .ok (.getfield 83, 3) := dk_180 0 83 (dk_at dksX2_checkRows_4 21 rfl rfl)
theorem dX2_checkRows_119 : decode cX2_checkRows 119 = .ok (.iload_n 1, 1) := dk_27 (dk_at dksX2_checkRows_5 0 rfl rfl)
theorem dX2_checkRows_120 : decode cX2_checkRows 120 = .ok (.baload, 1) := dk_51 (dk_at dksX2_checkRows_5 1 rfl rfl)
theorem dX2_checkRows_121 : decode cX2_checkRows 121 = .ok (.ifCond .eq 8, 3) := dk_153 0 8 (dk_at dksX2_checkRows_5 2 rfl rfl)
theorem dX2_checkRows_124 : decode cX2_checkRows 124 = .ok (.iload 4, 2) := dk_21 4 (dk_at dksX2_checkRows_5 5 rfl rfl)
theorem dX2_checkRows_126 : decode cX2_checkRows 126 = .ok (.ifCond .eq 34, 3) := dk_153 0 34 (dk_at dksX2_checkRows_5 7 rfl rfl)
theorem dX2_checkRows_129 : decode cX2_checkRows 129 = .ok (.aload_n 0, 1) := dk_42 (dk_at dksX2_checkRows_5 10 rfl rfl)
theorem dX2_checkRows_130 : decode cX2_checkRows 130 = .ok (.getfield 87, 3) := dk_180 0 87 (dk_at dksX2_checkRows_5 11 rfl rfl)
theorem dX2_checkRows_133 : decode cX2_checkRows 133 = .ok (.iload_n 1, 1) := dk_27 (dk_at dksX2_checkRows_5 14 rfl rfl)
theorem dX2_checkRows_134 : decode cX2_checkRows 134 = .ok (.baload, 1) := dk_51 (dk_at dksX2_checkRows_5 15 rfl rfl)
theorem dX2_checkRows_135 : decode cX2_checkRows 135 = .ok (.ifCond .eq 7, 3) := dk_153 0 7 (dk_at dksX2_checkRows_5 16 rfl rfl)
theorem dX2_checkRows_138 : decode cX2_checkRows 138 = .ok (.iload_n 3, 1) := dk_29 (dk_at dksX2_checkRows_5 19 rfl rfl)
theorem dX2_checkRows_139 : decode cX2_checkRows 139 = .ok (.ifCond .eq 21, 3) := dk_153 0 21 (dk_at dksX2_checkRows_5 20 rfl rfl)
theorem dX2_checkRows_142 : decode cX2_checkRows 142 = .ok (.aload_n 0, 1) := dk_42 (dk_at dksX2_checkRows_5 23 rfl rfl)
theorem dX2_checkRows_143 : decode cX2_checkRows 143 = .ok (.getfield 90, 3) := dk_180 0 90 (dk_at dksX2_checkRows_6 0 rfl rfl)
theorem dX2_checkRows_146 : decode cX2_checkRows 146 = .ok (.iload_n 1, 1) := dk_27 (dk_at dksX2_checkRows_6 3 rfl rfl)
theorem dX2_checkRows_147 : decode cX2_checkRows 147 = .ok (.iaload, 1) := dk_46 (dk_at dksX2_checkRows_6 4 rfl rfl)
theorem dX2_checkRows_148 : decode cX2_checkRows 148 = .ok (.ifCond .lt 8, 3) := dk_155 0 8 (dk_at dksX2_checkRows_6 5 rfl rfl)
theorem dX2_checkRows_151 : decode cX2_checkRows 151 = .ok (.iload 4, 2) := dk_21 4 (dk_at dksX2_checkRows_6 8 rfl rfl)
theorem dX2_checkRows_153 : decode cX2_checkRows 153 = .ok (.ifCond .eq 7, 3) := dk_153 0 7 (dk_at dksX2_checkRows_6 10 rfl rfl)
theorem dX2_checkRows_156 : decode cX2_checkRows 156 = .ok (.iconst 1, 1) := dk_4 (dk_at dksX2_checkRows_6 13 rfl rfl)
theorem dX2_checkRows_157 : decode cX2_checkRows 157 = .ok (.goto 4, 3) := dk_167 0 4 (dk_at dksX2_checkRows_6 14 rfl rfl)
theorem dX2_checkRows_160 : decode cX2_checkRows 160 = .ok (.iconst 0, 1) := dk_3 (dk_at dksX2_checkRows_6 17 rfl rfl)
theorem dX2_checkRows_161 : decode cX2_checkRows 161 = .ok (.istore_n 2, 1) := dk_61 (dk_at dksX2_checkRows_6 18 rfl rfl)
theorem dX2_checkRows_162 : decode cX2_checkRows 162 = .ok (.aload_n 0, 1) := dk_42 (dk_at dksX2_checkRows_6 19 rfl rfl)
theorem dX2_checkRows_163 : decode cX2_checkRows 163 = .ok (.getfield 156, 3) := dk_180 0 156 (dk_at dksX2_checkRows_6 20 rfl rfl)
theorem dX2_checkRows_166 : decode cX2_checkRows 166 = .ok (.iload_n 1, 1) := dk_27 (dk_at dksX2_checkRows_6 23 rfl rfl)
theorem dX2_checkRows_167 : decode cX2_checkRows 167 = .ok (.iaload, 1) := dk_46 (dk_at dksX2_checkRows_7 0 rfl rfl)
theorem dX2_checkRows_168 : decode cX2_checkRows 168 = .ok (.istore 5, 2) := dk_54 5 (dk_at dksX2_checkRows_7 1 rfl rfl)
theorem dX2_checkRows_170 : decode cX2_checkRows 170 = .ok (.aload_n 0, 1) := dk_42 (dk_at dksX2_checkRows_7 3 rfl rfl)
theorem dX2_checkRows_171 : decode cX2_checkRows 171 = .ok (.getfield 159, 3) := dk_180 0 159 (dk_at dksX2_checkRows_7 4 rfl rfl)
theorem dX2_checkRows_174 : decode cX2_checkRows 174 = .ok (.iload 5, 2) := dk_21 5 (dk_at dksX2_checkRows_7 7 rfl rfl)
theorem dX2_checkRows_176 : decode cX2_checkRows 176 = .ok (.iaload, 1) := dk_46 (dk_at dksX2_checkRows_7 9 rfl rfl)
theorem dX2_checkRows_177 : decode cX2_checkRows 177 = .ok (.istore 6, 2) := dk_54 6 (dk_at dksX2_checkRows_7 10 rfl rfl)
theorem dX2_checkRows_179 : decode cX2_checkRows 179 = .ok (.iload_n 2, 1) := dk_28 (dk_at dksX2_checkRows_7 12 rfl rfl)
theorem dX2_checkRows_180 : decode cX2_checkRows 180 = .ok (.ifCond .eq 23, 3) := dk_153 0 23 (dk_at dksX2_checkRows_7 13 rfl rfl)
theorem dX2_checkRows_183 : decode cX2_checkRows 183 = .ok (.iload 6, 2) := dk_21 6 (dk_at dksX2_checkRows_7 16 rfl rfl)
theorem dX2_checkRows_185 : decode cX2_checkRows 185 = .ok (.iload_n 1, 1) := dk_27 (dk_at dksX2_checkRows_7 18 rfl rfl)
theorem dX2_checkRows_186 : decode cX2_checkRows 186 = .ok (.if_icmp .eq 13, 3) := dk_159 0 13 (dk_at dksX2_checkRows_7 19 rfl rfl)
theorem dX2_checkRows_189 : decode cX2_checkRows 189 = .ok (.aload_n 0, 1) := dk_42 (dk_at dksX2_checkRows_7 22 rfl rfl)
theorem dX2_checkRows_190 : decode cX2_checkRows 190 = .ok (.iload_n 1, 1) := dk_27 (dk_at dksX2_checkRows_7 23 rfl rfl)
theorem dX2_checkRows_191 : decode cX2_checkRows 191 = .ok (.iload 6, 2) := dk_21 6 (dk_at dksX2_checkRows_8 0 rfl rfl)
theorem dX2_checkRows_193 : decode cX2_checkRows 193 = .ok (.invokevirtual 655, 3) := dk_182 2 143 (dk_at dksX2_checkRows_8 2 rfl rfl)
theorem dX2_checkRows_196 : decode cX2_checkRows 196 = .ok (.ifCond .eq 7, 3) := dk_153 0 7 (dk_at dksX2_checkRows_8 5 rfl rfl)
theorem dX2_checkRows_199 : decode cX2_checkRows 199 = .ok (.iconst 1, 1) := dk_4 (dk_at dksX2_checkRows_8 8 rfl rfl)
theorem dX2_checkRows_200 : decode cX2_checkRows 200 = .ok (.goto 4, 3) := dk_167 0 4 (dk_at dksX2_checkRows_8 9 rfl rfl)
theorem dX2_checkRows_203 : decode cX2_checkRows 203 = .ok (.iconst 0, 1) := dk_3 (dk_at dksX2_checkRows_8 12 rfl rfl)
theorem dX2_checkRows_204 : decode cX2_checkRows 204 = .ok (.istore_n 2, 1) := dk_61 (dk_at dksX2_checkRows_8 13 rfl rfl)
theorem dX2_checkRows_205 : decode cX2_checkRows 205 = .ok (.iconst 0, 1) := dk_3 (dk_at dksX2_checkRows_8 14 rfl rfl)
theorem dX2_checkRows_206 : decode cX2_checkRows 206 = .ok (.istore 7, 2) := dk_54 7 (dk_at dksX2_checkRows_8 15 rfl rfl)
theorem dX2_checkRows_208 : decode cX2_checkRows 208 = .ok (.iload 7, 2) := dk_21 7 (dk_at dksX2_checkRows_8 17 rfl rfl)
theorem dX2_checkRows_210 : decode cX2_checkRows 210 = .ok (.iload_n 1, 1) := dk_27 (dk_at dksX2_checkRows_8 19 rfl rfl)
theorem dX2_checkRows_211 : decode cX2_checkRows 211 = .ok (.if_icmp .ge 41, 3) := dk_162 0 41 (dk_at dksX2_checkRows_8 20 rfl rfl)
theorem dX2_checkRows_214 : decode cX2_checkRows 214 = .ok (.iload_n 2, 1) := dk_28 (dk_at dksX2_checkRows_8 23 rfl rfl)
theorem dX2_checkRows_215 : decode cX2_checkRows 215 = .ok (.ifCond .eq 29, 3) := dk_153 0 29 (dk_at dksX2_checkRows_9 0 rfl rfl)
theorem dX2_checkRows_218 : decode cX2_checkRows 218 = .ok (.aload_n 0, 1) := dk_42 (dk_at dksX2_checkRows_9 3 rfl rfl)
theorem dX2_checkRows_219 : decode cX2_checkRows 219 = .ok (.getfield 156, 3) := dk_180 0 156 (dk_at dksX2_checkRows_9 4 rfl rfl)
theorem dX2_checkRows_222 : decode cX2_checkRows 222 = .ok (.iload 7, 2) := dk_21 7 (dk_at dksX2_checkRows_9 7 rfl rfl)
theorem dX2_checkRows_224 : decode cX2_checkRows 224 = .ok (.iaload, 1) := dk_46 (dk_at dksX2_checkRows_9 9 rfl rfl)
theorem dX2_checkRows_225 : decode cX2_checkRows 225 = .ok (.iload 5, 2) := dk_21 5 (dk_at dksX2_checkRows_9 10 rfl rfl)
theorem dX2_checkRows_227 : decode cX2_checkRows 227 = .ok (.if_icmp .ne 13, 3) := dk_160 0 13 (dk_at dksX2_checkRows_9 12 rfl rfl)
theorem dX2_checkRows_230 : decode cX2_checkRows 230 = .ok (.aload_n 0, 1) := dk_42 (dk_at dksX2_checkRows_9 15 rfl rfl)
theorem dX2_checkRows_231 : decode cX2_checkRows 231 = .ok (.iload 7, 2) := dk_21 7 (dk_at dksX2_checkRows_9 16 rfl rfl)
theorem dX2_checkRows_233 : decode cX2_checkRows 233 = .ok (.iload_n 1, 1) := dk_27 (dk_at dksX2_checkRows_9 18 rfl rfl)
theorem dX2_checkRows_234 : decode cX2_checkRows 234 = .ok (.invokevirtual 658, 3) := dk_182 2 146 (dk_at dksX2_checkRows_9 19 rfl rfl)
theorem dX2_checkRows_237 : decode cX2_checkRows 237 = .ok (.ifCond .ne 7, 3) := dk_154 0 7 (dk_at dksX2_checkRows_10 0 rfl rfl)
theorem dX2_checkRows_240 : decode cX2_checkRows 240 = .ok (.iconst 1, 1) := dk_4 (dk_at dksX2_checkRows_10 3 rfl rfl)
theorem dX2_checkRows_241 : decode cX2_checkRows 241 = .ok (.goto 4, 3) := dk_167 0 4 (dk_at dksX2_checkRows_10 4 rfl rfl)
theorem dX2_checkRows_244 : decode cX2_checkRows 244 = .ok (.iconst 0, 1) := dk_3 (dk_at dksX2_checkRows_10 7 rfl rfl)
theorem dX2_checkRows_245 : decode cX2_checkRows 245 = .ok (.istore_n 2, 1) := dk_61 (dk_at dksX2_checkRows_10 8 rfl rfl)
theorem dX2_checkRows_246 : decode cX2_checkRows 246 = .ok (.iinc 7 1, 3) := dk_132 7 1 (dk_at dksX2_checkRows_10 9 rfl rfl)
theorem dX2_checkRows_249 : decode cX2_checkRows 249 = .ok (.goto (-41), 3) := dk_167 255 215 (dk_at dksX2_checkRows_10 12 rfl rfl)
theorem dX2_checkRows_252 : decode cX2_checkRows 252 = .ok (.bipush (-2), 2) := dk_16 254 (dk_at dksX2_checkRows_10 15 rfl rfl)
theorem dX2_checkRows_254 : decode cX2_checkRows 254 = .ok (.istore 7, 2) := dk_54 7 (dk_at dksX2_checkRows_10 17 rfl rfl)
theorem dX2_checkRows_256 : decode cX2_checkRows 256 = .ok (.iload_n 2, 1) := dk_28 (dk_at dksX2_checkRows_10 19 rfl rfl)
theorem dX2_checkRows_257 : decode cX2_checkRows 257 = .ok (.ifCond .eq 50, 3) := dk_153 0 50 (dk_at dksX2_checkRows_10 20 rfl rfl)
theorem dX2_checkRows_260 : decode cX2_checkRows 260 = .ok (.aload_n 0, 1) := dk_42 (dk_at dksX2_checkRows_10 23 rfl rfl)
theorem dX2_checkRows_261 : decode cX2_checkRows 261 = .ok (.getfield 90, 3) := dk_180 0 90 (dk_at dksX2_checkRows_11 0 rfl rfl)
theorem dX2_checkRows_264 : decode cX2_checkRows 264 = .ok (.iload_n 1, 1) := dk_27 (dk_at dksX2_checkRows_11 3 rfl rfl)
theorem dX2_checkRows_265 : decode cX2_checkRows 265 = .ok (.iaload, 1) := dk_46 (dk_at dksX2_checkRows_11 4 rfl rfl)
theorem dX2_checkRows_266 : decode cX2_checkRows 266 = .ok (.ifCond .lt 41, 3) := dk_155 0 41 (dk_at dksX2_checkRows_11 5 rfl rfl)
theorem dX2_checkRows_269 : decode cX2_checkRows 269 = .ok (.aload_n 0, 1) := dk_42 (dk_at dksX2_checkRows_11 8 rfl rfl)
theorem dX2_checkRows_270 : decode cX2_checkRows 270 = .ok (.aload_n 0, 1) := dk_42 (dk_at dksX2_checkRows_11 9 rfl rfl)
theorem dX2_checkRows_271 : decode cX2_checkRows 271 = .ok (.aload_n 0, 1) := dk_42 (dk_at dksX2_checkRows_11 10 rfl rfl)
theorem dX2_checkRows_272 : decode cX2_checkRows 272 = .ok (.getfield 90, 3) := dk_180 0 90 (dk_at dksX2_checkRows_11 11 rfl rfl)
theorem dX2_checkRows_275 : decode cX2_checkRows 275 = .ok (.iload_n 1, 1) := dk_27 (dk_at dksX2_checkRows_11 14 rfl rfl)
theorem dX2_checkRows_276 : decode cX2_checkRows 276 = .ok (.iaload, 1) := dk_46 (dk_at dksX2_checkRows_11 15 rfl rfl)
theorem dX2_checkRows_277 : decode cX2_checkRows 277 = .ok (.invokevirtual 618, 3) := dk_182 2 106 (dk_at dksX2_checkRows_11 16 rfl rfl)
theorem dX2_checkRows_280 : decode cX2_checkRows 280 = .ok (.aload_n 0, 1) := dk_42 (dk_at dksX2_checkRows_11 19 rfl rfl)
theorem dX2_checkRows_281 : decode cX2_checkRows 281 = .ok (.getfield 132, 3) := dk_180 0 132 (dk_at dksX2_checkRows_11 20 rfl rfl)
theorem dX2_checkRows_284 : decode cX2_checkRows 284 = .ok (.aload_n 0, 1) := dk_42 (dk_at dksX2_checkRows_11 23 rfl rfl)
theorem dX2_checkRows_285 : decode cX2_checkRows 285 = .ok (.getfield 153, 3) := dk_180 0 153 (dk_at dksX2_checkRows_12 0 rfl rfl)
theorem dX2_checkRows_288 : decode cX2_checkRows 288 = .ok (.iload_n 1, 1) := dk_27 (dk_at dksX2_checkRows_12 3 rfl rfl)
theorem dX2_checkRows_289 : decode cX2_checkRows 289 = .ok (.iaload, 1) := dk_46 (dk_at dksX2_checkRows_12 4 rfl rfl)
theorem dX2_checkRows_290 : decode cX2_checkRows 290 = .ok (.iaload, 1) := dk_46 (dk_at dksX2_checkRows_12 5 rfl rfl)
theorem dX2_checkRows_291 : decode cX2_checkRows 291 = .ok (.invokevirtual 661, 3) := dk_182 2 149 (dk_at dksX2_checkRows_12 6 rfl rfl)
theorem dX2_checkRows_294 : decode cX2_checkRows 294 = .ok (.istore 7, 2) := dk_54 7 (dk_at dksX2_checkRows_12 9 rfl rfl)
theorem dX2_checkRows_296 : decode cX2_checkRows 296 = .ok (.iload 7, 2) := dk_21 7 (dk_at dksX2_checkRows_12 11 rfl rfl)
theorem dX2_checkRows_298 : decode cX2_checkRows 298 = .ok (.ifCond .lt 7, 3) := dk_155 0 7 (dk_at dksX2_checkRows_12 13 rfl rfl)
theorem dX2_checkRows_301 : decode cX2_checkRows 301 = .ok (.iconst 1, 1) := dk_4 (dk_at dksX2_checkRows_12 16 rfl rfl)
theorem dX2_checkRows_302 : decode cX2_checkRows 302 = .ok (.goto 4, 3) := dk_167 0 4 (dk_at dksX2_checkRows_12 17 rfl rfl)
theorem dX2_checkRows_305 : decode cX2_checkRows 305 = .ok (.iconst 0, 1) := dk_3 (dk_at dksX2_checkRows_12 20 rfl rfl)
theorem dX2_checkRows_306 : decode cX2_checkRows 306 = .ok (.istore_n 2, 1) := dk_61 (dk_at dksX2_checkRows_12 21 rfl rfl)
theorem dX2_checkRows_307 : decode cX2_checkRows 307 = .ok (.iload 6, 2) := dk_21 6 (dk_at dksX2_checkRows_12 22 rfl rfl)
theorem dX2_checkRows_309 : decode cX2_checkRows 309 = .ok (.iload_n 1, 1) := dk_27 (dk_at dksX2_checkRows_13 0 rfl rfl)
theorem dX2_checkRows_310 : decode cX2_checkRows 310 = .ok (.if_icmp .ne 12, 3) := dk_160 0 12 (dk_at dksX2_checkRows_13 1 rfl rfl)
theorem dX2_checkRows_313 : decode cX2_checkRows 313 = .ok (.aload_n 0, 1) := dk_42 (dk_at dksX2_checkRows_13 4 rfl rfl)
theorem dX2_checkRows_314 : decode cX2_checkRows 314 = .ok (.getfield 174, 3) := dk_180 0 174 (dk_at dksX2_checkRows_13 5 rfl rfl)
theorem dX2_checkRows_317 : decode cX2_checkRows 317 = .ok (.iload 5, 2) := dk_21 5 (dk_at dksX2_checkRows_13 8 rfl rfl)
theorem dX2_checkRows_319 : decode cX2_checkRows 319 = .ok (.iload 7, 2) := dk_21 7 (dk_at dksX2_checkRows_13 10 rfl rfl)
theorem dX2_checkRows_321 : decode cX2_checkRows 321 = .ok (.iastore, 1) := dk_79 (dk_at dksX2_checkRows_13 12 rfl rfl)
theorem dX2_checkRows_322 : decode cX2_checkRows 322 = .ok (.iload_n 2, 1) := dk_28 (dk_at dksX2_checkRows_13 13 rfl rfl)
theorem dX2_checkRows_323 : decode cX2_checkRows 323 = .ok (.ifCond .ne 14, 3) := dk_154 0 14 (dk_at dksX2_checkRows_13 14 rfl rfl)
theorem dX2_checkRows_326 : decode cX2_checkRows 326 = .ok (.aload_n 0, 1) := dk_42 (dk_at dksX2_checkRows_13 17 rfl rfl)
theorem dX2_checkRows_327 : decode cX2_checkRows 327 = .ok (.iconst 5, 1) := dk_8 (dk_at dksX2_checkRows_13 18 rfl rfl)
theorem dX2_checkRows_328 : decode cX2_checkRows 328 = .ok (.aload_n 0, 1) := dk_42 (dk_at dksX2_checkRows_13 19 rfl rfl)
theorem dX2_checkRows_329 : decode cX2_checkRows 329 = .ok (.getfield 65, 3) := dk_180 0 65 (dk_at dksX2_checkRows_13 20 rfl rfl)
theorem dX2_checkRows_332 : decode cX2_checkRows 332 = .ok (.iload_n 1, 1) := dk_27 (dk_at dksX2_checkRows_13 23 rfl rfl)
theorem dX2_checkRows_333 : decode cX2_checkRows 333 = .ok (.iaload, 1) := dk_46 (dk_at dksX2_checkRows_14 0 rfl rfl)
theorem dX2_checkRows_334 : decode cX2_checkRows 334 = .ok (.invokevirtual 611, 3) := dk_182 2 99 (dk_at dksX2_checkRows_14 1 rfl rfl)
theorem dX2_checkRows_337 : decode cX2_checkRows 337 = .ok (.iinc 1 1, 3) := dk_132 1 1 (dk_at dksX2_checkRows_14 4 rfl rfl)
theorem dX2_checkRows_340 : decode cX2_checkRows 340 = .ok (.goto (-338), 3) := dk_167 254 174 (dk_at dksX2_checkRows_14 7 rfl rfl)
theorem dX2_checkRows_343 : decode cX2_checkRows 343 = .ok (.return_, 1) := dk_177 (dk_at dksX2_checkRows_14 10 rfl rfl)
abbrev cX2_holeKind : ByteArray := prog_4_method_51_code
def yX2_holeKind : MethodName := ⟨RX2, "holeKind", "(II)I"⟩
def dkwX2_holeKind_0 : List UInt8 := [42, 180, 0, 132, 42, 180, 0, 150, 8, 27, 104, 28, 96, 46, 46, 172]
abbrev dktX2_holeKind_0 : List UInt8 := dkwX2_holeKind_0 ++ []
theorem dksX2_holeKind_0 : cX2_holeKind.data.toList.drop 0 = dktX2_holeKind_0 := by decide +kernel
theorem dX2_holeKind_0 : decode cX2_holeKind 0 = .ok (.aload_n 0, 1) := dk_42 (dk_at dksX2_holeKind_0 0 rfl rfl)
theorem dX2_holeKind_1 : decode cX2_holeKind 1 = .ok (.getfield 132, 3) := dk_180 0 132 (dk_at dksX2_holeKind_0 1 rfl rfl)
theorem dX2_holeKind_4 : decode cX2_holeKind 4 = .ok (.aload_n 0, 1) := dk_42 (dk_at dksX2_holeKind_0 4 rfl rfl)
theorem dX2_holeKind_5 : decode cX2_holeKind 5 = .ok (.getfield 150, 3) := dk_180 0 150 (dk_at dksX2_holeKind_0 5 rfl rfl)
theorem dX2_holeKind_8 : decode cX2_holeKind 8 = .ok (.iconst 5, 1) := dk_8 (dk_at dksX2_holeKind_0 8 rfl rfl)
theorem dX2_holeKind_9 : decode cX2_holeKind 9 = .ok (.iload_n 1, 1) := dk_27 (dk_at dksX2_holeKind_0 9 rfl rfl)
theorem dX2_holeKind_10 : decode cX2_holeKind 10 = .ok (.imul, 1) := dk_104 (dk_at dksX2_holeKind_0 10 rfl rfl)
theorem dX2_holeKind_11 : decode cX2_holeKind 11 = .ok (.iload_n 2, 1) := dk_28 (dk_at dksX2_holeKind_0 11 rfl rfl)
theorem dX2_holeKind_12 : decode cX2_holeKind 12 = .ok (.iadd, 1) := dk_96 (dk_at dksX2_holeKind_0 12 rfl rfl)
theorem dX2_holeKind_13 : decode cX2_holeKind 13 = .ok (.iaload, 1) := dk_46 (dk_at dksX2_holeKind_0 13 rfl rfl)
theorem dX2_holeKind_14 : decode cX2_holeKind 14 = .ok (.iaload, 1) := dk_46 (dk_at dksX2_holeKind_0 14 rfl rfl)
theorem dX2_holeKind_15 : decode cX2_holeKind 15 = .ok (.ireturn, 1) := dk_172 (dk_at dksX2_holeKind_0 15 rfl rfl)
abbrev cX2_isAlikeRow : ByteArray := prog_4_method_49_code
def yX2_isAlikeRow : MethodName := ⟨RX2, "isAlikeRow", "(II)Z"⟩
def dkwX2_isAlikeRow_10 : List UInt8 := [172]
abbrev dktX2_isAlikeRow_10 : List UInt8 := dkwX2_isAlikeRow_10 ++ []
def dkwX2_isAlikeRow_9 : List UInt8 := [16, 20, 28, 104, 21, 4, 96, 46, 160, 0, 7, 4, 167, 0, 4, 3, 62, 132, 4, 1, 167, 255, 198, 29]
abbrev dktX2_isAlikeRow_9 : List UInt8 := dkwX2_isAlikeRow_9 ++ dktX2_isAlikeRow_10
def dkwX2_isAlikeRow_8 : List UInt8 := [21, 4, 16, 20, 162, 0, 42, 42, 180, 0, 99, 16, 20, 27, 104, 21, 4, 96, 46, 42, 180, 0, 99]
abbrev dktX2_isAlikeRow_8 : List UInt8 := dkwX2_isAlikeRow_8 ++ dktX2_isAlikeRow_9
def dkwX2_isAlikeRow_7 : List UInt8 := [167, 0, 4, 3, 62, 3, 54, 4, 29, 153, 0, 60, 21, 4, 42, 180, 0, 96, 27, 46, 162, 0, 49]
abbrev dktX2_isAlikeRow_7 : List UInt8 := dkwX2_isAlikeRow_7 ++ dktX2_isAlikeRow_8
def dkwX2_isAlikeRow_6 : List UInt8 := [180, 0, 90, 27, 46, 182, 2, 106, 42, 42, 180, 0, 90, 28, 46, 182, 2, 106, 160, 0, 7, 4]
abbrev dktX2_isAlikeRow_6 : List UInt8 := dkwX2_isAlikeRow_6 ++ dktX2_isAlikeRow_7
def dkwX2_isAlikeRow_5 : List UInt8 := [156, 0, 7, 4, 167, 0, 4, 3, 160, 0, 39, 42, 180, 0, 90, 27, 46, 155, 0, 26, 42, 42]
abbrev dktX2_isAlikeRow_5 : List UInt8 := dkwX2_isAlikeRow_5 ++ dktX2_isAlikeRow_6
def dkwX2_isAlikeRow_4 : List UInt8 := [153, 0, 70, 42, 180, 0, 90, 27, 46, 156, 0, 7, 4, 167, 0, 4, 3, 42, 180, 0, 90, 28, 46]
abbrev dktX2_isAlikeRow_4 : List UInt8 := dkwX2_isAlikeRow_4 ++ dktX2_isAlikeRow_5
def dkwX2_isAlikeRow_3 : List UInt8 := [42, 180, 0, 96, 27, 46, 42, 180, 0, 96, 28, 46, 160, 0, 7, 4, 167, 0, 4, 3, 62, 29]
abbrev dktX2_isAlikeRow_3 : List UInt8 := dkwX2_isAlikeRow_3 ++ dktX2_isAlikeRow_4
def dkwX2_isAlikeRow_2 : List UInt8 := [42, 180, 0, 87, 28, 51, 160, 0, 37, 42, 180, 0, 93, 27, 46, 42, 180, 0, 93, 28, 46, 160, 0, 22]
abbrev dktX2_isAlikeRow_2 : List UInt8 := dkwX2_isAlikeRow_2 ++ dktX2_isAlikeRow_3
def dkwX2_isAlikeRow_1 : List UInt8 := [160, 0, 67, 42, 180, 0, 83, 27, 51, 42, 180, 0, 83, 28, 51, 160, 0, 52, 42, 180, 0, 87, 27, 51]
abbrev dktX2_isAlikeRow_1 : List UInt8 := dkwX2_isAlikeRow_1 ++ dktX2_isAlikeRow_2
def dkwX2_isAlikeRow_0 : List UInt8 := [42, 180, 0, 132, 42, 180, 0, 153, 27, 46, 46, 42, 180, 0, 132, 42, 180, 0, 153, 28, 46, 46]
abbrev dktX2_isAlikeRow_0 : List UInt8 := dkwX2_isAlikeRow_0 ++ dktX2_isAlikeRow_1
theorem dksX2_isAlikeRow_0 : cX2_isAlikeRow.data.toList.drop 0 = dktX2_isAlikeRow_0 := by decide +kernel
theorem dksX2_isAlikeRow_1 : cX2_isAlikeRow.data.toList.drop 22 = dktX2_isAlikeRow_1 := dk_seg dksX2_isAlikeRow_0 22 rfl rfl
theorem dksX2_isAlikeRow_2 : cX2_isAlikeRow.data.toList.drop 46 = dktX2_isAlikeRow_2 := dk_seg dksX2_isAlikeRow_1 24 rfl rfl
theorem dksX2_isAlikeRow_3 : cX2_isAlikeRow.data.toList.drop 70 = dktX2_isAlikeRow_3 := dk_seg dksX2_isAlikeRow_2 24 rfl rfl
theorem dksX2_isAlikeRow_4 : cX2_isAlikeRow.data.toList.drop 92 = dktX2_isAlikeRow_4 := dk_seg dksX2_isAlikeRow_3 22 rfl rfl
theorem dksX2_isAlikeRow_5 : cX2_isAlikeRow.data.toList.drop 115 = dktX2_isAlikeRow_5 := dk_seg dksX2_isAlikeRow_4 23 rfl rfl
theorem dksX2_isAlikeRow_6 : cX2_isAlikeRow.data.toList.drop 137 = dktX2_isAlikeRow_6 := dk_seg dksX2_isAlikeRow_5 22 rfl rfl
theorem dksX2_isAlikeRow_7 : cX2_isAlikeRow.data.toList.drop 159 = dktX2_isAlikeRow_7 := dk_seg dksX2_isAlikeRow_6 22 rfl rfl
theorem dksX2_isAlikeRow_8 : cX2_isAlikeRow.data.toList.drop 182 = dktX2_isAlikeRow_8 := dk_seg dksX2_isAlikeRow_7 23 rfl rfl
theorem dksX2_isAlikeRow_9 : cX2_isAlikeRow.data.toList.drop 205 = dktX2_isAlikeRow_9 := dk_seg dksX2_isAlikeRow_8 23 rfl rfl
theorem dksX2_isAlikeRow_10 : cX2_isAlikeRow.data.toList.drop 229 = dktX2_isAlikeRow_10 := dk_seg dksX2_isAlikeRow_9 24 rfl rfl
theorem dX2_isAlikeRow_0 : decode cX2_isAlikeRow 0 = .ok (.aload_n 0, 1) := dk_42 (dk_at dksX2_isAlikeRow_0 0 rfl rfl)
theorem dX2_isAlikeRow_1 : decode cX2_isAlikeRow 1 = .ok (.getfield 132, 3) := dk_180 0 132 (dk_at dksX2_isAlikeRow_0 1 rfl rfl)
theorem dX2_isAlikeRow_4 : decode cX2_isAlikeRow 4 = .ok (.aload_n 0, 1) := dk_42 (dk_at dksX2_isAlikeRow_0 4 rfl rfl)
theorem dX2_isAlikeRow_5 : decode cX2_isAlikeRow 5 = .ok (.getfield 153, 3) := dk_180 0 153 (dk_at dksX2_isAlikeRow_0 5 rfl rfl)
theorem dX2_isAlikeRow_8 : decode cX2_isAlikeRow 8 = .ok (.iload_n 1, 1) := dk_27 (dk_at dksX2_isAlikeRow_0 8 rfl rfl)
theorem dX2_isAlikeRow_9 : decode cX2_isAlikeRow 9 = .ok (.iaload, 1) := dk_46 (dk_at dksX2_isAlikeRow_0 9 rfl rfl)
theorem dX2_isAlikeRow_10 : decode cX2_isAlikeRow 10 = .ok (.iaload, 1) := dk_46 (dk_at dksX2_isAlikeRow_0 10 rfl rfl)
theorem dX2_isAlikeRow_11 : decode cX2_isAlikeRow 11 = .ok (.aload_n 0, 1) := dk_42 (dk_at dksX2_isAlikeRow_0 11 rfl rfl)
theorem dX2_isAlikeRow_12 : decode cX2_isAlikeRow 12 = .ok (.getfield 132, 3) := dk_180 0 132 (dk_at dksX2_isAlikeRow_0 12 rfl rfl)
theorem dX2_isAlikeRow_15 : decode cX2_isAlikeRow 15 = .ok (.aload_n 0, 1) := dk_42 (dk_at dksX2_isAlikeRow_0 15 rfl rfl)
theorem dX2_isAlikeRow_16 : decode cX2_isAlikeRow 16 = .ok (.getfield 153, 3) := dk_180 0 153 (dk_at dksX2_isAlikeRow_0 16 rfl rfl)
theorem dX2_isAlikeRow_19 : decode cX2_isAlikeRow 19 = .ok (.iload_n 2, 1) := dk_28 (dk_at dksX2_isAlikeRow_0 19 rfl rfl)
theorem dX2_isAlikeRow_20 : decode cX2_isAlikeRow 20 = .ok (.iaload, 1) := dk_46 (dk_at dksX2_isAlikeRow_0 20 rfl rfl)
theorem dX2_isAlikeRow_21 : decode cX2_isAlikeRow 21 = .ok (.iaload, 1) := dk_46 (dk_at dksX2_isAlikeRow_0 21 rfl rfl)
theorem dX2_isAlikeRow_22 : decode cX2_isAlikeRow 22 = .ok (.if_icmp .ne 67, 3) := dk_160 0 67 (dk_at dksX2_isAlikeRow_1 0 rfl rfl)
theorem dX2_isAlikeRow_25 : decode cX2_isAlikeRow 25 = .ok (.aload_n 0, 1) := dk_42 (dk_at dksX2_isAlikeRow_1 3 rfl rfl)
theorem dX2_isAlikeRow_26 : decode cX2_isAlikeRow 26 = .ok (.getfield 83, 3) := dk_180 0 83 (dk_at dksX2_isAlikeRow_1 4 rfl rfl)
theorem dX2_isAlikeRow_29 : decode cX2_isAlikeRow 29 = .ok (.iload_n 1, 1) := dk_27 (dk_at dksX2_isAlikeRow_1 7 rfl rfl)
theorem dX2_isAlikeRow_30 : decode cX2_isAlikeRow 30 = .ok (.baload, 1) := dk_51 (dk_at dksX2_isAlikeRow_1 8 rfl rfl)
theorem dX2_isAlikeRow_31 : decode cX2_isAlikeRow 31 = .ok (.aload_n 0, 1) := dk_42 (dk_at dksX2_isAlikeRow_1 9 rfl rfl)
theorem dX2_isAlikeRow_32 : decode cX2_isAlikeRow 32 = .ok (.getfield 83, 3) := dk_180 0 83 (dk_at dksX2_isAlikeRow_1 10 rfl rfl)
theorem dX2_isAlikeRow_35 : decode cX2_isAlikeRow 35 = .ok (.iload_n 2, 1) := dk_28 (dk_at dksX2_isAlikeRow_1 13 rfl rfl)
theorem dX2_isAlikeRow_36 : decode cX2_isAlikeRow 36 = .ok (.baload, 1) := dk_51 (dk_at dksX2_isAlikeRow_1 14 rfl rfl)
theorem dX2_isAlikeRow_37 : decode cX2_isAlikeRow 37 = .ok (.if_icmp .ne 52, 3) := dk_160 0 52 (dk_at dksX2_isAlikeRow_1 15 rfl rfl)
theorem dX2_isAlikeRow_40 : decode cX2_isAlikeRow 40 = .ok (.aload_n 0, 1) := dk_42 (dk_at dksX2_isAlikeRow_1 18 rfl rfl)
theorem dX2_isAlikeRow_41 : decode cX2_isAlikeRow 41 = .ok (.getfield 87, 3) := dk_180 0 87 (dk_at dksX2_isAlikeRow_1 19 rfl rfl)
theorem dX2_isAlikeRow_44 : decode cX2_isAlikeRow 44 = .ok (.iload_n 1, 1) := dk_27 (dk_at dksX2_isAlikeRow_1 22 rfl rfl)
theorem dX2_isAlikeRow_45 : decode cX2_isAlikeRow 45 = .ok (.baload, 1) := dk_51 (dk_at dksX2_isAlikeRow_1 23 rfl rfl)
theorem dX2_isAlikeRow_46 : decode cX2_isAlikeRow 46 = .ok (.aload_n 0, 1) := dk_42 (dk_at dksX2_isAlikeRow_2 0 rfl rfl)
theorem dX2_isAlikeRow_47 : decode cX2_isAlikeRow 47 = .ok (.getfield 87, 3) := dk_180 0 87 (dk_at dksX2_isAlikeRow_2 1 rfl rfl)
theorem dX2_isAlikeRow_50 : decode cX2_isAlikeRow 50 = .ok (.iload_n 2, 1) := dk_28 (dk_at dksX2_isAlikeRow_2 4 rfl rfl)
theorem dX2_isAlikeRow_51 : decode cX2_isAlikeRow 51 = .ok (.baload, 1) := dk_51 (dk_at dksX2_isAlikeRow_2 5 rfl rfl)
theorem dX2_isAlikeRow_52 : decode cX2_isAlikeRow 52 = .ok (.if_icmp .ne 37, 3) := dk_160 0 37 (dk_at dksX2_isAlikeRow_2 6 rfl rfl)
theorem dX2_isAlikeRow_55 : decode cX2_isAlikeRow 55 = .ok (.aload_n 0, 1) := dk_42 (dk_at dksX2_isAlikeRow_2 9 rfl rfl)
theorem dX2_isAlikeRow_56 : decode cX2_isAlikeRow 56 = .ok (.getfield 93, 3) := dk_180 0 93 (dk_at dksX2_isAlikeRow_2 10 rfl rfl)
theorem dX2_isAlikeRow_59 : decode cX2_isAlikeRow 59 = .ok (.iload_n 1, 1) := dk_27 (dk_at dksX2_isAlikeRow_2 13 rfl rfl)
theorem dX2_isAlikeRow_60 : decode cX2_isAlikeRow 60 = .ok (.iaload, 1) := dk_46 (dk_at dksX2_isAlikeRow_2 14 rfl rfl)
theorem dX2_isAlikeRow_61 : decode cX2_isAlikeRow 61 = .ok (.aload_n 0, 1) := dk_42 (dk_at dksX2_isAlikeRow_2 15 rfl rfl)
theorem dX2_isAlikeRow_62 : decode cX2_isAlikeRow 62 = .ok (.getfield 93, 3) := dk_180 0 93 (dk_at dksX2_isAlikeRow_2 16 rfl rfl)
theorem dX2_isAlikeRow_65 : decode cX2_isAlikeRow 65 = .ok (.iload_n 2, 1) := dk_28 (dk_at dksX2_isAlikeRow_2 19 rfl rfl)
theorem dX2_isAlikeRow_66 : decode cX2_isAlikeRow 66 = .ok (.iaload, 1) := dk_46 (dk_at dksX2_isAlikeRow_2 20 rfl rfl)
theorem dX2_isAlikeRow_67 : decode cX2_isAlikeRow 67 = .ok (.if_icmp .ne 22, 3) := dk_160 0 22 (dk_at dksX2_isAlikeRow_2 21 rfl rfl)
theorem dX2_isAlikeRow_70 : decode cX2_isAlikeRow 70 = .ok (.aload_n 0, 1) := dk_42 (dk_at dksX2_isAlikeRow_3 0 rfl rfl)
theorem dX2_isAlikeRow_71 : decode cX2_isAlikeRow 71 = .ok (.getfield 96, 3) := dk_180 0 96 (dk_at dksX2_isAlikeRow_3 1 rfl rfl)
theorem dX2_isAlikeRow_74 : decode cX2_isAlikeRow 74 = .ok (.iload_n 1, 1) := dk_27 (dk_at dksX2_isAlikeRow_3 4 rfl rfl)
theorem dX2_isAlikeRow_75 : decode cX2_isAlikeRow 75 = .ok (.iaload, 1) := dk_46 (dk_at dksX2_isAlikeRow_3 5 rfl rfl)
theorem dX2_isAlikeRow_76 : decode cX2_isAlikeRow 76 = .ok (.aload_n 0, 1) := dk_42 (dk_at dksX2_isAlikeRow_3 6 rfl rfl)
theorem dX2_isAlikeRow_77 : decode cX2_isAlikeRow 77 = .ok (.getfield 96, 3) := dk_180 0 96 (dk_at dksX2_isAlikeRow_3 7 rfl rfl)
theorem dX2_isAlikeRow_80 : decode cX2_isAlikeRow 80 = .ok (.iload_n 2, 1) := dk_28 (dk_at dksX2_isAlikeRow_3 10 rfl rfl)
theorem dX2_isAlikeRow_81 : decode cX2_isAlikeRow 81 = .ok (.iaload, 1) := dk_46 (dk_at dksX2_isAlikeRow_3 11 rfl rfl)
theorem dX2_isAlikeRow_82 : decode cX2_isAlikeRow 82 = .ok (.if_icmp .ne 7, 3) := dk_160 0 7 (dk_at dksX2_isAlikeRow_3 12 rfl rfl)
theorem dX2_isAlikeRow_85 : decode cX2_isAlikeRow 85 = .ok (.iconst 1, 1) := dk_4 (dk_at dksX2_isAlikeRow_3 15 rfl rfl)
theorem dX2_isAlikeRow_86 : decode cX2_isAlikeRow 86 = .ok (.goto 4, 3) := dk_167 0 4 (dk_at dksX2_isAlikeRow_3 16 rfl rfl)
theorem dX2_isAlikeRow_89 : decode cX2_isAlikeRow 89 = .ok (.iconst 0, 1) := dk_3 (dk_at dksX2_isAlikeRow_3 19 rfl rfl)
theorem dX2_isAlikeRow_90 : decode cX2_isAlikeRow 90 = .ok (.istore_n 3, 1) := dk_62 (dk_at dksX2_isAlikeRow_3 20 rfl rfl)
theorem dX2_isAlikeRow_91 : decode cX2_isAlikeRow 91 = .ok (.iload_n 3, 1) := dk_29 (dk_at dksX2_isAlikeRow_3 21 rfl rfl)
theorem dX2_isAlikeRow_92 : decode cX2_isAlikeRow 92 = .ok (.ifCond .eq 70, 3) := dk_153 0 70 (dk_at dksX2_isAlikeRow_4 0 rfl rfl)
theorem dX2_isAlikeRow_95 : decode cX2_isAlikeRow 95 = .ok (.aload_n 0, 1) := dk_42 (dk_at dksX2_isAlikeRow_4 3 rfl rfl)
theorem dX2_isAlikeRow_96 : decode cX2_isAlikeRow 96 = .ok (.getfield 90, 3) := dk_180 0 90 (dk_at dksX2_isAlikeRow_4 4 rfl rfl)
theorem dX2_isAlikeRow_99 : decode cX2_isAlikeRow 99 = .ok (.iload_n 1, 1) := dk_27 (dk_at dksX2_isAlikeRow_4 7 rfl rfl)
theorem dX2_isAlikeRow_100 : decode cX2_isAlikeRow 100 = .ok (.iaload, 1) := dk_46 (dk_at dksX2_isAlikeRow_4 8 rfl rfl)
theorem dX2_isAlikeRow_101 : decode cX2_isAlikeRow 101 = .ok (.ifCond .ge 7, 3) := dk_156 0 7 (dk_at dksX2_isAlikeRow_4 9 rfl rfl)
theorem dX2_isAlikeRow_104 : decode cX2_isAlikeRow 104 = .ok (.iconst 1, 1) := dk_4 (dk_at dksX2_isAlikeRow_4 12 rfl rfl)
theorem dX2_isAlikeRow_105 : decode cX2_isAlikeRow 105 = .ok (.goto 4, 3) := dk_167 0 4 (dk_at dksX2_isAlikeRow_4 13 rfl rfl)
theorem dX2_isAlikeRow_108 : decode cX2_isAlikeRow 108 = .ok (.iconst 0, 1) := dk_3 (dk_at dksX2_isAlikeRow_4 16 rfl rfl)
theorem dX2_isAlikeRow_109 : decode cX2_isAlikeRow 109 = .ok (.aload_n 0, 1) := dk_42 (dk_at dksX2_isAlikeRow_4 17 rfl rfl)
theorem dX2_isAlikeRow_110 : decode cX2_isAlikeRow 110 = .ok (.getfield 90, 3) := dk_180 0 90 (dk_at dksX2_isAlikeRow_4 18 rfl rfl)
theorem dX2_isAlikeRow_113 : decode cX2_isAlikeRow 113 = .ok (.iload_n 2, 1) := dk_28 (dk_at dksX2_isAlikeRow_4 21 rfl rfl)
theorem dX2_isAlikeRow_114 : decode cX2_isAlikeRow 114 = .ok (.iaload, 1) := dk_46 (dk_at dksX2_isAlikeRow_4 22 rfl rfl)
theorem dX2_isAlikeRow_115 : decode cX2_isAlikeRow 115 = .ok (.ifCond .ge 7, 3) := dk_156 0 7 (dk_at dksX2_isAlikeRow_5 0 rfl rfl)
theorem dX2_isAlikeRow_118 : decode cX2_isAlikeRow 118 = .ok (.iconst 1, 1) := dk_4 (dk_at dksX2_isAlikeRow_5 3 rfl rfl)
theorem dX2_isAlikeRow_119 : decode cX2_isAlikeRow 119 = .ok (.goto 4, 3) := dk_167 0 4 (dk_at dksX2_isAlikeRow_5 4 rfl rfl)
theorem dX2_isAlikeRow_122 : decode cX2_isAlikeRow 122 = .ok (.iconst 0, 1) := dk_3 (dk_at dksX2_isAlikeRow_5 7 rfl rfl)
theorem dX2_isAlikeRow_123 : decode cX2_isAlikeRow 123 = .ok (.if_icmp .ne 39, 3) := dk_160 0 39 (dk_at dksX2_isAlikeRow_5 8 rfl rfl)
theorem dX2_isAlikeRow_126 : decode cX2_isAlikeRow 126 = .ok (.aload_n 0, 1) := dk_42 (dk_at dksX2_isAlikeRow_5 11 rfl rfl)
theorem dX2_isAlikeRow_127 : decode cX2_isAlikeRow 127 = .ok (.getfield 90, 3) := dk_180 0 90 (dk_at dksX2_isAlikeRow_5 12 rfl rfl)
theorem dX2_isAlikeRow_130 : decode cX2_isAlikeRow 130 = .ok (.iload_n 1, 1) := dk_27 (dk_at dksX2_isAlikeRow_5 15 rfl rfl)
theorem dX2_isAlikeRow_131 : decode cX2_isAlikeRow 131 = .ok (.iaload, 1) := dk_46 (dk_at dksX2_isAlikeRow_5 16 rfl rfl)
theorem dX2_isAlikeRow_132 : decode cX2_isAlikeRow 132 = .ok (.ifCond .lt 26, 3) := dk_155 0 26 (dk_at dksX2_isAlikeRow_5 17 rfl rfl)
theorem dX2_isAlikeRow_135 : decode cX2_isAlikeRow 135 = .ok (.aload_n 0, 1) := dk_42 (dk_at dksX2_isAlikeRow_5 20 rfl rfl)
theorem dX2_isAlikeRow_136 : decode cX2_isAlikeRow 136 = .ok (.aload_n 0, 1) := dk_42 (dk_at dksX2_isAlikeRow_5 21 rfl rfl)
theorem dX2_isAlikeRow_137 : decode cX2_isAlikeRow 137 = .ok (.getfield 90, 3) := dk_180 0 90 (dk_at dksX2_isAlikeRow_6 0 rfl rfl)
theorem dX2_isAlikeRow_140 : decode cX2_isAlikeRow 140 = .ok (.iload_n 1, 1) := dk_27 (dk_at dksX2_isAlikeRow_6 3 rfl rfl)
theorem dX2_isAlikeRow_141 : decode cX2_isAlikeRow 141 = .ok (.iaload, 1) := dk_46 (dk_at dksX2_isAlikeRow_6 4 rfl rfl)
theorem dX2_isAlikeRow_142 : decode cX2_isAlikeRow 142 = .ok (.invokevirtual 618, 3) := dk_182 2 106 (dk_at dksX2_isAlikeRow_6 5 rfl rfl)
theorem dX2_isAlikeRow_145 : decode cX2_isAlikeRow 145 = .ok (.aload_n 0, 1) := dk_42 (dk_at dksX2_isAlikeRow_6 8 rfl rfl)
theorem dX2_isAlikeRow_146 : decode cX2_isAlikeRow 146 = .ok (.aload_n 0, 1) := dk_42 (dk_at dksX2_isAlikeRow_6 9 rfl rfl)
theorem dX2_isAlikeRow_147 : decode cX2_isAlikeRow 147 = .ok (.getfield 90, 3) := dk_180 0 90 (dk_at dksX2_isAlikeRow_6 10 rfl rfl)
theorem dX2_isAlikeRow_150 : decode cX2_isAlikeRow 150 = .ok (.iload_n 2, 1) := dk_28 (dk_at dksX2_isAlikeRow_6 13 rfl rfl)
theorem dX2_isAlikeRow_151 : decode cX2_isAlikeRow 151 = .ok (.iaload, 1) := dk_46 (dk_at dksX2_isAlikeRow_6 14 rfl rfl)
theorem dX2_isAlikeRow_152 : decode cX2_isAlikeRow 152 = .ok (.invokevirtual 618, 3) := dk_182 2 106 (dk_at dksX2_isAlikeRow_6 15 rfl rfl)
theorem dX2_isAlikeRow_155 : decode cX2_isAlikeRow 155 = .ok (.if_icmp .ne 7, 3) := dk_160 0 7 (dk_at dksX2_isAlikeRow_6 18 rfl rfl)
theorem dX2_isAlikeRow_158 : decode cX2_isAlikeRow 158 = .ok (.iconst 1, 1) := dk_4 (dk_at dksX2_isAlikeRow_6 21 rfl rfl)
theorem dX2_isAlikeRow_159 : decode cX2_isAlikeRow 159 = .ok (.goto 4, 3) := dk_167 0 4 (dk_at dksX2_isAlikeRow_7 0 rfl rfl)
theorem dX2_isAlikeRow_162 : decode cX2_isAlikeRow 162 = .ok (.iconst 0, 1) := dk_3 (dk_at dksX2_isAlikeRow_7 3 rfl rfl)
theorem dX2_isAlikeRow_163 : decode cX2_isAlikeRow 163 = .ok (.istore_n 3, 1) := dk_62 (dk_at dksX2_isAlikeRow_7 4 rfl rfl)
theorem dX2_isAlikeRow_164 : decode cX2_isAlikeRow 164 = .ok (.iconst 0, 1) := dk_3 (dk_at dksX2_isAlikeRow_7 5 rfl rfl)
theorem dX2_isAlikeRow_165 : decode cX2_isAlikeRow 165 = .ok (.istore 4, 2) := dk_54 4 (dk_at dksX2_isAlikeRow_7 6 rfl rfl)
theorem dX2_isAlikeRow_167 : decode cX2_isAlikeRow 167 = .ok (.iload_n 3, 1) := dk_29 (dk_at dksX2_isAlikeRow_7 8 rfl rfl)
theorem dX2_isAlikeRow_168 : decode cX2_isAlikeRow 168 = .ok (.ifCond .eq 60, 3) := dk_153 0 60 (dk_at dksX2_isAlikeRow_7 9 rfl rfl)
theorem dX2_isAlikeRow_171 : decode cX2_isAlikeRow 171 = .ok (.iload 4, 2) := dk_21 4 (dk_at dksX2_isAlikeRow_7 12 rfl rfl)
theorem dX2_isAlikeRow_173 : decode cX2_isAlikeRow 173 = .ok (.aload_n 0, 1) := dk_42 (dk_at dksX2_isAlikeRow_7 14 rfl rfl)
theorem dX2_isAlikeRow_174 : decode cX2_isAlikeRow 174 = .ok (.getfield 96, 3) := dk_180 0 96 (dk_at dksX2_isAlikeRow_7 15 rfl rfl)
theorem dX2_isAlikeRow_177 : decode cX2_isAlikeRow 177 = .ok (.iload_n 1, 1) := dk_27 (dk_at dksX2_isAlikeRow_7 18 rfl rfl)
theorem dX2_isAlikeRow_178 : decode cX2_isAlikeRow 178 = .ok (.iaload, 1) := dk_46 (dk_at dksX2_isAlikeRow_7 19 rfl rfl)
theorem dX2_isAlikeRow_179 : decode cX2_isAlikeRow 179 = .ok (.if_icmp .ge 49, 3) := dk_162 0 49 (dk_at dksX2_isAlikeRow_7 20 rfl rfl)
theorem dX2_isAlikeRow_182 : decode cX2_isAlikeRow 182 = .ok (.iload 4, 2) := dk_21 4 (dk_at dksX2_isAlikeRow_8 0 rfl rfl)
theorem dX2_isAlikeRow_184 : decode cX2_isAlikeRow 184 = .ok (.bipush 20, 2) := dk_16 20 (dk_at dksX2_isAlikeRow_8 2 rfl rfl)
theorem dX2_isAlikeRow_186 : decode cX2_isAlikeRow 186 = .ok (.if_icmp .ge 42, 3) := dk_162 0 42 (dk_at dksX2_isAlikeRow_8 4 rfl rfl)
theorem dX2_isAlikeRow_189 : decode cX2_isAlikeRow 189 = .ok (.aload_n 0, 1) := dk_42 (dk_at dksX2_isAlikeRow_8 7 rfl rfl)
theorem dX2_isAlikeRow_190 : decode cX2_isAlikeRow 190 = .ok (.getfield 99, 3) := dk_180 0 99 (dk_at dksX2_isAlikeRow_8 8 rfl rfl)
theorem dX2_isAlikeRow_193 : decode cX2_isAlikeRow 193 = .ok (.bipush 20, 2) := dk_16 20 (dk_at dksX2_isAlikeRow_8 11 rfl rfl)
theorem dX2_isAlikeRow_195 : decode cX2_isAlikeRow 195 = .ok (.iload_n 1, 1) := dk_27 (dk_at dksX2_isAlikeRow_8 13 rfl rfl)
theorem dX2_isAlikeRow_196 : decode cX2_isAlikeRow 196 = .ok (.imul, 1) := dk_104 (dk_at dksX2_isAlikeRow_8 14 rfl rfl)
theorem dX2_isAlikeRow_197 : decode cX2_isAlikeRow 197 = .ok (.iload 4, 2) := dk_21 4 (dk_at dksX2_isAlikeRow_8 15 rfl rfl)
theorem dX2_isAlikeRow_199 : decode cX2_isAlikeRow 199 = .ok (.iadd, 1) := dk_96 (dk_at dksX2_isAlikeRow_8 17 rfl rfl)
theorem dX2_isAlikeRow_200 : decode cX2_isAlikeRow 200 = .ok (.iaload, 1) := dk_46 (dk_at dksX2_isAlikeRow_8 18 rfl rfl)
theorem dX2_isAlikeRow_201 : decode cX2_isAlikeRow 201 = .ok (.aload_n 0, 1) := dk_42 (dk_at dksX2_isAlikeRow_8 19 rfl rfl)
theorem dX2_isAlikeRow_202 : decode cX2_isAlikeRow 202 = .ok (.getfield 99, 3) := dk_180 0 99 (dk_at dksX2_isAlikeRow_8 20 rfl rfl)
theorem dX2_isAlikeRow_205 : decode cX2_isAlikeRow 205 = .ok (.bipush 20, 2) := dk_16 20 (dk_at dksX2_isAlikeRow_9 0 rfl rfl)
theorem dX2_isAlikeRow_207 : decode cX2_isAlikeRow 207 = .ok (.iload_n 2, 1) := dk_28 (dk_at dksX2_isAlikeRow_9 2 rfl rfl)
theorem dX2_isAlikeRow_208 : decode cX2_isAlikeRow 208 = .ok (.imul, 1) := dk_104 (dk_at dksX2_isAlikeRow_9 3 rfl rfl)
theorem dX2_isAlikeRow_209 : decode cX2_isAlikeRow 209 = .ok (.iload 4, 2) := dk_21 4 (dk_at dksX2_isAlikeRow_9 4 rfl rfl)
theorem dX2_isAlikeRow_211 : decode cX2_isAlikeRow 211 = .ok (.iadd, 1) := dk_96 (dk_at dksX2_isAlikeRow_9 6 rfl rfl)
theorem dX2_isAlikeRow_212 : decode cX2_isAlikeRow 212 = .ok (.iaload, 1) := dk_46 (dk_at dksX2_isAlikeRow_9 7 rfl rfl)
theorem dX2_isAlikeRow_213 : decode cX2_isAlikeRow 213 = .ok (.if_icmp .ne 7, 3) := dk_160 0 7 (dk_at dksX2_isAlikeRow_9 8 rfl rfl)
theorem dX2_isAlikeRow_216 : decode cX2_isAlikeRow 216 = .ok (.iconst 1, 1) := dk_4 (dk_at dksX2_isAlikeRow_9 11 rfl rfl)
theorem dX2_isAlikeRow_217 : decode cX2_isAlikeRow 217 = .ok (.goto 4, 3) := dk_167 0 4 (dk_at dksX2_isAlikeRow_9 12 rfl rfl)
theorem dX2_isAlikeRow_220 : decode cX2_isAlikeRow 220 = .ok (.iconst 0, 1) := dk_3 (dk_at dksX2_isAlikeRow_9 15 rfl rfl)
theorem dX2_isAlikeRow_221 : decode cX2_isAlikeRow 221 = .ok (.istore_n 3, 1) := dk_62 (dk_at dksX2_isAlikeRow_9 16 rfl rfl)
theorem dX2_isAlikeRow_222 : decode cX2_isAlikeRow 222 = .ok (.iinc 4 1, 3) := dk_132 4 1 (dk_at dksX2_isAlikeRow_9 17 rfl rfl)
theorem dX2_isAlikeRow_225 : decode cX2_isAlikeRow 225 = .ok (.goto (-58), 3) := dk_167 255 198 (dk_at dksX2_isAlikeRow_9 20 rfl rfl)
theorem dX2_isAlikeRow_228 : decode cX2_isAlikeRow 228 = .ok (.iload_n 3, 1) := dk_29 (dk_at dksX2_isAlikeRow_9 23 rfl rfl)
theorem dX2_isAlikeRow_229 : decode cX2_isAlikeRow 229 = .ok (.ireturn, 1) := dk_172 (dk_at dksX2_isAlikeRow_10 0 rfl rfl)
abbrev cX2_haveSameSorts : ByteArray := prog_4_method_50_code
def yX2_haveSameSorts : MethodName := ⟨RX2, "haveSameSorts", "(II)Z"⟩
def dkwX2_haveSameSorts_2 : List UInt8 := [167, 0, 4, 3, 62, 132, 4, 1, 167, 255, 207, 29, 172]
abbrev dktX2_haveSameSorts_2 : List UInt8 := dkwX2_haveSameSorts_2 ++ []
def dkwX2_haveSameSorts_1 : List UInt8 := [8, 27, 104, 21, 4, 96, 46, 42, 180, 0, 150, 8, 28, 104, 21, 4, 96, 46, 160, 0, 7, 4]
abbrev dktX2_haveSameSorts_1 : List UInt8 := dkwX2_haveSameSorts_1 ++ dktX2_haveSameSorts_2
def dkwX2_haveSameSorts_0 : List UInt8 := [4, 62, 3, 54, 4, 21, 4, 42, 180, 0, 147, 27, 46, 162, 0, 44, 29, 153, 0, 40, 42, 180, 0, 150]
abbrev dktX2_haveSameSorts_0 : List UInt8 := dkwX2_haveSameSorts_0 ++ dktX2_haveSameSorts_1
theorem dksX2_haveSameSorts_0 : cX2_haveSameSorts.data.toList.drop 0 = dktX2_haveSameSorts_0 := by decide +kernel
theorem dksX2_haveSameSorts_1 : cX2_haveSameSorts.data.toList.drop 24 = dktX2_haveSameSorts_1 := dk_seg dksX2_haveSameSorts_0 24 rfl rfl
theorem dksX2_haveSameSorts_2 : cX2_haveSameSorts.data.toList.drop 46 = dktX2_haveSameSorts_2 := dk_seg dksX2_haveSameSorts_1 22 rfl rfl
theorem dX2_haveSameSorts_0 : decode cX2_haveSameSorts 0 = .ok (.iconst 1, 1) := dk_4 (dk_at dksX2_haveSameSorts_0 0 rfl rfl)
theorem dX2_haveSameSorts_1 : decode cX2_haveSameSorts 1 = .ok (.istore_n 3, 1) := dk_62 (dk_at dksX2_haveSameSorts_0 1 rfl rfl)
theorem dX2_haveSameSorts_2 : decode cX2_haveSameSorts 2 = .ok (.iconst 0, 1) := dk_3 (dk_at dksX2_haveSameSorts_0 2 rfl rfl)
theorem dX2_haveSameSorts_3 : decode cX2_haveSameSorts 3 = .ok (.istore 4, 2) := dk_54 4 (dk_at dksX2_haveSameSorts_0 3 rfl rfl)
theorem dX2_haveSameSorts_5 : decode cX2_haveSameSorts 5 = .ok (.iload 4, 2) := dk_21 4 (dk_at dksX2_haveSameSorts_0 5 rfl rfl)
theorem dX2_haveSameSorts_7 : decode cX2_haveSameSorts 7 = .ok (.aload_n 0, 1) := dk_42 (dk_at dksX2_haveSameSorts_0 7 rfl rfl)
theorem dX2_haveSameSorts_8 : decode cX2_haveSameSorts 8 = .ok (.getfield 147, 3) := dk_180 0 147 (dk_at dksX2_haveSameSorts_0 8 rfl rfl)
theorem dX2_haveSameSorts_11 : decode cX2_haveSameSorts 11 = .ok (.iload_n 1, 1) := dk_27 (dk_at dksX2_haveSameSorts_0 11 rfl rfl)
theorem dX2_haveSameSorts_12 : decode cX2_haveSameSorts 12 = .ok (.iaload, 1) := dk_46 (dk_at dksX2_haveSameSorts_0 12 rfl rfl)
theorem dX2_haveSameSorts_13 : decode cX2_haveSameSorts 13 = .ok (.if_icmp .ge 44, 3) := dk_162 0 44 (dk_at dksX2_haveSameSorts_0 13 rfl rfl)
theorem dX2_haveSameSorts_16 : decode cX2_haveSameSorts 16 = .ok (.iload_n 3, 1) := dk_29 (dk_at dksX2_haveSameSorts_0 16 rfl rfl)
theorem dX2_haveSameSorts_17 : decode cX2_haveSameSorts 17 = .ok (.ifCond .eq 40, 3) := dk_153 0 40 (dk_at dksX2_haveSameSorts_0 17 rfl rfl)
theorem dX2_haveSameSorts_20 : decode cX2_haveSameSorts 20 = .ok (.aload_n 0, 1) := dk_42 (dk_at dksX2_haveSameSorts_0 20 rfl rfl)
theorem dX2_haveSameSorts_21 : decode cX2_haveSameSorts 21 = .ok (.getfield 150, 3) := dk_180 0 150 (dk_at dksX2_haveSameSorts_0 21 rfl rfl)
theorem dX2_haveSameSorts_24 : decode cX2_haveSameSorts 24 = .ok (.iconst 5, 1) := dk_8 (dk_at dksX2_haveSameSorts_1 0 rfl rfl)
theorem dX2_haveSameSorts_25 : decode cX2_haveSameSorts 25 = .ok (.iload_n 1, 1) := dk_27 (dk_at dksX2_haveSameSorts_1 1 rfl rfl)
theorem dX2_haveSameSorts_26 : decode cX2_haveSameSorts 26 = .ok (.imul, 1) := dk_104 (dk_at dksX2_haveSameSorts_1 2 rfl rfl)
theorem dX2_haveSameSorts_27 : decode cX2_haveSameSorts 27 = .ok (.iload 4, 2) := dk_21 4 (dk_at dksX2_haveSameSorts_1 3 rfl rfl)
theorem dX2_haveSameSorts_29 : decode cX2_haveSameSorts 29 = .ok (.iadd, 1) := dk_96 (dk_at dksX2_haveSameSorts_1 5 rfl rfl)
theorem dX2_haveSameSorts_30 : decode cX2_haveSameSorts 30 = .ok (.iaload, 1) := dk_46 (dk_at dksX2_haveSameSorts_1 6 rfl rfl)
theorem dX2_haveSameSorts_31 : decode cX2_haveSameSorts 31 = .ok (.aload_n 0, 1) := dk_42 (dk_at dksX2_haveSameSorts_1 7 rfl rfl)
theorem dX2_haveSameSorts_32 : decode cX2_haveSameSorts 32 = .ok (.getfield 150, 3) := dk_180 0 150 (dk_at dksX2_haveSameSorts_1 8 rfl rfl)
theorem dX2_haveSameSorts_35 : decode cX2_haveSameSorts 35 = .ok (.iconst 5, 1) := dk_8 (dk_at dksX2_haveSameSorts_1 11 rfl rfl)
theorem dX2_haveSameSorts_36 : decode cX2_haveSameSorts 36 = .ok (.iload_n 2, 1) := dk_28 (dk_at dksX2_haveSameSorts_1 12 rfl rfl)
theorem dX2_haveSameSorts_37 : decode cX2_haveSameSorts 37 = .ok (.imul, 1) := dk_104 (dk_at dksX2_haveSameSorts_1 13 rfl rfl)
theorem dX2_haveSameSorts_38 : decode cX2_haveSameSorts 38 = .ok (.iload 4, 2) := dk_21 4 (dk_at dksX2_haveSameSorts_1 14 rfl rfl)
theorem dX2_haveSameSorts_40 : decode cX2_haveSameSorts 40 = .ok (.iadd, 1) := dk_96 (dk_at dksX2_haveSameSorts_1 16 rfl rfl)
theorem dX2_haveSameSorts_41 : decode cX2_haveSameSorts 41 = .ok (.iaload, 1) := dk_46 (dk_at dksX2_haveSameSorts_1 17 rfl rfl)
theorem dX2_haveSameSorts_42 : decode cX2_haveSameSorts 42 = .ok (.if_icmp .ne 7, 3) := dk_160 0 7 (dk_at dksX2_haveSameSorts_1 18 rfl rfl)
theorem dX2_haveSameSorts_45 : decode cX2_haveSameSorts 45 = .ok (.iconst 1, 1) := dk_4 (dk_at dksX2_haveSameSorts_1 21 rfl rfl)
theorem dX2_haveSameSorts_46 : decode cX2_haveSameSorts 46 = .ok (.goto 4, 3) := dk_167 0 4 (dk_at dksX2_haveSameSorts_2 0 rfl rfl)
theorem dX2_haveSameSorts_49 : decode cX2_haveSameSorts 49 = .ok (.iconst 0, 1) := dk_3 (dk_at dksX2_haveSameSorts_2 3 rfl rfl)
theorem dX2_haveSameSorts_50 : decode cX2_haveSameSorts 50 = .ok (.istore_n 3, 1) := dk_62 (dk_at dksX2_haveSameSorts_2 4 rfl rfl)
theorem dX2_haveSameSorts_51 : decode cX2_haveSameSorts 51 = .ok (.iinc 4 1, 3) := dk_132 4 1 (dk_at dksX2_haveSameSorts_2 5 rfl rfl)
theorem dX2_haveSameSorts_54 : decode cX2_haveSameSorts 54 = .ok (.goto (-49), 3) := dk_167 255 207 (dk_at dksX2_haveSameSorts_2 8 rfl rfl)
theorem dX2_haveSameSorts_57 : decode cX2_haveSameSorts 57 = .ok (.iload_n 3, 1) := dk_29 (dk_at dksX2_haveSameSorts_2 11 rfl rfl)
theorem dX2_haveSameSorts_58 : decode cX2_haveSameSorts 58 = .ok (.ireturn, 1) := dk_172 (dk_at dksX2_haveSameSorts_2 12 rfl rfl)
abbrev cX2_constant : ByteArray := prog_4_method_53_code
def yX2_constant : MethodName := ⟨RX2, "constant", "(II)I"⟩
def dkwX2_constant_3 : List UInt8 := [16, 254, 172]
abbrev dktX2_constant_3 : List UInt8 := dkwX2_constant_3 ++ []
def dkwX2_constant_2 : List UInt8 := [46, 27, 160, 0, 15, 42, 180, 0, 162, 29, 46, 28, 160, 0, 5, 29, 172, 132, 3, 1, 167, 255, 190]
abbrev dktX2_constant_2 : List UInt8 := dkwX2_constant_2 ++ dktX2_constant_3
def dkwX2_constant_1 : List UInt8 := [46, 154, 0, 40, 42, 180, 0, 144, 21, 4, 46, 4, 160, 0, 29, 42, 180, 0, 141, 16, 13, 21, 4, 104]
abbrev dktX2_constant_1 : List UInt8 := dkwX2_constant_1 ++ dktX2_constant_2
def dkwX2_constant_0 : List UInt8 := [3, 62, 29, 42, 180, 2, 131, 162, 0, 64, 42, 180, 0, 159, 29, 46, 54, 4, 42, 180, 0, 147, 21, 4]
abbrev dktX2_constant_0 : List UInt8 := dkwX2_constant_0 ++ dktX2_constant_1
theorem dksX2_constant_0 : cX2_constant.data.toList.drop 0 = dktX2_constant_0 := by decide +kernel
theorem dksX2_constant_1 : cX2_constant.data.toList.drop 24 = dktX2_constant_1 := dk_seg dksX2_constant_0 24 rfl rfl
theorem dksX2_constant_2 : cX2_constant.data.toList.drop 48 = dktX2_constant_2 := dk_seg dksX2_constant_1 24 rfl rfl
theorem dksX2_constant_3 : cX2_constant.data.toList.drop 71 = dktX2_constant_3 := dk_seg dksX2_constant_2 23 rfl rfl
theorem dX2_constant_0 : decode cX2_constant 0 = .ok (.iconst 0, 1) := dk_3 (dk_at dksX2_constant_0 0 rfl rfl)
theorem dX2_constant_1 : decode cX2_constant 1 = .ok (.istore_n 3, 1) := dk_62 (dk_at dksX2_constant_0 1 rfl rfl)
theorem dX2_constant_2 : decode cX2_constant 2 = .ok (.iload_n 3, 1) := dk_29 (dk_at dksX2_constant_0 2 rfl rfl)
theorem dX2_constant_3 : decode cX2_constant 3 = .ok (.aload_n 0, 1) := dk_42 (dk_at dksX2_constant_0 3 rfl rfl)
theorem dX2_constant_4 : decode cX2_constant 4 = .ok (.getfield 643, 3) := dk_180 2 131 (dk_at dksX2_constant_0 4 rfl rfl)
theorem dX2_constant_7 : decode cX2_constant 7 = .ok (.if_icmp .ge 64, 3) := dk_162 0 64 (dk_at dksX2_constant_0 7 rfl rfl)
theorem dX2_constant_10 : decode cX2_constant 10 = .ok (.aload_n 0, 1) := dk_42 (dk_at dksX2_constant_0 10 rfl rfl)
theorem dX2_constant_11 : decode cX2_constant 11 = .ok (.getfield 159, 3) := dk_180 0 159 (dk_at dksX2_constant_0 11 rfl rfl)
theorem dX2_constant_14 : decode cX2_constant 14 = .ok (.iload_n 3, 1) := dk_29 (dk_at dksX2_constant_0 14 rfl rfl)
theorem dX2_constant_15 : decode cX2_constant 15 = .ok (.iaload, 1) := dk_46 (dk_at dksX2_constant_0 15 rfl rfl)
theorem dX2_constant_16 : decode cX2_constant 16 = .ok (.istore 4, 2) := dk_54 4 (dk_at dksX2_constant_0 16 rfl rfl)
theorem dX2_constant_18 : decode cX2_constant 18 = .ok (.aload_n 0, 1) := dk_42 (dk_at dksX2_constant_0 18 rfl rfl)
theorem dX2_constant_19 : decode cX2_constant 19 = .ok (.getfield 147, 3) := dk_180 0 147 (dk_at dksX2_constant_0 19 rfl rfl)
theorem dX2_constant_22 : decode cX2_constant 22 = .ok (.iload 4, 2) := dk_21 4 (dk_at dksX2_constant_0 22 rfl rfl)
theorem dX2_constant_24 : decode cX2_constant 24 = .ok (.iaload, 1) := dk_46 (dk_at dksX2_constant_1 0 rfl rfl)
theorem dX2_constant_25 : decode cX2_constant 25 = .ok (.ifCond .ne 40, 3) := dk_154 0 40 (dk_at dksX2_constant_1 1 rfl rfl)
theorem dX2_constant_28 : decode cX2_constant 28 = .ok (.aload_n 0, 1) := dk_42 (dk_at dksX2_constant_1 4 rfl rfl)
theorem dX2_constant_29 : decode cX2_constant 29 = .ok (.getfield 144, 3) := dk_180 0 144 (dk_at dksX2_constant_1 5 rfl rfl)
theorem dX2_constant_32 : decode cX2_constant 32 = .ok (.iload 4, 2) := dk_21 4 (dk_at dksX2_constant_1 8 rfl rfl)
theorem dX2_constant_34 : decode cX2_constant 34 = .ok (.iaload, 1) := dk_46 (dk_at dksX2_constant_1 10 rfl rfl)
theorem dX2_constant_35 : decode cX2_constant 35 = .ok (.iconst 1, 1) := dk_4 (dk_at dksX2_constant_1 11 rfl rfl)
theorem dX2_constant_36 : decode cX2_constant 36 = .ok (.if_icmp .ne 29, 3) := dk_160 0 29 (dk_at dksX2_constant_1 12 rfl rfl)
theorem dX2_constant_39 : decode cX2_constant 39 = .ok (.aload_n 0, 1) := dk_42 (dk_at dksX2_constant_1 15 rfl rfl)
theorem dX2_constant_40 : decode cX2_constant 40 = .ok (.getfield 141, 3) := dk_180 0 141 (dk_at dksX2_constant_1 16 rfl rfl)
theorem dX2_constant_43 : decode cX2_constant 43 = .ok (.bipush 13, 2) := dk_16 13 (dk_at dksX2_constant_1 19 rfl rfl)
theorem dX2_constant_45 : decode cX2_constant 45 = .ok (.iload 4, 2) := dk_21 4 (dk_at dksX2_constant_1 21 rfl rfl)
theorem dX2_constant_47 : decode cX2_constant 47 = .ok (.imul, 1) := dk_104 (dk_at dksX2_constant_1 23 rfl rfl)
theorem dX2_constant_48 : decode cX2_constant 48 = .ok (.iaload, 1) := dk_46 (dk_at dksX2_constant_2 0 rfl rfl)
theorem dX2_constant_49 : decode cX2_constant 49 = .ok (.iload_n 1, 1) := dk_27 (dk_at dksX2_constant_2 1 rfl rfl)
theorem dX2_constant_50 : decode cX2_constant 50 = .ok (.if_icmp .ne 15, 3) := dk_160 0 15 (dk_at dksX2_constant_2 2 rfl rfl)
theorem dX2_constant_53 : decode cX2_constant 53 = .ok (.aload_n 0, 1) := dk_42 (dk_at dksX2_constant_2 5 rfl rfl)
theorem dX2_constant_54 : decode cX2_constant 54 = .ok (.getfield 162, 3) := dk_180 0 162 (dk_at dksX2_constant_2 6 rfl rfl)
theorem dX2_constant_57 : decode cX2_constant 57 = .ok (.iload_n 3, 1) := dk_29 (dk_at dksX2_constant_2 9 rfl rfl)
theorem dX2_constant_58 : decode cX2_constant 58 = .ok (.iaload, 1) := dk_46 (dk_at dksX2_constant_2 10 rfl rfl)
theorem dX2_constant_59 : decode cX2_constant 59 = .ok (.iload_n 2, 1) := dk_28 (dk_at dksX2_constant_2 11 rfl rfl)
theorem dX2_constant_60 : decode cX2_constant 60 = .ok (.if_icmp .ne 5, 3) := dk_160 0 5 (dk_at dksX2_constant_2 12 rfl rfl)
theorem dX2_constant_63 : decode cX2_constant 63 = .ok (.iload_n 3, 1) := dk_29 (dk_at dksX2_constant_2 15 rfl rfl)
theorem dX2_constant_64 : decode cX2_constant 64 = .ok (.ireturn, 1) := dk_172 (dk_at dksX2_constant_2 16 rfl rfl)
theorem dX2_constant_65 : decode cX2_constant 65 = .ok (.iinc 3 1, 3) := dk_132 3 1 (dk_at dksX2_constant_2 17 rfl rfl)
theorem dX2_constant_68 : decode cX2_constant 68 = .ok (.goto (-66), 3) := dk_167 255 190 (dk_at dksX2_constant_2 20 rfl rfl)
theorem dX2_constant_71 : decode cX2_constant 71 = .ok (.bipush (-2), 2) := dk_16 254 (dk_at dksX2_constant_3 0 rfl rfl)
theorem dX2_constant_73 : decode cX2_constant 73 = .ok (.ireturn, 1) := dk_172 (dk_at dksX2_constant_3 2 rfl rfl)
abbrev cX2_readStatement : ByteArray := prog_4_method_88_code
def yX2_readStatement : MethodName := ⟨RX2, "readStatement", "(I)V"⟩
def dkwX2_readStatement_15 : List UInt8 := [27, 46, 28, 4, 96, 182, 3, 35, 177]
abbrev dktX2_readStatement_15 : List UInt8 := dkwX2_readStatement_15 ++ []
def dkwX2_readStatement_14 : List UInt8 := [27, 42, 28, 4, 96, 42, 42, 180, 0, 232, 27, 46, 182, 3, 38, 182, 3, 32, 79, 42, 42, 180, 0, 235]
abbrev dktX2_readStatement_14 : List UInt8 := dkwX2_readStatement_14 ++ dktX2_readStatement_15
def dkwX2_readStatement_13 : List UInt8 := [184, 3, 19, 129, 167, 0, 7, 42, 180, 3, 26, 181, 3, 26, 132, 3, 1, 167, 255, 31, 42, 180, 0, 235]
abbrev dktX2_readStatement_13 : List UInt8 := dkwX2_readStatement_13 ++ dktX2_readStatement_14
def dkwX2_readStatement_12 : List UInt8 := [42, 180, 0, 117, 21, 4, 46, 4, 160, 0, 22, 42, 180, 3, 26, 42, 42, 180, 0, 238, 21, 4, 46]
abbrev dktX2_readStatement_12 : List UInt8 := dkwX2_readStatement_12 ++ dktX2_readStatement_13
def dkwX2_readStatement_11 : List UInt8 := [46, 182, 3, 38, 182, 3, 32, 79, 42, 42, 180, 0, 241, 21, 4, 46, 21, 5, 4, 96, 182, 3, 35, 42]
abbrev dktX2_readStatement_11 : List UInt8 := dkwX2_readStatement_11 ++ dktX2_readStatement_12
def dkwX2_readStatement_10 : List UInt8 := [46, 21, 5, 182, 3, 35, 42, 180, 0, 241, 21, 4, 42, 21, 5, 4, 96, 42, 42, 180, 0, 238, 21, 4]
abbrev dktX2_readStatement_10 : List UInt8 := dkwX2_readStatement_10 ++ dktX2_readStatement_11
def dkwX2_readStatement_9 : List UInt8 := [21, 5, 2, 182, 3, 32, 79, 42, 180, 0, 117, 21, 4, 46, 154, 0, 16, 42, 42, 180, 0, 238, 21, 4]
abbrev dktX2_readStatement_9 : List UInt8 := dkwX2_readStatement_9 ++ dktX2_readStatement_10
def dkwX2_readStatement_8 : List UInt8 := [21, 5, 182, 3, 35, 42, 180, 0, 241, 21, 4, 16, 254, 79, 167, 0, 119, 42, 180, 0, 238, 21, 4, 42]
abbrev dktX2_readStatement_8 : List UInt8 := dkwX2_readStatement_8 ++ dktX2_readStatement_9
def dkwX2_readStatement_7 : List UInt8 := [180, 0, 132, 42, 180, 0, 244, 21, 4, 46, 46, 182, 3, 32, 79, 42, 42, 180, 0, 238, 21, 4, 46]
abbrev dktX2_readStatement_7 : List UInt8 := dkwX2_readStatement_7 ++ dktX2_readStatement_8
def dkwX2_readStatement_6 : List UInt8 := [21, 4, 42, 42, 180, 0, 120, 21, 4, 46, 182, 2, 96, 79, 42, 180, 0, 238, 21, 4, 42, 21, 5, 42]
abbrev dktX2_readStatement_6 : List UInt8 := dkwX2_readStatement_6 ++ dktX2_readStatement_7
def dkwX2_readStatement_5 : List UInt8 := [5, 96, 5, 29, 104, 96, 54, 5, 42, 180, 0, 117, 21, 4, 46, 5, 160, 0, 71, 42, 180, 0, 244]
abbrev dktX2_readStatement_5 : List UInt8 := dkwX2_readStatement_5 ++ dktX2_readStatement_6
def dkwX2_readStatement_4 : List UInt8 := [181, 3, 26, 3, 62, 29, 42, 180, 0, 123, 27, 46, 162, 0, 221, 16, 6, 27, 104, 29, 96, 54, 4, 28]
abbrev dktX2_readStatement_4 : List UInt8 := dkwX2_readStatement_4 ++ dktX2_readStatement_5
def dkwX2_readStatement_3 : List UInt8 := [180, 0, 111, 28, 3, 96, 46, 46, 182, 1, 178, 42, 42, 42, 180, 0, 232, 27, 46, 184, 3, 19]
abbrev dktX2_readStatement_3 : List UInt8 := dkwX2_readStatement_3 ++ dktX2_readStatement_4
def dkwX2_readStatement_2 : List UInt8 := [79, 42, 42, 180, 0, 232, 27, 46, 182, 2, 185, 153, 0, 22, 42, 16, 8, 42, 180, 0, 33, 42]
abbrev dktX2_readStatement_2 : List UInt8 := dkwX2_readStatement_2 ++ dktX2_readStatement_3
def dkwX2_readStatement_1 : List UInt8 := [42, 42, 180, 0, 108, 27, 46, 182, 2, 106, 79, 42, 180, 0, 232, 27, 42, 28, 3, 96, 2, 182, 3, 32]
abbrev dktX2_readStatement_1 : List UInt8 := dkwX2_readStatement_1 ++ dktX2_readStatement_2
def dkwX2_readStatement_0 : List UInt8 := [16, 16, 27, 104, 61, 42, 180, 0, 247, 27, 42, 180, 0, 108, 27, 46, 156, 0, 8, 16, 254, 167, 0, 13]
abbrev dktX2_readStatement_0 : List UInt8 := dkwX2_readStatement_0 ++ dktX2_readStatement_1
theorem dksX2_readStatement_0 : cX2_readStatement.data.toList.drop 0 = dktX2_readStatement_0 := by decide +kernel
theorem dksX2_readStatement_1 : cX2_readStatement.data.toList.drop 24 = dktX2_readStatement_1 := dk_seg dksX2_readStatement_0 24 rfl rfl
theorem dksX2_readStatement_2 : cX2_readStatement.data.toList.drop 48 = dktX2_readStatement_2 := dk_seg dksX2_readStatement_1 24 rfl rfl
theorem dksX2_readStatement_3 : cX2_readStatement.data.toList.drop 70 = dktX2_readStatement_3 := dk_seg dksX2_readStatement_2 22 rfl rfl
theorem dksX2_readStatement_4 : cX2_readStatement.data.toList.drop 92 = dktX2_readStatement_4 := dk_seg dksX2_readStatement_3 22 rfl rfl
theorem dksX2_readStatement_5 : cX2_readStatement.data.toList.drop 116 = dktX2_readStatement_5 := dk_seg dksX2_readStatement_4 24 rfl rfl
theorem dksX2_readStatement_6 : cX2_readStatement.data.toList.drop 139 = dktX2_readStatement_6 := dk_seg dksX2_readStatement_5 23 rfl rfl
theorem dksX2_readStatement_7 : cX2_readStatement.data.toList.drop 163 = dktX2_readStatement_7 := dk_seg dksX2_readStatement_6 24 rfl rfl
theorem dksX2_readStatement_8 : cX2_readStatement.data.toList.drop 186 = dktX2_readStatement_8 := dk_seg dksX2_readStatement_7 23 rfl rfl
theorem dksX2_readStatement_9 : cX2_readStatement.data.toList.drop 210 = dktX2_readStatement_9 := dk_seg dksX2_readStatement_8 24 rfl rfl
theorem dksX2_readStatement_10 : cX2_readStatement.data.toList.drop 234 = dktX2_readStatement_10 := dk_seg dksX2_readStatement_9 24 rfl rfl
theorem dksX2_readStatement_11 : cX2_readStatement.data.toList.drop 258 = dktX2_readStatement_11 := dk_seg dksX2_readStatement_10 24 rfl rfl
theorem dksX2_readStatement_12 : cX2_readStatement.data.toList.drop 282 = dktX2_readStatement_12 := dk_seg dksX2_readStatement_11 24 rfl rfl
theorem dksX2_readStatement_13 : cX2_readStatement.data.toList.drop 305 = dktX2_readStatement_13 := dk_seg dksX2_readStatement_12 23 rfl rfl
theorem dksX2_readStatement_14 : cX2_readStatement.data.toList.drop 329 = dktX2_readStatement_14 := dk_seg dksX2_readStatement_13 24 rfl rfl
theorem dksX2_readStatement_15 : cX2_readStatement.data.toList.drop 353 = dktX2_readStatement_15 := dk_seg dksX2_readStatement_14 24 rfl rfl
theorem dX2_readStatement_0 : decode cX2_readStatement 0 = .ok (.bipush 16, 2) := dk_16 16 (dk_at dksX2_readStatement_0 0 rfl rfl)
theorem dX2_readStatement_2 : decode cX2_readStatement 2 = .ok (.iload_n 1, 1) := dk_27 (dk_at dksX2_readStatement_0 2 rfl rfl)
theorem dX2_readStatement_3 : decode cX2_readStatement 3 = .ok (.imul, 1) := dk_104 (dk_at dksX2_readStatement_0 3 rfl rfl)
theorem dX2_readStatement_4 : decode cX2_readStatement 4 = .ok (.istore_n 2, 1) := dk_61 (dk_at dksX2_readStatement_0 4 rfl rfl)
theorem dX2_readStatement_5 : decode cX2_readStatement 5 = .ok (.aload_n 0, 1) := dk_42 (dk_at dksX2_readStatement_0 5 rfl rfl)
theorem dX2_readStatement_6 : decode cX2_readStatement 6 = .ok (.getfield 247, 3) := dk_180 0 247 (dk_at dksX2_readStatement_0 6 rfl rfl)
theorem dX2_readStatement_9 : decode cX2_readStatement 9 = .ok (.iload_n 1, 1) := dk_27 (dk_at dksX2_readStatement_0 9 rfl rfl)
theorem dX2_readStatement_10 : decode cX2_readStatement 10 = .ok (.aload_n 0, 1) := dk_42 (dk_at dksX2_readStatement_0 10 rfl rfl)
theorem dX2_readStatement_11 : decode cX2_readStatement 11 = .ok (.getfield 108, 3) := dk_180 0 108 (dk_at dksX2_readStatement_0 11 rfl rfl)
theorem dX2_readStatement_14 : decode cX2_readStatement 14 = .ok (.iload_n 1, 1) := dk_27 (dk_at dksX2_readStatement_0 14 rfl rfl)
theorem dX2_readStatement_15 : decode cX2_readStatement 15 = .ok (.iaload, 1) := dk_46 (dk_at dksX2_readStatement_0 15 rfl rfl)
theorem dX2_readStatement_16 : decode cX2_readStatement 16 = .ok (.ifCond .ge 8, 3) := dk_156 0 8 (dk_at dksX2_readStatement_0 16 rfl rfl)
theorem dX2_readStatement_19 : decode cX2_readStatement 19 = .ok (.bipush (-2), 2) := dk_16 254 (dk_at dksX2_readStatement_0 19 rfl rfl)
theorem dX2_readStatement_21 : decode cX2_readStatement 21 = .ok (.goto 13, 3) := dk_167 0 13 (dk_at dksX2_readStatement_0 21 rfl rfl)
theorem dX2_readStatement_24 : decode cX2_readStatement 24 = .ok (.aload_n 0, 1) := dk_42 (dk_at dksX2_readStatement_1 0 rfl rfl)
theorem dX2_readStatement_25 : decode cX2_readStatement 25 = .ok (.aload_n 0, 1) := dk_42 (dk_at dksX2_readStatement_1 1 rfl rfl)
theorem dX2_readStatement_26 : decode cX2_readStatement 26 = .ok (.getfield 108, 3) := dk_180 0 108 (dk_at dksX2_readStatement_1 2 rfl rfl)
theorem dX2_readStatement_29 : decode cX2_readStatement 29 = .ok (.iload_n 1, 1) := dk_27 (dk_at dksX2_readStatement_1 5 rfl rfl)
theorem dX2_readStatement_30 : decode cX2_readStatement 30 = .ok (.iaload, 1) := dk_46 (dk_at dksX2_readStatement_1 6 rfl rfl)
theorem dX2_readStatement_31 : decode cX2_readStatement 31 = .ok (.invokevirtual 618, 3) := dk_182 2 106 (dk_at dksX2_readStatement_1 7 rfl rfl)
theorem dX2_readStatement_34 : decode cX2_readStatement 34 = .ok (.iastore, 1) := dk_79 (dk_at dksX2_readStatement_1 10 rfl rfl)
theorem dX2_readStatement_35 : decode cX2_readStatement 35 = .ok (.aload_n 0, 1) := dk_42 (dk_at dksX2_readStatement_1 11 rfl rfl)
theorem dX2_readStatement_36 : decode cX2_readStatement 36 = .ok (.getfield 232, 3) := dk_180 0 232 (dk_at dksX2_readStatement_1 12 rfl rfl)
theorem dX2_readStatement_39 : decode cX2_readStatement 39 = .ok (.iload_n 1, 1) := dk_27 (dk_at dksX2_readStatement_1 15 rfl rfl)
theorem dX2_readStatement_40 : decode cX2_readStatement 40 = .ok (.aload_n 0, 1) := dk_42 (dk_at dksX2_readStatement_1 16 rfl rfl)
theorem dX2_readStatement_41 : decode cX2_readStatement 41 = .ok (.iload_n 2, 1) := dk_28 (dk_at dksX2_readStatement_1 17 rfl rfl)
theorem dX2_readStatement_42 : decode cX2_readStatement 42 = .ok (.iconst 0, 1) := dk_3 (dk_at dksX2_readStatement_1 18 rfl rfl)
theorem dX2_readStatement_43 : decode cX2_readStatement 43 = .ok (.iadd, 1) := dk_96 (dk_at dksX2_readStatement_1 19 rfl rfl)
theorem dX2_readStatement_44 : decode cX2_readStatement 44 = .ok (.iconst (-1), 1) := dk_2 (dk_at dksX2_readStatement_1 20 rfl rfl)
theorem dX2_readStatement_45 : decode cX2_readStatement 45 = .ok (.invokevirtual 800, 3) := dk_182 3 32 (dk_at dksX2_readStatement_1 21 rfl rfl)
theorem dX2_readStatement_48 : decode cX2_readStatement 48 = .ok (.iastore, 1) := dk_79 (dk_at dksX2_readStatement_2 0 rfl rfl)
theorem dX2_readStatement_49 : decode cX2_readStatement 49 = .ok (.aload_n 0, 1) := dk_42 (dk_at dksX2_readStatement_2 1 rfl rfl)
theorem dX2_readStatement_50 : decode cX2_readStatement 50 = .ok (.aload_n 0, 1) := dk_42 (dk_at dksX2_readStatement_2 2 rfl rfl)
theorem dX2_readStatement_51 : decode cX2_readStatement 51 = .ok (.getfield 232, 3) := dk_180 0 232 (dk_at dksX2_readStatement_2 3 rfl rfl)
theorem dX2_readStatement_54 : decode cX2_readStatement 54 = .ok (.iload_n 1, 1) := dk_27 (dk_at dksX2_readStatement_2 6 rfl rfl)
theorem dX2_readStatement_55 : decode cX2_readStatement 55 = .ok (.iaload, 1) := dk_46 (dk_at dksX2_readStatement_2 7 rfl rfl)
theorem dX2_readStatement_56 : decode cX2_readStatement 56 = .ok (.invokevirtual 697, 3) := dk_182 2 185 (dk_at dksX2_readStatement_2 8 rfl rfl)
theorem dX2_readStatement_59 : decode cX2_readStatement 59 = .ok (.ifCond .eq 22, 3) := dk_153 0 22 (dk_at dksX2_readStatement_2 11 rfl rfl)
theorem dX2_readStatement_62 : decode cX2_readStatement 62 = .ok (.aload_n 0, 1) := dk_42 (dk_at dksX2_readStatement_2 14 rfl rfl)
theorem dX2_readStatement_63 : decode cX2_readStatement 63 = .ok (.bipush 8, 2) := dk_16 8 (dk_at dksX2_readStatement_2 15 rfl rfl)
theorem dX2_readStatement_65 : decode cX2_readStatement 65 = .ok (.aload_n 0, 1) := dk_42 (dk_at dksX2_readStatement_2 17 rfl rfl)
theorem dX2_readStatement_66 : decode cX2_readStatement 66 = .ok (.getfield 33, 3) := dk_180 0 33 (dk_at dksX2_readStatement_2 18 rfl rfl)
theorem dX2_readStatement_69 : decode cX2_readStatement 69 = .ok (.aload_n 0, 1) := dk_42 (dk_at dksX2_readStatement_2 21 rfl rfl)
theorem dX2_readStatement_70 : decode cX2_readStatement 70 = .ok (.getfield 111, 3) := dk_180 0 111 (dk_at dksX2_readStatement_3 0 rfl rfl)
theorem dX2_readStatement_73 : decode cX2_readStatement 73 = .ok (.iload_n 2, 1) := dk_28 (dk_at dksX2_readStatement_3 3 rfl rfl)
theorem dX2_readStatement_74 : decode cX2_readStatement 74 = .ok (.iconst 0, 1) := dk_3 (dk_at dksX2_readStatement_3 4 rfl rfl)
theorem dX2_readStatement_75 : decode cX2_readStatement 75 = .ok (.iadd, 1) := dk_96 (dk_at dksX2_readStatement_3 5 rfl rfl)
theorem dX2_readStatement_76 : decode cX2_readStatement 76 = .ok (.iaload, 1) := dk_46 (dk_at dksX2_readStatement_3 6 rfl rfl)
theorem dX2_readStatement_77 : decode cX2_readStatement 77 = .ok (.iaload, 1) := dk_46 (dk_at dksX2_readStatement_3 7 rfl rfl)
theorem dX2_readStatement_78 : decode cX2_readStatement 78 = .ok (.invokevirtual 434, 3) := dk_182 1 178 (dk_at dksX2_readStatement_3 8 rfl rfl)
theorem dX2_readStatement_81 : decode cX2_readStatement 81 = .ok (.aload_n 0, 1) := dk_42 (dk_at dksX2_readStatement_3 11 rfl rfl)
theorem dX2_readStatement_82 : decode cX2_readStatement 82 = .ok (.aload_n 0, 1) := dk_42 (dk_at dksX2_readStatement_3 12 rfl rfl)
theorem dX2_readStatement_83 : decode cX2_readStatement 83 = .ok (.aload_n 0, 1) := dk_42 (dk_at dksX2_readStatement_3 13 rfl rfl)
theorem dX2_readStatement_84 : decode cX2_readStatement 84 = .ok (.getfield 232, 3) := dk_180 0 232 (dk_at dksX2_readStatement_3 14 rfl rfl)
theorem dX2_readStatement_87 : decode cX2_readStatement 87 = .ok (.iload_n 1, 1) := dk_27 (dk_at dksX2_readStatement_3 17 rfl rfl)
theorem dX2_readStatement_88 : decode cX2_readStatement 88 = .ok (.iaload, 1) := dk_46 (dk_at dksX2_readStatement_3 18 rfl rfl)
theorem dX2_readStatement_89 : decode cX2_readStatement 89 = .ok (.invokestatic 787, 3) := dk_184 3 19 (dk_at dksX2_readStatement_3 19 rfl rfl)
theorem dX2_readStatement_92 : decode cX2_readStatement 92 = .ok (.putfield 794, 3) := dk_181 3 26 (dk_at dksX2_readStatement_4 0 rfl rfl)
theorem dX2_readStatement_95 : decode cX2_readStatement 95 = .ok (.iconst 0, 1) := dk_3 (dk_at dksX2_readStatement_4 3 rfl rfl)
theorem dX2_readStatement_96 : decode cX2_readStatement 96 = .ok (.istore_n 3, 1) := dk_62 (dk_at dksX2_readStatement_4 4 rfl rfl)
theorem dX2_readStatement_97 : decode cX2_readStatement 97 = .ok (.iload_n 3, 1) := dk_29 (dk_at dksX2_readStatement_4 5 rfl rfl)
theorem dX2_readStatement_98 : decode cX2_readStatement 98 = .ok (.aload_n 0, 1) := dk_42 (dk_at dksX2_readStatement_4 6 rfl rfl)
theorem dX2_readStatement_99 : decode cX2_readStatement 99 = .ok (.getfield 123, 3) := dk_180 0 123 (dk_at dksX2_readStatement_4 7 rfl rfl)
theorem dX2_readStatement_102 : decode cX2_readStatement 102 = .ok (.iload_n 1, 1) := dk_27 (dk_at dksX2_readStatement_4 10 rfl rfl)
theorem dX2_readStatement_103 : decode cX2_readStatement 103 = .ok (.iaload, 1) := dk_46 (dk_at dksX2_readStatement_4 11 rfl rfl)
theorem dX2_readStatement_104 : decode cX2_readStatement 104 = .ok (.if_icmp .ge 221, 3) := dk_162 0 221 (dk_at dksX2_readStatement_4 12 rfl rfl)
theorem dX2_readStatement_107 : decode cX2_readStatement 107 = .ok (.bipush 6, 2) := dk_16 6 (dk_at dksX2_readStatement_4 15 rfl rfl)
theorem dX2_readStatement_109 : decode cX2_readStatement 109 = .ok (.iload_n 1, 1) := dk_27 (dk_at dksX2_readStatement_4 17 rfl rfl)
theorem dX2_readStatement_110 : decode cX2_readStatement 110 = .ok (.imul, 1) := dk_104 (dk_at dksX2_readStatement_4 18 rfl rfl)
theorem dX2_readStatement_111 : decode cX2_readStatement 111 = .ok (.iload_n 3, 1) := dk_29 (dk_at dksX2_readStatement_4 19 rfl rfl)
theorem dX2_readStatement_112 : decode cX2_readStatement 112 = .ok (.iadd, 1) := dk_96 (dk_at dksX2_readStatement_4 20 rfl rfl)
theorem dX2_readStatement_113 : decode cX2_readStatement 113 = .ok (.istore 4, 2) := dk_54 4 (dk_at dksX2_readStatement_4 21 rfl rfl)
theorem dX2_readStatement_115 : decode cX2_readStatement 115 = .ok (.iload_n 2, 1) := dk_28 (dk_at dksX2_readStatement_4 23 rfl rfl)
theorem dX2_readStatement_116 : decode cX2_readStatement 116 = .ok (.iconst 2, 1) := dk_5 (dk_at dksX2_readStatement_5 0 rfl rfl)
theorem dX2_readStatement_117 : decode cX2_readStatement 117 = .ok (.iadd, 1) := dk_96 (dk_at dksX2_readStatement_5 1 rfl rfl)
theorem dX2_readStatement_118 : decode cX2_readStatement 118 = .ok (.iconst 2, 1) := dk_5 (dk_at dksX2_readStatement_5 2 rfl rfl)
theorem dX2_readStatement_119 : decode cX2_readStatement 119 = .ok (.iload_n 3, 1) := dk_29 (dk_at dksX2_readStatement_5 3 rfl rfl)
theorem dX2_readStatement_120 : decode cX2_readStatement 120 = .ok (.imul, 1) := dk_104 (dk_at dksX2_readStatement_5 4 rfl rfl)
theorem dX2_readStatement_121 : decode cX2_readStatement 121 = .ok (.iadd, 1) := dk_96 (dk_at dksX2_readStatement_5 5 rfl rfl)
theorem dX2_readStatement_122 : decode cX2_readStatement 122 = .ok (.istore 5, 2) := dk_54 5 (dk_at dksX2_readStatement_5 6 rfl rfl)
theorem dX2_readStatement_124 : decode cX2_readStatement 124 = .ok (.aload_n 0, 1) := dk_42 (dk_at dksX2_readStatement_5 8 rfl rfl)
theorem dX2_readStatement_125 : decode cX2_readStatement 125 = .ok (.getfield 117, 3) := dk_180 0 117 (dk_at dksX2_readStatement_5 9 rfl rfl)
theorem dX2_readStatement_128 : decode cX2_readStatement 128 = .ok (.iload 4, 2) := dk_21 4 (dk_at dksX2_readStatement_5 12 rfl rfl)
theorem dX2_readStatement_130 : decode cX2_readStatement 130 = .ok (.iaload, 1) := dk_46 (dk_at dksX2_readStatement_5 14 rfl rfl)
theorem dX2_readStatement_131 : decode cX2_readStatement 131 = .ok (.iconst 2, 1) := dk_5 (dk_at dksX2_readStatement_5 15 rfl rfl)
theorem dX2_readStatement_132 : decode cX2_readStatement 132 = .ok (.if_icmp .ne 71, 3) := dk_160 0 71 (dk_at dksX2_readStatement_5 16 rfl rfl)
theorem dX2_readStatement_135 : decode cX2_readStatement 135 = .ok (.aload_n 0, 1) := dk_42 (dk_at dksX2_readStatement_5 19 rfl rfl)
theorem dX2_readStatement_136 : decode cX2_readStatement 136 = .ok (.getfield 244, 3) := dk_180 0 244 (dk_at dksX2_readStatement_5 20 rfl rfl)
theorem dX2_readStatement_139 : decode cX2_readStatement 139 = .ok (.iload 4, 2) := dk_21 4 (dk_at dksX2_readStatement_6 0 rfl rfl)
theorem dX2_readStatement_141 : decode cX2_readStatement 141 = .ok (.aload_n 0, 1) := dk_42 (dk_at dksX2_readStatement_6 2 rfl rfl)
theorem dX2_readStatement_142 : decode cX2_readStatement 142 = .ok (.aload_n 0, 1) := dk_42 (dk_at dksX2_readStatement_6 3 rfl rfl)
theorem dX2_readStatement_143 : decode cX2_readStatement 143 = .ok (.getfield 120, 3) := dk_180 0 120 (dk_at dksX2_readStatement_6 4 rfl rfl)
theorem dX2_readStatement_146 : decode cX2_readStatement 146 = .ok (.iload 4, 2) := dk_21 4 (dk_at dksX2_readStatement_6 7 rfl rfl)
theorem dX2_readStatement_148 : decode cX2_readStatement 148 = .ok (.iaload, 1) := dk_46 (dk_at dksX2_readStatement_6 9 rfl rfl)
theorem dX2_readStatement_149 : decode cX2_readStatement 149 = .ok (.invokevirtual 608, 3) := dk_182 2 96 (dk_at dksX2_readStatement_6 10 rfl rfl)
theorem dX2_readStatement_152 : decode cX2_readStatement 152 = .ok (.iastore, 1) := dk_79 (dk_at dksX2_readStatement_6 13 rfl rfl)
theorem dX2_readStatement_153 : decode cX2_readStatement 153 = .ok (.aload_n 0, 1) := dk_42 (dk_at dksX2_readStatement_6 14 rfl rfl)
theorem dX2_readStatement_154 : decode cX2_readStatement 154 = .ok (.getfield 238, 3) := dk_180 0 238 (dk_at dksX2_readStatement_6 15 rfl rfl)
theorem dX2_readStatement_157 : decode cX2_readStatement 157 = .ok (.iload 4, 2) := dk_21 4 (dk_at dksX2_readStatement_6 18 rfl rfl)
theorem dX2_readStatement_159 : decode cX2_readStatement 159 = .ok (.aload_n 0, 1) := dk_42 (dk_at dksX2_readStatement_6 20 rfl rfl)
theorem dX2_readStatement_160 : decode cX2_readStatement 160 = .ok (.iload 5, 2) := dk_21 5 (dk_at dksX2_readStatement_6 21 rfl rfl)
theorem dX2_readStatement_162 : decode cX2_readStatement 162 = .ok (.aload_n 0, 1) := dk_42 (dk_at dksX2_readStatement_6 23 rfl rfl)
theorem dX2_readStatement_163 : decode cX2_readStatement 163 = .ok (.getfield 132, 3) := dk_180 0 132 (dk_at dksX2_readStatement_7 0 rfl rfl)
theorem dX2_readStatement_166 : decode cX2_readStatement 166 = .ok (.aload_n 0, 1) := dk_42 (dk_at dksX2_readStatement_7 3 rfl rfl)
theorem dX2_readStatement_167 : decode cX2_readStatement 167 = .ok (.getfield 244, 3) := dk_180 0 244 (dk_at dksX2_readStatement_7 4 rfl rfl)
theorem dX2_readStatement_170 : decode cX2_readStatement 170 = .ok (.iload 4, 2) := dk_21 4 (dk_at dksX2_readStatement_7 7 rfl rfl)
theorem dX2_readStatement_172 : decode cX2_readStatement 172 = .ok (.iaload, 1) := dk_46 (dk_at dksX2_readStatement_7 9 rfl rfl)
theorem dX2_readStatement_173 : decode cX2_readStatement 173 = .ok (.iaload, 1) := dk_46 (dk_at dksX2_readStatement_7 10 rfl rfl)
theorem dX2_readStatement_174 : decode cX2_readStatement 174 = .ok (.invokevirtual 800, 3) := dk_182 3 32 (dk_at dksX2_readStatement_7 11 rfl rfl)
theorem dX2_readStatement_177 : decode cX2_readStatement 177 = .ok (.iastore, 1) := dk_79 (dk_at dksX2_readStatement_7 14 rfl rfl)
theorem dX2_readStatement_178 : decode cX2_readStatement 178 = .ok (.aload_n 0, 1) := dk_42 (dk_at dksX2_readStatement_7 15 rfl rfl)
theorem dX2_readStatement_179 : decode cX2_readStatement 179 = .ok (.aload_n 0, 1) := dk_42 (dk_at dksX2_readStatement_7 16 rfl rfl)
theorem dX2_readStatement_180 : decode cX2_readStatement 180 = .ok (.getfield 238, 3) := dk_180 0 238 (dk_at dksX2_readStatement_7 17 rfl rfl)
theorem dX2_readStatement_183 : decode cX2_readStatement 183 = .ok (.iload 4, 2) := dk_21 4 (dk_at dksX2_readStatement_7 20 rfl rfl)
theorem dX2_readStatement_185 : decode cX2_readStatement 185 = .ok (.iaload, 1) := dk_46 (dk_at dksX2_readStatement_7 22 rfl rfl)
theorem dX2_readStatement_186 : decode cX2_readStatement 186 = .ok (.iload 5, 2) := dk_21 5 (dk_at dksX2_readStatement_8 0 rfl rfl)
theorem dX2_readStatement_188 : decode cX2_readStatement 188 = .ok (.invokevirtual 803, 3) := dk_182 3 35 (dk_at dksX2_readStatement_8 2 rfl rfl)
theorem dX2_readStatement_191 : decode cX2_readStatement 191 = .ok (.aload_n 0, 1) := dk_42 (dk_at dksX2_readStatement_8 5 rfl rfl)
theorem dX2_readStatement_192 : decode cX2_readStatement 192 = .ok (.getfield 241, 3) := dk_180 0 241 (dk_at dksX2_readStatement_8 6 rfl rfl)
theorem dX2_readStatement_195 : decode cX2_readStatement 195 = .ok (.iload 4, 2) := dk_21 4 (dk_at dksX2_readStatement_8 9 rfl rfl)
theorem dX2_readStatement_197 : decode cX2_readStatement 197 = .ok (.bipush (-2), 2) := dk_16 254 (dk_at dksX2_readStatement_8 11 rfl rfl)
theorem dX2_readStatement_199 : decode cX2_readStatement 199 = .ok (.iastore, 1) := dk_79 (dk_at dksX2_readStatement_8 13 rfl rfl)
theorem dX2_readStatement_200 : decode cX2_readStatement 200 = .ok (.goto 119, 3) := dk_167 0 119 (dk_at dksX2_readStatement_8 14 rfl rfl)
theorem dX2_readStatement_203 : decode cX2_readStatement 203 = .ok (.aload_n 0, 1) := dk_42 (dk_at dksX2_readStatement_8 17 rfl rfl)
theorem dX2_readStatement_204 : decode cX2_readStatement 204 = .ok (.getfield 238, 3) := dk_180 0 238 (dk_at dksX2_readStatement_8 18 rfl rfl)
theorem dX2_readStatement_207 : decode cX2_readStatement 207 = .ok (.iload 4, 2) := dk_21 4 (dk_at dksX2_readStatement_8 21 rfl rfl)
theorem dX2_readStatement_209 : decode cX2_readStatement 209 = .ok (.aload_n 0, 1) := dk_42 (dk_at dksX2_readStatement_8 23 rfl rfl)
theorem dX2_readStatement_210 : decode cX2_readStatement 210 = .ok (.iload 5, 2) := dk_21 5 (dk_at dksX2_readStatement_9 0 rfl rfl)
theorem dX2_readStatement_212 : decode cX2_readStatement 212 = .ok (.iconst (-1), 1) := dk_2 (dk_at dksX2_readStatement_9 2 rfl rfl)
theorem dX2_readStatement_213 : decode cX2_readStatement 213 = .ok (.invokevirtual 800, 3) := dk_182 3 32 (dk_at dksX2_readStatement_9 3 rfl rfl)
theorem dX2_readStatement_216 : decode cX2_readStatement 216 = .ok (.iastore, 1) := dk_79 (dk_at dksX2_readStatement_9 6 rfl rfl)
theorem dX2_readStatement_217 : decode cX2_readStatement 217 = .ok (.aload_n 0, 1) := dk_42 (dk_at dksX2_readStatement_9 7 rfl rfl)
theorem dX2_readStatement_218 : decode cX2_readStatement 218 = .ok (.getfield 117, 3) := dk_180 0 117 (dk_at dksX2_readStatement_9 8 rfl rfl)
theorem dX2_readStatement_221 : decode cX2_readStatement 221 = .ok (.iload 4, 2) := dk_21 4 (dk_at dksX2_readStatement_9 11 rfl rfl)
theorem dX2_readStatement_223 : decode cX2_readStatement 223 = .ok (.iaload, 1) := dk_46 (dk_at dksX2_readStatement_9 13 rfl rfl)
theorem dX2_readStatement_224 : decode cX2_readStatement 224 = .ok (.ifCond .ne 16, 3) := dk_154 0 16 (dk_at dksX2_readStatement_9 14 rfl rfl)
theorem dX2_readStatement_227 : decode cX2_readStatement 227 = .ok (.aload_n 0, 1) := dk_42 (dk_at dksX2_readStatement_9 17 rfl rfl)
theorem dX2_readStatement_228 : decode cX2_readStatement 228 = .ok (.aload_n 0, 1) := dk_42 (dk_at dksX2_readStatement_9 18 rfl rfl)
theorem dX2_readStatement_229 : decode cX2_readStatement 229 = .ok (.getfield 238, 3) := dk_180 0 238 (dk_at dksX2_readStatement_9 19 rfl rfl)
theorem dX2_readStatement_232 : decode cX2_readStatement 232 = .ok (.iload 4, 2) := dk_21 4 (dk_at dksX2_readStatement_9 22 rfl rfl)
theorem dX2_readStatement_234 : decode cX2_readStatement 234 = .ok (.iaload, 1) := dk_46 (dk_at dksX2_readStatement_10 0 rfl rfl)
theorem dX2_readStatement_235 : decode cX2_readStatement 235 = .ok (.iload 5, 2) := dk_21 5 (dk_at dksX2_readStatement_10 1 rfl rfl)
theorem dX2_readStatement_237 : decode cX2_readStatement 237 = .ok (.invokevirtual 803, 3) := dk_182 3 35 (dk_at dksX2_readStatement_10 3 rfl rfl)
theorem dX2_readStatement_240 : decode cX2_readStatement 240 = .ok (.aload_n 0, 1) := dk_42 (dk_at dksX2_readStatement_10 6 rfl rfl)
theorem dX2_readStatement_241 : decode cX2_readStatement 241 = .ok (.getfield 241, 3) := dk_180 0 241 (dk_at dksX2_readStatement_10 7 rfl rfl)
theorem dX2_readStatement_244 : decode cX2_readStatement 244 = .ok (.iload 4, 2) := dk_21 4 (dk_at dksX2_readStatement_10 10 rfl rfl)
theorem dX2_readStatement_246 : decode cX2_readStatement 246 = .ok (.aload_n 0, 1) := dk_42 (dk_at dksX2_readStatement_10 12 rfl rfl)
theorem dX2_readStatement_247 : decode cX2_readStatement 247 = .ok (.iload 5, 2) := dk_21 5 (dk_at dksX2_readStatement_10 13 rfl rfl)
theorem dX2_readStatement_249 : decode cX2_readStatement 249 = .ok (.iconst 1, 1) := dk_4 (dk_at dksX2_readStatement_10 15 rfl rfl)
theorem dX2_readStatement_250 : decode cX2_readStatement 250 = .ok (.iadd, 1) := dk_96 (dk_at dksX2_readStatement_10 16 rfl rfl)
theorem dX2_readStatement_251 : decode cX2_readStatement 251 = .ok (.aload_n 0, 1) := dk_42 (dk_at dksX2_readStatement_10 17 rfl rfl)
theorem dX2_readStatement_252 : decode cX2_readStatement 252 = .ok (.aload_n 0, 1) := dk_42 (dk_at dksX2_readStatement_10 18 rfl rfl)
theorem dX2_readStatement_253 : decode cX2_readStatement 253 = .ok (.getfield 238, 3) := dk_180 0 238 (dk_at dksX2_readStatement_10 19 rfl rfl)
theorem dX2_readStatement_256 : decode cX2_readStatement 256 = .ok (.iload 4, 2) := dk_21 4 (dk_at dksX2_readStatement_10 22 rfl rfl)
theorem dX2_readStatement_258 : decode cX2_readStatement 258 = .ok (.iaload, 1) := dk_46 (dk_at dksX2_readStatement_11 0 rfl rfl)
theorem dX2_readStatement_259 : decode cX2_readStatement 259 = .ok (.invokevirtual 806, 3) := dk_182 3 38 (dk_at dksX2_readStatement_11 1 rfl rfl)
theorem dX2_readStatement_262 : decode cX2_readStatement 262 = .ok (.invokevirtual 800, 3) := dk_182 3 32 (dk_at dksX2_readStatement_11 4 rfl rfl)
theorem dX2_readStatement_265 : decode cX2_readStatement 265 = .ok (.iastore, 1) := dk_79 (dk_at dksX2_readStatement_11 7 rfl rfl)
theorem dX2_readStatement_266 : decode cX2_readStatement 266 = .ok (.aload_n 0, 1) := dk_42 (dk_at dksX2_readStatement_11 8 rfl rfl)
theorem dX2_readStatement_267 : decode cX2_readStatement 267 = .ok (.aload_n 0, 1) := dk_42 (dk_at dksX2_readStatement_11 9 rfl rfl)
theorem dX2_readStatement_268 : decode cX2_readStatement 268 = .ok (.getfield 241, 3) := dk_180 0 241 (dk_at dksX2_readStatement_11 10 rfl rfl)
theorem dX2_readStatement_271 : decode cX2_readStatement 271 = .ok (.iload 4, 2) := dk_21 4 (dk_at dksX2_readStatement_11 13 rfl rfl)
theorem dX2_readStatement_273 : decode cX2_readStatement 273 = .ok (.iaload, 1) := dk_46 (dk_at dksX2_readStatement_11 15 rfl rfl)
theorem dX2_readStatement_274 : decode cX2_readStatement 274 = .ok (.iload 5, 2) := dk_21 5 (dk_at dksX2_readStatement_11 16 rfl rfl)
theorem dX2_readStatement_276 : decode cX2_readStatement 276 = .ok (.iconst 1, 1) := dk_4 (dk_at dksX2_readStatement_11 18 rfl rfl)
theorem dX2_readStatement_277 : decode cX2_readStatement 277 = .ok (.iadd, 1) := dk_96 (dk_at dksX2_readStatement_11 19 rfl rfl)
theorem dX2_readStatement_278 : decode cX2_readStatement 278 = .ok (.invokevirtual 803, 3) := dk_182 3 35 (dk_at dksX2_readStatement_11 20 rfl rfl)
theorem dX2_readStatement_281 : decode cX2_readStatement 281 = .ok (.aload_n 0, 1) := dk_42 (dk_at dksX2_readStatement_11 23 rfl rfl)
theorem dX2_readStatement_282 : decode cX2_readStatement 282 = .ok (.aload_n 0, 1) := dk_42 (dk_at dksX2_readStatement_12 0 rfl rfl)
theorem dX2_readStatement_283 : decode cX2_readStatement 283 = .ok (.getfield 117, 3) := dk_180 0 117 (dk_at dksX2_readStatement_12 1 rfl rfl)
theorem dX2_readStatement_286 : decode cX2_readStatement 286 = .ok (.iload 4, 2) := dk_21 4 (dk_at dksX2_readStatement_12 4 rfl rfl)
theorem dX2_readStatement_288 : decode cX2_readStatement 288 = .ok (.iaload, 1) := dk_46 (dk_at dksX2_readStatement_12 6 rfl rfl)
theorem dX2_readStatement_289 : decode cX2_readStatement 289 = .ok (.iconst 1, 1) := dk_4 (dk_at dksX2_readStatement_12 7 rfl rfl)
theorem dX2_readStatement_290 : decode cX2_readStatement 290 = .ok (.if_icmp .ne 22, 3) := dk_160 0 22 (dk_at dksX2_readStatement_12 8 rfl rfl)
theorem dX2_readStatement_293 : decode cX2_readStatement 293 = .ok (.aload_n 0, 1) := dk_42 (dk_at dksX2_readStatement_12 11 rfl rfl)
theorem dX2_readStatement_294 : decode cX2_readStatement 294 = .ok (.getfield 794, 3) := dk_180 3 26 (dk_at dksX2_readStatement_12 12 rfl rfl)
theorem dX2_readStatement_297 : decode cX2_readStatement 297 = .ok (.aload_n 0, 1) := dk_42 (dk_at dksX2_readStatement_12 15 rfl rfl)
theorem dX2_readStatement_298 : decode cX2_readStatement 298 = .ok (.aload_n 0, 1) := dk_42 (dk_at dksX2_readStatement_12 16 rfl rfl)
theorem dX2_readStatement_299 : decode cX2_readStatement 299 = .ok (.getfield 238, 3) := dk_180 0 238 (dk_at dksX2_readStatement_12 17 rfl rfl)
theorem dX2_readStatement_302 : decode cX2_readStatement 302 = .ok (.iload 4, 2) := dk_21 4 (dk_at dksX2_readStatement_12 20 rfl rfl)
theorem dX2_readStatement_304 : decode cX2_readStatement 304 = .ok (.iaload, 1) := dk_46 (dk_at dksX2_readStatement_12 22 rfl rfl)
theorem dX2_readStatement_305 : decode cX2_readStatement 305 = .ok (.invokestatic 787, 3) := dk_184 3 19 (dk_at dksX2_readStatement_13 0 rfl rfl)
theorem dX2_readStatement_308 : decode cX2_readStatement 308 = .ok (.lor, 1) := dk_129 (dk_at dksX2_readStatement_13 3 rfl rfl)
theorem dX2_readStatement_309 : decode cX2_readStatement 309 = .ok (.goto 7, 3) := dk_167 0 7 (dk_at dksX2_readStatement_13 4 rfl rfl)
theorem dX2_readStatement_312 : decode cX2_readStatement 312 = .ok (.aload_n 0, 1) := dk_42 (dk_at dksX2_readStatement_13 7 rfl rfl)
theorem dX2_readStatement_313 : decode cX2_readStatement 313 = .ok (.getfield 794, 3) := dk_180 3 26 (dk_at dksX2_readStatement_13 8 rfl rfl)
theorem dX2_readStatement_316 : decode cX2_readStatement 316 = .ok (.putfield 794, 3) := dk_181 3 26 (dk_at dksX2_readStatement_13 11 rfl rfl)
theorem dX2_readStatement_319 : decode cX2_readStatement 319 = .ok (.iinc 3 1, 3) := dk_132 3 1 (dk_at dksX2_readStatement_13 14 rfl rfl)
theorem dX2_readStatement_322 : decode cX2_readStatement 322 = .ok (.goto (-225), 3) := dk_167 255 31 (dk_at dksX2_readStatement_13 17 rfl rfl)
theorem dX2_readStatement_325 : decode cX2_readStatement 325 = .ok (.aload_n 0, 1) := dk_42 (dk_at dksX2_readStatement_13 20 rfl rfl)
theorem dX2_readStatement_326 : decode cX2_readStatement 326 = .ok (.getfield 235, 3) := dk_180 0 235 (dk_at dksX2_readStatement_13 21 rfl rfl)
theorem dX2_readStatement_329 : decode cX2_readStatement 329 = .ok (.iload_n 1, 1) := dk_27 (dk_at dksX2_readStatement_14 0 rfl rfl)
theorem dX2_readStatement_330 : decode cX2_readStatement 330 = .ok (.aload_n 0, 1) := dk_42 (dk_at dksX2_readStatement_14 1 rfl rfl)
theorem dX2_readStatement_331 : decode cX2_readStatement 331 = .ok (.iload_n 2, 1) := dk_28 (dk_at dksX2_readStatement_14 2 rfl rfl)
theorem dX2_readStatement_332 : decode cX2_readStatement 332 = .ok (.iconst 1, 1) := dk_4 (dk_at dksX2_readStatement_14 3 rfl rfl)
theorem dX2_readStatement_333 : decode cX2_readStatement 333 = .ok (.iadd, 1) := dk_96 (dk_at dksX2_readStatement_14 4 rfl rfl)
theorem dX2_readStatement_334 : decode cX2_readStatement 334 = .ok (.aload_n 0, 1) := dk_42 (dk_at dksX2_readStatement_14 5 rfl rfl)
theorem dX2_readStatement_335 : decode cX2_readStatement 335 = .ok (.aload_n 0, 1) := dk_42 (dk_at dksX2_readStatement_14 6 rfl rfl)
theorem dX2_readStatement_336 : decode cX2_readStatement 336 = .ok (.getfield 232, 3) := dk_180 0 232 (dk_at dksX2_readStatement_14 7 rfl rfl)
theorem dX2_readStatement_339 : decode cX2_readStatement 339 = .ok (.iload_n 1, 1) := dk_27 (dk_at dksX2_readStatement_14 10 rfl rfl)
theorem dX2_readStatement_340 : decode cX2_readStatement 340 = .ok (.iaload, 1) := dk_46 (dk_at dksX2_readStatement_14 11 rfl rfl)
theorem dX2_readStatement_341 : decode cX2_readStatement 341 = .ok (.invokevirtual 806, 3) := dk_182 3 38 (dk_at dksX2_readStatement_14 12 rfl rfl)
theorem dX2_readStatement_344 : decode cX2_readStatement 344 = .ok (.invokevirtual 800, 3) := dk_182 3 32 (dk_at dksX2_readStatement_14 15 rfl rfl)
theorem dX2_readStatement_347 : decode cX2_readStatement 347 = .ok (.iastore, 1) := dk_79 (dk_at dksX2_readStatement_14 18 rfl rfl)
theorem dX2_readStatement_348 : decode cX2_readStatement 348 = .ok (.aload_n 0, 1) := dk_42 (dk_at dksX2_readStatement_14 19 rfl rfl)
theorem dX2_readStatement_349 : decode cX2_readStatement 349 = .ok (.aload_n 0, 1) := dk_42 (dk_at dksX2_readStatement_14 20 rfl rfl)
theorem dX2_readStatement_350 : decode cX2_readStatement 350 = .ok (.getfield 235, 3) := dk_180 0 235 (dk_at dksX2_readStatement_14 21 rfl rfl)
theorem dX2_readStatement_353 : decode cX2_readStatement 353 = .ok (.iload_n 1, 1) := dk_27 (dk_at dksX2_readStatement_15 0 rfl rfl)
theorem dX2_readStatement_354 : decode cX2_readStatement 354 = .ok (.iaload, 1) := dk_46 (dk_at dksX2_readStatement_15 1 rfl rfl)
theorem dX2_readStatement_355 : decode cX2_readStatement 355 = .ok (.iload_n 2, 1) := dk_28 (dk_at dksX2_readStatement_15 2 rfl rfl)
theorem dX2_readStatement_356 : decode cX2_readStatement 356 = .ok (.iconst 1, 1) := dk_4 (dk_at dksX2_readStatement_15 3 rfl rfl)
theorem dX2_readStatement_357 : decode cX2_readStatement 357 = .ok (.iadd, 1) := dk_96 (dk_at dksX2_readStatement_15 4 rfl rfl)
theorem dX2_readStatement_358 : decode cX2_readStatement 358 = .ok (.invokevirtual 803, 3) := dk_182 3 35 (dk_at dksX2_readStatement_15 5 rfl rfl)
theorem dX2_readStatement_361 : decode cX2_readStatement 361 = .ok (.return_, 1) := dk_177 (dk_at dksX2_readStatement_15 8 rfl rfl)
