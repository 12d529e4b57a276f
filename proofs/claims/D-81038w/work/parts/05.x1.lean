/-! RewriteHouse -/
set_option maxRecDepth 100000
def RX0 : String := "RewriteHouse"
def TX0 : u_T := fun k => match k with
  | 0 => ("RewriteHouse", "halt", "LRewriteHouse$Stop;", true)
  | 1 => ("RewriteHouse", "tape", "[B", true)
  | 2 => ("RewriteHouse", "taped", "I", false)
  | 3 => ("RewriteHouse", "text", "[B", true)
  | 4 => ("RewriteHouse", "size", "I", false)
  | 5 => ("RewriteHouse", "words", "I", false)
  | 6 => ("RewriteHouse", "wordKind", "[I", true)
  | 7 => ("RewriteHouse", "wordFrom", "[I", true)
  | 8 => ("RewriteHouse", "wordTo", "[I", true)
  | 9 => ("RewriteHouse", "wordId", "[I", true)
  | 10 => ("RewriteHouse", "letters", "[B", true)
  | 11 => ("RewriteHouse", "letterCount", "I", false)
  | 12 => ("RewriteHouse", "ids", "I", false)
  | 13 => ("RewriteHouse", "idFrom", "[I", true)
  | 14 => ("RewriteHouse", "idTo", "[I", true)
  | 15 => ("RewriteHouse", "moduleIds", "I", false)
  | 16 => ("RewriteHouse", "moduleLetters", "I", false)
  | 17 => ("RewriteHouse", "now", "I", false)
  | 18 => ("RewriteHouse", "faultPlace", "I", false)
  | 19 => ("RewriteHouse", "faultLine", "I", false)
  | 20 => ("RewriteHouse", "faultNumber", "I", false)
  | 21 => ("RewriteHouse", "limit", "I", false)
  | 22 => ("RewriteHouse", "sorts", "I", false)
  | 23 => ("RewriteHouse", "sortWord", "[I", true)
  | 24 => ("RewriteHouse", "lessers", "I", false)
  | 25 => ("RewriteHouse", "lessAt", "[I", true)
  | 26 => ("RewriteHouse", "lessLeft", "[I", true)
  | 27 => ("RewriteHouse", "lessRight", "[I", true)
  | 28 => ("RewriteHouse", "lessEnd", "[I", true)
  | 29 => ("RewriteHouse", "rows", "I", false)
  | 30 => ("RewriteHouse", "rowAt", "[I", true)
  | 31 => ("RewriteHouse", "rowForm", "[I", true)
  | 32 => ("RewriteHouse", "rowColon", "[I", true)
  | 33 => ("RewriteHouse", "rowArrow", "[I", true)
  | 34 => ("RewriteHouse", "rowBits", "[I", true)
  | 35 => ("RewriteHouse", "rowId", "[I", true)
  | 36 => ("RewriteHouse", "rowPrec", "[I", true)
  | 37 => ("RewriteHouse", "rowGather", "[I", true)
  | 38 => ("RewriteHouse", "rowLetters", "[I", true)
  | 39 => ("RewriteHouse", "variables", "I", false)
  | 40 => ("RewriteHouse", "variableWord", "[I", true)
  | 41 => ("RewriteHouse", "variableSortWord", "[I", true)
  | 42 => ("RewriteHouse", "equations", "I", false)
  | 43 => ("RewriteHouse", "rules", "I", false)
  | 44 => ("RewriteHouse", "statements", "I", false)
  | 45 => ("RewriteHouse", "statementOf", "[I", true)
  | 46 => ("RewriteHouse", "isOther", "[Z", true)
  | 47 => ("RewriteHouse", "label", "[I", true)
  | 48 => ("RewriteHouse", "leftFrom", "[I", true)
  | 49 => ("RewriteHouse", "leftTo", "[I", true)
  | 50 => ("RewriteHouse", "rightFrom", "[I", true)
  | 51 => ("RewriteHouse", "rightTo", "[I", true)
  | 52 => ("RewriteHouse", "conditions", "[I", true)
  | 53 => ("RewriteHouse", "conditionSort", "[I", true)
  | 54 => ("RewriteHouse", "conditionFrom", "[I", true)
  | 55 => ("RewriteHouse", "conditionTo", "[I", true)
  | 56 => ("RewriteHouse", "otherFrom", "[I", true)
  | 57 => ("RewriteHouse", "otherTo", "[I", true)
  | 58 => ("RewriteHouse", "hasModule", "Z", false)
  | 59 => ("RewriteHouse", "sortId", "[I", true)
  | 60 => ("RewriteHouse", "aboves", "[I", true)
  | 61 => ("RewriteHouse", "kinds", "I", false)
  | 62 => ("RewriteHouse", "kindOf", "[I", true)
  | 63 => ("RewriteHouse", "operators", "I", false)
  | 64 => ("RewriteHouse", "operatorOf", "[I", true)
  | 65 => ("RewriteHouse", "rowSorts", "[I", true)
  | 66 => ("RewriteHouse", "rowHoles", "[I", true)
  | 67 => ("RewriteHouse", "rowResult", "[I", true)
  | 68 => ("RewriteHouse", "rowParts", "[I", true)
  | 69 => ("RewriteHouse", "rowPart", "[I", true)
  | 70 => ("RewriteHouse", "isRowGood", "[Z", true)
  | 71 => ("RewriteHouse", "firstRow", "[I", true)
  | 72 => ("RewriteHouse", "holes", "[I", true)
  | 73 => ("RewriteHouse", "strength", "[I", true)
  | 74 => ("RewriteHouse", "takes", "[I", true)
  | 75 => ("RewriteHouse", "isAssoc", "[Z", true)
  | 76 => ("RewriteHouse", "isComm", "[Z", true)
  | 77 => ("RewriteHouse", "unit", "[I", true)
  | 78 => ("RewriteHouse", "operatorKind", "[I", true)
  | 79 => ("RewriteHouse", "one", "[B", true)
  | 80 => ("RewriteHouse", "variableId", "[I", true)
  | 81 => ("RewriteHouse", "variableSort", "[I", true)
  | 82 => ("RewriteHouse", "readings", "I", false)
  | 83 => ("RewriteHouse", "readKind", "[I", true)
  | 84 => ("RewriteHouse", "readStrength", "[I", true)
  | 85 => ("RewriteHouse", "readWhat", "[I", true)
  | 86 => ("RewriteHouse", "readHole", "[I", true)
  | 87 => ("RewriteHouse", "readNext", "[I", true)
  | 88 => ("RewriteHouse", "tableFirst", "[I", true)
  | 89 => ("RewriteHouse", "rowFrom", "I", false)
  | 90 => ("RewriteHouse", "rowMany", "I", false)
  | 91 => ("RewriteHouse", "chosen", "[I", true)
  | 92 => ("RewriteHouse", "fitMany", "I", false)
  | 93 => ("RewriteHouse", "nodes", "I", false)
  | 94 => ("RewriteHouse", "base", "I", false)
  | 95 => ("RewriteHouse", "what", "[I", true)
  | 96 => ("RewriteHouse", "rowStart", "[I", true)
  | 97 => ("RewriteHouse", "many", "[I", true)
  | 98 => ("RewriteHouse", "least", "[I", true)
  | 99 => ("RewriteHouse", "big", "[I", true)
  | 100 => ("RewriteHouse", "nextSame", "[I", true)
  | 101 => ("RewriteHouse", "first", "[I", true)
  | 102 => ("RewriteHouse", "places", "I", false)
  | 103 => ("RewriteHouse", "basePlaces", "I", false)
  | 104 => ("RewriteHouse", "place", "[I", true)
  | 105 => ("RewriteHouse", "hand", "[I", true)
  | 106 => ("RewriteHouse", "top", "I", false)
  | 107 => ("RewriteHouse", "rest", "[I", true)
  | 108 => ("RewriteHouse", "sortRow", "[I", true)
  | 109 => ("RewriteHouse", "saveAt", "I", false)
  | 110 => ("RewriteHouse", "loadAt", "I", false)
  | 111 => ("RewriteHouse", "handles", "I", false)
  | 112 => ("RewriteHouse", "handle", "[I", true)
  | 113 => ("RewriteHouse", "leftTerm", "[I", true)
  | 114 => ("RewriteHouse", "rightTerm", "[I", true)
  | 115 => ("RewriteHouse", "conditionTerm", "[I", true)
  | 116 => ("RewriteHouse", "otherTerm", "[I", true)
  | 117 => ("RewriteHouse", "isKnown", "[Z", true)
  | 118 => ("RewriteHouse", "bound", "[I", true)
  | 119 => ("RewriteHouse", "goalPattern", "[I", true)
  | 120 => ("RewriteHouse", "goalTerm", "[I", true)
  | 121 => ("RewriteHouse", "goals", "I", false)
  | 122 => ("RewriteHouse", "listed", "[I", true)
  | 123 => ("RewriteHouse", "listFrom", "I", false)
  | 124 => ("RewriteHouse", "listMany", "I", false)
  | 125 => ("RewriteHouse", "aheadNow", "I", false)
  | 126 => ("RewriteHouse", "behindNow", "I", false)
  | 127 => ("RewriteHouse", "restOperator", "I", false)
  | 128 => ("RewriteHouse", "matchersMade", "I", false)
  | 129 => ("RewriteHouse", "dealsMade", "J", false)
  | 130 => ("RewriteHouse", "dealsMost", "J", false)
  | 131 => ("RewriteHouse", "stepsMade", "I", false)
  | 132 => ("RewriteHouse", "filledMade", "I", false)
  | 133 => ("RewriteHouse", "element", "[I", true)
  | 134 => ("RewriteHouse", "elements", "I", false)
  | 135 => ("RewriteHouse", "sharePart", "[I", true)
  | 136 => ("RewriteHouse", "shareFrom", "[I", true)
  | 137 => ("RewriteHouse", "shareLeft", "[I", true)
  | 138 => ("RewriteHouse", "shares", "I", false)
  | 139 => ("RewriteHouse", "deep", "I", false)
  | 140 => ("RewriteHouse", "chain", "[I", true)
  | 141 => ("RewriteHouse", "chained", "I", false)
  | 142 => ("RewriteHouse", "saved", "[I", true)
  | 143 => ("RewriteHouse", "savedTop", "I", false)
  | 144 => ("RewriteHouse", "found", "[I", true)
  | 145 => ("RewriteHouse", "foundRule", "[I", true)
  | 146 => ("RewriteHouse", "foundMany", "I", false)
  | 147 => ("RewriteHouse", "path", "[I", true)
  | 148 => ("RewriteHouse", "pathAt", "[I", true)
  | 149 => ("RewriteHouse", "pathMany", "I", false)
  | 150 => ("RewriteHouse", "labelWanted", "I", false)
  | 151 => ("RewriteHouse", "lastStop", "I", false)
  | 152 => ("RewriteHouse", "resultSort", "I", false)
  | 153 => ("RewriteHouse", "results", "I", false)
  | 154 => ("RewriteHouse", "result", "[I", true)
  | 155 => ("RewriteHouse", "resultFrom", "[I", true)
  | 156 => ("RewriteHouse", "resultRule", "[I", true)
  | 157 => ("RewriteHouse", "resultFar", "[I", true)
  | 158 => ("RewriteHouse", "edgeFrom", "[I", true)
  | 159 => ("RewriteHouse", "edge", "[I", true)
  | 160 => ("RewriteHouse", "matched", "[I", true)
  | 161 => ("RewriteHouse", "matchedWithin", "Z", false)
  | 162 => ("RewriteHouse", "stepsTold", "I", false)
  | 163 => ("RewriteHouse", "printed", "I", false)
  | 164 => ("RewriteHouse", "printWanted", "I", false)
  | 165 => ("RewriteHouse", "printFound", "I", false)
  | 166 => ("RewriteHouse", "hasRules", "Z", false)
  | 167 => ("RewriteHouse", "state", "[I", true)
  | 168 => ("RewriteHouse", "newFrom", "[I", true)
  | 169 => ("RewriteHouse", "newRule", "[I", true)
  | 170 => ("RewriteHouse", "newFar", "[I", true)
  | 171 => ("RewriteHouse", "newEdgeFrom", "[I", true)
  | 172 => ("RewriteHouse", "newEdge", "[I", true)
  | 173 => ("RewriteHouse", "isP", "[Z", true)
  | 174 => ("RewriteHouse", "isQ", "[Z", true)
  | 175 => ("RewriteHouse", "mark", "[I", true)
  | 176 => ("RewriteHouse", "walk", "[I", true)
  | 177 => ("RewriteHouse", "walkAt", "[I", true)
  | 178 => ("RewriteHouse", "zSort", "[I", true)
  | 179 => ("RewriteHouse", "zLeft", "[I", true)
  | 180 => ("RewriteHouse", "zRight", "[I", true)
  | 181 => ("RewriteHouse", "zNodes", "I", false)
  | 182 => ("RewriteHouse", "answer", "[I", true)
  | 183 => ("RewriteHouse", "failed", "[I", true)
  | 184 => ("RewriteHouse", "failedMany", "I", false)
  | 185 => ("RewriteHouse", "askedLeft", "[I", true)
  | 186 => ("RewriteHouse", "askedRight", "[I", true)
  | 187 => ("RewriteHouse", "askedIs", "[B", true)
  | 188 => ("RewriteHouse", "asked", "I", false)
  | 189 => ("RewriteHouse", "given", "[I", true)
  | 190 => ("RewriteHouse", "pairsAll", "I", false)
  | 191 => ("RewriteHouse", "pairsUnlike", "I", false)
  | 192 => ("RewriteHouse", "pairsOpen", "I", false)
  | 193 => ("RewriteHouse", "pairWanted", "I", false)
  | 194 => ("RewriteHouse", "pairSaved", "[I", true)
  | 195 => ("RewriteHouse", "pairFirst", "I", false)
  | 196 => ("RewriteHouse", "pairSecond", "I", false)
  | 197 => ("RewriteHouse", "rightOther", "I", false)
  | 198 => ("RewriteHouse", "rightNow", "I", false)
  | 199 => ("RewriteHouse", "looked", "I", false)
  | 200 => ("RewriteHouse", "firstNow", "I", false)
  | _ => ("RewriteHouse", "secondNow", "I", false)
def tyX0 : Nat → FieldType := fun k => match k with
  | 0 => .object "RewriteHouse$Stop"
  | 1 => .array .byte
  | 2 => .int
  | 3 => .array .byte
  | 4 => .int
  | 5 => .int
  | 6 => .array .int
  | 7 => .array .int
  | 8 => .array .int
  | 9 => .array .int
  | 10 => .array .byte
  | 11 => .int
  | 12 => .int
  | 13 => .array .int
  | 14 => .array .int
  | 15 => .int
  | 16 => .int
  | 17 => .int
  | 18 => .int
  | 19 => .int
  | 20 => .int
  | 21 => .int
  | 22 => .int
  | 23 => .array .int
  | 24 => .int
  | 25 => .array .int
  | 26 => .array .int
  | 27 => .array .int
  | 28 => .array .int
  | 29 => .int
  | 30 => .array .int
  | 31 => .array .int
  | 32 => .array .int
  | 33 => .array .int
  | 34 => .array .int
  | 35 => .array .int
  | 36 => .array .int
  | 37 => .array .int
  | 38 => .array .int
  | 39 => .int
  | 40 => .array .int
  | 41 => .array .int
  | 42 => .int
  | 43 => .int
  | 44 => .int
  | 45 => .array .int
  | 46 => .array .boolean
  | 47 => .array .int
  | 48 => .array .int
  | 49 => .array .int
  | 50 => .array .int
  | 51 => .array .int
  | 52 => .array .int
  | 53 => .array .int
  | 54 => .array .int
  | 55 => .array .int
  | 56 => .array .int
  | 57 => .array .int
  | 58 => .boolean
  | 59 => .array .int
  | 60 => .array .int
  | 61 => .int
  | 62 => .array .int
  | 63 => .int
  | 64 => .array .int
  | 65 => .array .int
  | 66 => .array .int
  | 67 => .array .int
  | 68 => .array .int
  | 69 => .array .int
  | 70 => .array .boolean
  | 71 => .array .int
  | 72 => .array .int
  | 73 => .array .int
  | 74 => .array .int
  | 75 => .array .boolean
  | 76 => .array .boolean
  | 77 => .array .int
  | 78 => .array .int
  | 79 => .array .byte
  | 80 => .array .int
  | 81 => .array .int
  | 82 => .int
  | 83 => .array .int
  | 84 => .array .int
  | 85 => .array .int
  | 86 => .array .int
  | 87 => .array .int
  | 88 => .array .int
  | 89 => .int
  | 90 => .int
  | 91 => .array .int
  | 92 => .int
  | 93 => .int
  | 94 => .int
  | 95 => .array .int
  | 96 => .array .int
  | 97 => .array .int
  | 98 => .array .int
  | 99 => .array .int
  | 100 => .array .int
  | 101 => .array .int
  | 102 => .int
  | 103 => .int
  | 104 => .array .int
  | 105 => .array .int
  | 106 => .int
  | 107 => .array .int
  | 108 => .array .int
  | 109 => .int
  | 110 => .int
  | 111 => .int
  | 112 => .array .int
  | 113 => .array .int
  | 114 => .array .int
  | 115 => .array .int
  | 116 => .array .int
  | 117 => .array .boolean
  | 118 => .array .int
  | 119 => .array .int
  | 120 => .array .int
  | 121 => .int
  | 122 => .array .int
  | 123 => .int
  | 124 => .int
  | 125 => .int
  | 126 => .int
  | 127 => .int
  | 128 => .int
  | 129 => .long
  | 130 => .long
  | 131 => .int
  | 132 => .int
  | 133 => .array .int
  | 134 => .int
  | 135 => .array .int
  | 136 => .array .int
  | 137 => .array .int
  | 138 => .int
  | 139 => .int
  | 140 => .array .int
  | 141 => .int
  | 142 => .array .int
  | 143 => .int
  | 144 => .array .int
  | 145 => .array .int
  | 146 => .int
  | 147 => .array .int
  | 148 => .array .int
  | 149 => .int
  | 150 => .int
  | 151 => .int
  | 152 => .int
  | 153 => .int
  | 154 => .array .int
  | 155 => .array .int
  | 156 => .array .int
  | 157 => .array .int
  | 158 => .array .int
  | 159 => .array .int
  | 160 => .array .int
  | 161 => .boolean
  | 162 => .int
  | 163 => .int
  | 164 => .int
  | 165 => .int
  | 166 => .boolean
  | 167 => .array .int
  | 168 => .array .int
  | 169 => .array .int
  | 170 => .array .int
  | 171 => .array .int
  | 172 => .array .int
  | 173 => .array .boolean
  | 174 => .array .boolean
  | 175 => .array .int
  | 176 => .array .int
  | 177 => .array .int
  | 178 => .array .int
  | 179 => .array .int
  | 180 => .array .int
  | 181 => .int
  | 182 => .array .int
  | 183 => .array .int
  | 184 => .int
  | 185 => .array .int
  | 186 => .array .int
  | 187 => .array .byte
  | 188 => .int
  | 189 => .array .int
  | 190 => .int
  | 191 => .int
  | 192 => .int
  | 193 => .int
  | 194 => .array .int
  | 195 => .int
  | 196 => .int
  | 197 => .int
  | 198 => .int
  | 199 => .int
  | 200 => .int
  | _ => .int
abbrev wsX00 : List Cond := u_ws RX0 TX0 202
set_option maxRecDepth 100000 in
theorem nmX0 : ∀ a, a < 202 → ∀ b, b < 202 → a ≠ b → (TX0 a).2.1 ≠ (TX0 b).2.1 := by decide +kernel
set_option maxRecDepth 100000 in
theorem tyX0_ok : ∀ k, k < 202 → parseFieldDescriptor (TX0 k).2.2.1 = some (tyX0 k) := by decide +kernel
abbrev cX0_feed : ByteArray := prog_1_method_3_code
def yX0_feed : MethodName := ⟨RX0, "feed", "(IIIII)I"⟩
def dkwX0_feed_4 : List UInt8 := [16, 8, 21, 6, 7, 112, 104, 100, 122, 145, 84, 132, 6, 1, 167, 255, 168, 42, 180, 0, 13, 172]
abbrev dktX0_feed_4 : List UInt8 := dkwX0_feed_4 ++ []
def dkwX0_feed_3 : List UInt8 := [21, 5, 54, 7, 42, 180, 0, 16, 42, 89, 180, 0, 13, 90, 4, 96, 181, 0, 13, 21, 7, 16, 24]
abbrev dktX0_feed_3 : List UInt8 := dkwX0_feed_3 ++ dktX0_feed_4
def dkwX0_feed_2 : List UInt8 := [21, 6, 16, 12, 162, 0, 7, 29, 167, 0, 17, 21, 6, 16, 16, 162, 0, 8, 21, 4, 167, 0, 5]
abbrev dktX0_feed_2 : List UInt8 := dkwX0_feed_2 ++ dktX0_feed_3
def dkwX0_feed_1 : List UInt8 := [162, 0, 87, 21, 6, 7, 162, 0, 7, 27, 167, 0, 39, 21, 6, 16, 8, 162, 0, 7, 28, 167, 0, 28]
abbrev dktX0_feed_1 : List UInt8 := dkwX0_feed_1 ++ dktX0_feed_2
def dkwX0_feed_0 : List UInt8 := [42, 180, 0, 13, 16, 20, 96, 17, 23, 112, 164, 0, 6, 16, 253, 172, 3, 54, 6, 21, 6, 16, 20]
abbrev dktX0_feed_0 : List UInt8 := dkwX0_feed_0 ++ dktX0_feed_1
theorem dksX0_feed_0 : cX0_feed.data.toList.drop 0 = dktX0_feed_0 := by decide +kernel
theorem dksX0_feed_1 : cX0_feed.data.toList.drop 23 = dktX0_feed_1 := dk_seg dksX0_feed_0 23 rfl rfl
theorem dksX0_feed_2 : cX0_feed.data.toList.drop 47 = dktX0_feed_2 := dk_seg dksX0_feed_1 24 rfl rfl
theorem dksX0_feed_3 : cX0_feed.data.toList.drop 70 = dktX0_feed_3 := dk_seg dksX0_feed_2 23 rfl rfl
theorem dksX0_feed_4 : cX0_feed.data.toList.drop 93 = dktX0_feed_4 := dk_seg dksX0_feed_3 23 rfl rfl
theorem dX0_feed_0 : decode cX0_feed 0 = .ok (.aload_n 0, 1) := dk_42 (dk_at dksX0_feed_0 0 rfl rfl)
theorem dX0_feed_1 : decode cX0_feed 1 = .ok (.getfield 13, 3) := dk_180 0 13 (dk_at dksX0_feed_0 1 rfl rfl)
theorem dX0_feed_4 : decode cX0_feed 4 = .ok (.bipush 20, 2) := dk_16 20 (dk_at dksX0_feed_0 4 rfl rfl)
theorem dX0_feed_6 : decode cX0_feed 6 = .ok (.iadd, 1) := dk_96 (dk_at dksX0_feed_0 6 rfl rfl)
theorem dX0_feed_7 : decode cX0_feed 7 = .ok (.sipush 6000, 3) := dk_17 23 112 (dk_at dksX0_feed_0 7 rfl rfl)
theorem dX0_feed_10 : decode cX0_feed 10 = .ok (.if_icmp .le 6, 3) := dk_164 0 6 (dk_at dksX0_feed_0 10 rfl rfl)
theorem dX0_feed_13 : decode cX0_feed 13 = .ok (.bipush (-3), 2) := dk_16 253 (dk_at dksX0_feed_0 13 rfl rfl)
theorem dX0_feed_15 : decode cX0_feed 15 = .ok (.ireturn, 1) := dk_172 (dk_at dksX0_feed_0 15 rfl rfl)
theorem dX0_feed_16 : decode cX0_feed 16 = .ok (.iconst 0, 1) := dk_3 (dk_at dksX0_feed_0 16 rfl rfl)
theorem dX0_feed_17 : decode cX0_feed 17 = .ok (.istore 6, 2) := dk_54 6 (dk_at dksX0_feed_0 17 rfl rfl)
theorem dX0_feed_19 : decode cX0_feed 19 = .ok (.iload 6, 2) := dk_21 6 (dk_at dksX0_feed_0 19 rfl rfl)
theorem dX0_feed_21 : decode cX0_feed 21 = .ok (.bipush 20, 2) := dk_16 20 (dk_at dksX0_feed_0 21 rfl rfl)
theorem dX0_feed_23 : decode cX0_feed 23 = .ok (.if_icmp .ge 87, 3) := dk_162 0 87 (dk_at dksX0_feed_1 0 rfl rfl)
theorem dX0_feed_26 : decode cX0_feed 26 = .ok (.iload 6, 2) := dk_21 6 (dk_at dksX0_feed_1 3 rfl rfl)
theorem dX0_feed_28 : decode cX0_feed 28 = .ok (.iconst 4, 1) := dk_7 (dk_at dksX0_feed_1 5 rfl rfl)
theorem dX0_feed_29 : decode cX0_feed 29 = .ok (.if_icmp .ge 7, 3) := dk_162 0 7 (dk_at dksX0_feed_1 6 rfl rfl)
theorem dX0_feed_32 : decode cX0_feed 32 = .ok (.iload_n 1, 1) := dk_27 (dk_at dksX0_feed_1 9 rfl rfl)
theorem dX0_feed_33 : decode cX0_feed 33 = .ok (.goto 39, 3) := dk_167 0 39 (dk_at dksX0_feed_1 10 rfl rfl)
theorem dX0_feed_36 : decode cX0_feed 36 = .ok (.iload 6, 2) := dk_21 6 (dk_at dksX0_feed_1 13 rfl rfl)
theorem dX0_feed_38 : decode cX0_feed 38 = .ok (.bipush 8, 2) := dk_16 8 (dk_at dksX0_feed_1 15 rfl rfl)
theorem dX0_feed_40 : decode cX0_feed 40 = .ok (.if_icmp .ge 7, 3) := dk_162 0 7 (dk_at dksX0_feed_1 17 rfl rfl)
theorem dX0_feed_43 : decode cX0_feed 43 = .ok (.iload_n 2, 1) := dk_28 (dk_at dksX0_feed_1 20 rfl rfl)
theorem dX0_feed_44 : decode cX0_feed 44 = .ok (.goto 28, 3) := dk_167 0 28 (dk_at dksX0_feed_1 21 rfl rfl)
theorem dX0_feed_47 : decode cX0_feed 47 = .ok (.iload 6, 2) := dk_21 6 (dk_at dksX0_feed_2 0 rfl rfl)
theorem dX0_feed_49 : decode cX0_feed 49 = .ok (.bipush 12, 2) := dk_16 12 (dk_at dksX0_feed_2 2 rfl rfl)
theorem dX0_feed_51 : decode cX0_feed 51 = .ok (.if_icmp .ge 7, 3) := dk_162 0 7 (dk_at dksX0_feed_2 4 rfl rfl)
theorem dX0_feed_54 : decode cX0_feed 54 = .ok (.iload_n 3, 1) := dk_29 (dk_at dksX0_feed_2 7 rfl rfl)
theorem dX0_feed_55 : decode cX0_feed 55 = .ok (.goto 17, 3) := dk_167 0 17 (dk_at dksX0_feed_2 8 rfl rfl)
theorem dX0_feed_58 : decode cX0_feed 58 = .ok (.iload 6, 2) := dk_21 6 (dk_at dksX0_feed_2 11 rfl rfl)
theorem dX0_feed_60 : decode cX0_feed 60 = .ok (.bipush 16, 2) := dk_16 16 (dk_at dksX0_feed_2 13 rfl rfl)
theorem dX0_feed_62 : decode cX0_feed 62 = .ok (.if_icmp .ge 8, 3) := dk_162 0 8 (dk_at dksX0_feed_2 15 rfl rfl)
theorem dX0_feed_65 : decode cX0_feed 65 = .ok (.iload 4, 2) := dk_21 4 (dk_at dksX0_feed_2 18 rfl rfl)
theorem dX0_feed_67 : decode cX0_feed 67 = .ok (.goto 5, 3) := dk_167 0 5 (dk_at dksX0_feed_2 20 rfl rfl)
theorem dX0_feed_70 : decode cX0_feed 70 = .ok (.iload 5, 2) := dk_21 5 (dk_at dksX0_feed_3 0 rfl rfl)
theorem dX0_feed_72 : decode cX0_feed 72 = .ok (.istore 7, 2) := dk_54 7 (dk_at dksX0_feed_3 2 rfl rfl)
theorem dX0_feed_74 : decode cX0_feed 74 = .ok (.aload_n 0, 1) := dk_42 (dk_at dksX0_feed_3 4 rfl rfl)
theorem dX0_feed_75 : decode cX0_feed 75 = .ok (.getfield 16, 3) := dk_180 0 16 (dk_at dksX0_feed_3 5 rfl rfl)
theorem dX0_feed_78 : decode cX0_feed 78 = .ok (.aload_n 0, 1) := dk_42 (dk_at dksX0_feed_3 8 rfl rfl)
theorem dX0_feed_79 : decode cX0_feed 79 = .ok (.dup, 1) := dk_89 (dk_at dksX0_feed_3 9 rfl rfl)
theorem dX0_feed_80 : decode cX0_feed 80 = .ok (.getfield 13, 3) := dk_180 0 13 (dk_at dksX0_feed_3 10 rfl rfl)
theorem dX0_feed_83 : decode cX0_feed 83 = .ok (.dup_x1, 1) := dk_90 (dk_at dksX0_feed_3 13 rfl rfl)
theorem dX0_feed_84 : decode cX0_feed 84 = .ok (.iconst 1, 1) := dk_4 (dk_at dksX0_feed_3 14 rfl rfl)
theorem dX0_feed_85 : decode cX0_feed 85 = .ok (.iadd, 1) := dk_96 (dk_at dksX0_feed_3 15 rfl rfl)
theorem dX0_feed_86 : decode cX0_feed 86 = .ok (.putfield 13, 3) := dk_181 0 13 (dk_at dksX0_feed_3 16 rfl rfl)
theorem dX0_feed_89 : decode cX0_feed 89 = .ok (.iload 7, 2) := dk_21 7 (dk_at dksX0_feed_3 19 rfl rfl)
theorem dX0_feed_91 : decode cX0_feed 91 = .ok (.bipush 24, 2) := dk_16 24 (dk_at dksX0_feed_3 21 rfl rfl)
theorem dX0_feed_93 : decode cX0_feed 93 = .ok (.bipush 8, 2) := dk_16 8 (dk_at dksX0_feed_4 0 rfl rfl)
theorem dX0_feed_95 : decode cX0_feed 95 = .ok (.iload 6, 2) := dk_21 6 (dk_at dksX0_feed_4 2 rfl rfl)
theorem dX0_feed_97 : decode cX0_feed 97 = .ok (.iconst 4, 1) := dk_7 (dk_at dksX0_feed_4 4 rfl rfl)
theorem dX0_feed_98 : decode cX0_feed 98 = .ok (.irem, 1) := dk_112 (dk_at dksX0_feed_4 5 rfl rfl)
theorem dX0_feed_99 : decode cX0_feed 99 = .ok (.imul, 1) := dk_104 (dk_at dksX0_feed_4 6 rfl rfl)
theorem dX0_feed_100 : decode cX0_feed 100 = .ok (.isub, 1) := dk_100 (dk_at dksX0_feed_4 7 rfl rfl)
theorem dX0_feed_101 : decode cX0_feed 101 = .ok (.ishr, 1) := dk_122 (dk_at dksX0_feed_4 8 rfl rfl)
theorem dX0_feed_102 : decode cX0_feed 102 = .ok (.i2b, 1) := dk_145 (dk_at dksX0_feed_4 9 rfl rfl)
theorem dX0_feed_103 : decode cX0_feed 103 = .ok (.bastore, 1) := dk_84 (dk_at dksX0_feed_4 10 rfl rfl)
theorem dX0_feed_104 : decode cX0_feed 104 = .ok (.iinc 6 1, 3) := dk_132 6 1 (dk_at dksX0_feed_4 11 rfl rfl)
theorem dX0_feed_107 : decode cX0_feed 107 = .ok (.goto (-88), 3) := dk_167 255 168 (dk_at dksX0_feed_4 14 rfl rfl)
theorem dX0_feed_110 : decode cX0_feed 110 = .ok (.aload_n 0, 1) := dk_42 (dk_at dksX0_feed_4 17 rfl rfl)
theorem dX0_feed_111 : decode cX0_feed 111 = .ok (.getfield 13, 3) := dk_180 0 13 (dk_at dksX0_feed_4 18 rfl rfl)
theorem dX0_feed_114 : decode cX0_feed 114 = .ok (.ireturn, 1) := dk_172 (dk_at dksX0_feed_4 21 rfl rfl)
abbrev cX0_end : ByteArray := prog_1_method_4_code
def yX0_end : MethodName := ⟨RX0, "end", "(I)I"⟩
def dkwX0_end_1 : List UInt8 := [180, 0, 13, 27, 16, 20, 100, 96, 181, 0, 13, 42, 180, 0, 13, 172]
abbrev dktX0_end_1 : List UInt8 := dkwX0_end_1 ++ []
def dkwX0_end_0 : List UInt8 := [27, 3, 16, 20, 184, 0, 20, 153, 0, 12, 42, 180, 0, 13, 16, 20, 162, 0, 5, 2, 172, 42, 89]
abbrev dktX0_end_0 : List UInt8 := dkwX0_end_0 ++ dktX0_end_1
theorem dksX0_end_0 : cX0_end.data.toList.drop 0 = dktX0_end_0 := by decide +kernel
theorem dksX0_end_1 : cX0_end.data.toList.drop 23 = dktX0_end_1 := dk_seg dksX0_end_0 23 rfl rfl
theorem dX0_end_0 : decode cX0_end 0 = .ok (.iload_n 1, 1) := dk_27 (dk_at dksX0_end_0 0 rfl rfl)
theorem dX0_end_1 : decode cX0_end 1 = .ok (.iconst 0, 1) := dk_3 (dk_at dksX0_end_0 1 rfl rfl)
theorem dX0_end_2 : decode cX0_end 2 = .ok (.bipush 20, 2) := dk_16 20 (dk_at dksX0_end_0 2 rfl rfl)
theorem dX0_end_4 : decode cX0_end 4 = .ok (.invokestatic 20, 3) := dk_184 0 20 (dk_at dksX0_end_0 4 rfl rfl)
theorem dX0_end_7 : decode cX0_end 7 = .ok (.ifCond .eq 12, 3) := dk_153 0 12 (dk_at dksX0_end_0 7 rfl rfl)
theorem dX0_end_10 : decode cX0_end 10 = .ok (.aload_n 0, 1) := dk_42 (dk_at dksX0_end_0 10 rfl rfl)
theorem dX0_end_11 : decode cX0_end 11 = .ok (.getfield 13, 3) := dk_180 0 13 (dk_at dksX0_end_0 11 rfl rfl)
theorem dX0_end_14 : decode cX0_end 14 = .ok (.bipush 20, 2) := dk_16 20 (dk_at dksX0_end_0 14 rfl rfl)
theorem dX0_end_16 : decode cX0_end 16 = .ok (.if_icmp .ge 5, 3) := dk_162 0 5 (dk_at dksX0_end_0 16 rfl rfl)
theorem dX0_end_19 : decode cX0_end 19 = .ok (.iconst (-1), 1) := dk_2 (dk_at dksX0_end_0 19 rfl rfl)
theorem dX0_end_20 : decode cX0_end 20 = .ok (.ireturn, 1) := dk_172 (dk_at dksX0_end_0 20 rfl rfl)
theorem dX0_end_21 : decode cX0_end 21 = .ok (.aload_n 0, 1) := dk_42 (dk_at dksX0_end_0 21 rfl rfl)
theorem dX0_end_22 : decode cX0_end 22 = .ok (.dup, 1) := dk_89 (dk_at dksX0_end_0 22 rfl rfl)
theorem dX0_end_23 : decode cX0_end 23 = .ok (.getfield 13, 3) := dk_180 0 13 (dk_at dksX0_end_1 0 rfl rfl)
theorem dX0_end_26 : decode cX0_end 26 = .ok (.iload_n 1, 1) := dk_27 (dk_at dksX0_end_1 3 rfl rfl)
theorem dX0_end_27 : decode cX0_end 27 = .ok (.bipush 20, 2) := dk_16 20 (dk_at dksX0_end_1 4 rfl rfl)
theorem dX0_end_29 : decode cX0_end 29 = .ok (.isub, 1) := dk_100 (dk_at dksX0_end_1 6 rfl rfl)
theorem dX0_end_30 : decode cX0_end 30 = .ok (.iadd, 1) := dk_96 (dk_at dksX0_end_1 7 rfl rfl)
theorem dX0_end_31 : decode cX0_end 31 = .ok (.putfield 13, 3) := dk_181 0 13 (dk_at dksX0_end_1 8 rfl rfl)
theorem dX0_end_34 : decode cX0_end 34 = .ok (.aload_n 0, 1) := dk_42 (dk_at dksX0_end_1 11 rfl rfl)
theorem dX0_end_35 : decode cX0_end 35 = .ok (.getfield 13, 3) := dk_180 0 13 (dk_at dksX0_end_1 12 rfl rfl)
theorem dX0_end_38 : decode cX0_end 38 = .ok (.ireturn, 1) := dk_172 (dk_at dksX0_end_1 15 rfl rfl)
abbrev cX0_within : ByteArray := prog_1_method_2_code
def yX0_within : MethodName := ⟨RX0, "within", "(III)Z"⟩
def dkwX0_within_0 : List UInt8 := [26, 27, 161, 0, 12, 26, 28, 163, 0, 7, 4, 167, 0, 4, 3, 172]
abbrev dktX0_within_0 : List UInt8 := dkwX0_within_0 ++ []
theorem dksX0_within_0 : cX0_within.data.toList.drop 0 = dktX0_within_0 := by decide +kernel
theorem dX0_within_0 : decode cX0_within 0 = .ok (.iload_n 0, 1) := dk_26 (dk_at dksX0_within_0 0 rfl rfl)
theorem dX0_within_1 : decode cX0_within 1 = .ok (.iload_n 1, 1) := dk_27 (dk_at dksX0_within_0 1 rfl rfl)
theorem dX0_within_2 : decode cX0_within 2 = .ok (.if_icmp .lt 12, 3) := dk_161 0 12 (dk_at dksX0_within_0 2 rfl rfl)
theorem dX0_within_5 : decode cX0_within 5 = .ok (.iload_n 0, 1) := dk_26 (dk_at dksX0_within_0 5 rfl rfl)
theorem dX0_within_6 : decode cX0_within 6 = .ok (.iload_n 2, 1) := dk_28 (dk_at dksX0_within_0 6 rfl rfl)
theorem dX0_within_7 : decode cX0_within 7 = .ok (.if_icmp .gt 7, 3) := dk_163 0 7 (dk_at dksX0_within_0 7 rfl rfl)
theorem dX0_within_10 : decode cX0_within 10 = .ok (.iconst 1, 1) := dk_4 (dk_at dksX0_within_0 10 rfl rfl)
theorem dX0_within_11 : decode cX0_within 11 = .ok (.goto 4, 3) := dk_167 0 4 (dk_at dksX0_within_0 11 rfl rfl)
theorem dX0_within_14 : decode cX0_within 14 = .ok (.iconst 0, 1) := dk_3 (dk_at dksX0_within_0 14 rfl rfl)
theorem dX0_within_15 : decode cX0_within 15 = .ok (.ireturn, 1) := dk_172 (dk_at dksX0_within_0 15 rfl rfl)
abbrev cX0_module : ByteArray := prog_1_method_100_code
def yX0_module : MethodName := ⟨RX0, "module", "()I"⟩
def dkwX0_module_5 : List UInt8 := [181, 0, 206, 42, 4, 181, 0, 193, 42, 180, 0, 166, 172]
abbrev dktX0_module_5 : List UInt8 := dkwX0_module_5 ++ []
def dkwX0_module_4 : List UInt8 := [42, 182, 2, 207, 16, 246, 27, 100, 172, 42, 42, 180, 0, 200, 181, 0, 197, 42, 42, 180, 0, 203]
abbrev dktX0_module_4 : List UInt8 := dkwX0_module_4 ++ dktX0_module_5
def dkwX0_module_3 : List UInt8 := [28, 46, 182, 2, 219, 60, 132, 2, 1, 167, 255, 230, 42, 180, 0, 36, 158, 0, 17, 42, 180, 0, 36, 60]
abbrev dktX0_module_3 : List UInt8 := dkwX0_module_3 ++ dktX0_module_4
def dkwX0_module_2 : List UInt8 := [181, 0, 175, 4, 60, 3, 61, 28, 42, 180, 0, 163, 162, 0, 24, 27, 153, 0, 20, 42, 42, 180, 1, 94]
abbrev dktX0_module_2 : List UInt8 := dkwX0_module_2 ++ dktX0_module_3
def dkwX0_module_1 : List UInt8 := [182, 2, 216, 42, 180, 0, 36, 154, 0, 52, 42, 42, 180, 0, 72, 181, 0, 172, 42, 42, 180, 0, 85]
abbrev dktX0_module_1 : List UInt8 := dkwX0_module_1 ++ dktX0_module_2
def dkwX0_module_0 : List UInt8 := [42, 182, 2, 204, 42, 182, 2, 207, 42, 17, 3, 132, 182, 2, 210, 42, 182, 2, 213, 153, 0, 7, 42]
abbrev dktX0_module_0 : List UInt8 := dkwX0_module_0 ++ dktX0_module_1
theorem dksX0_module_0 : cX0_module.data.toList.drop 0 = dktX0_module_0 := by decide +kernel
theorem dksX0_module_1 : cX0_module.data.toList.drop 23 = dktX0_module_1 := dk_seg dksX0_module_0 23 rfl rfl
theorem dksX0_module_2 : cX0_module.data.toList.drop 46 = dktX0_module_2 := dk_seg dksX0_module_1 23 rfl rfl
theorem dksX0_module_3 : cX0_module.data.toList.drop 70 = dktX0_module_3 := dk_seg dksX0_module_2 24 rfl rfl
theorem dksX0_module_4 : cX0_module.data.toList.drop 94 = dktX0_module_4 := dk_seg dksX0_module_3 24 rfl rfl
theorem dksX0_module_5 : cX0_module.data.toList.drop 116 = dktX0_module_5 := dk_seg dksX0_module_4 22 rfl rfl
theorem dX0_module_0 : decode cX0_module 0 = .ok (.aload_n 0, 1) := dk_42 (dk_at dksX0_module_0 0 rfl rfl)
theorem dX0_module_1 : decode cX0_module 1 = .ok (.invokevirtual 716, 3) := dk_182 2 204 (dk_at dksX0_module_0 1 rfl rfl)
theorem dX0_module_4 : decode cX0_module 4 = .ok (.aload_n 0, 1) := dk_42 (dk_at dksX0_module_0 4 rfl rfl)
theorem dX0_module_5 : decode cX0_module 5 = .ok (.invokevirtual 719, 3) := dk_182 2 207 (dk_at dksX0_module_0 5 rfl rfl)
theorem dX0_module_8 : decode cX0_module 8 = .ok (.aload_n 0, 1) := dk_42 (dk_at dksX0_module_0 8 rfl rfl)
theorem dX0_module_9 : decode cX0_module 9 = .ok (.sipush 900, 3) := dk_17 3 132 (dk_at dksX0_module_0 9 rfl rfl)
theorem dX0_module_12 : decode cX0_module 12 = .ok (.invokevirtual 722, 3) := dk_182 2 210 (dk_at dksX0_module_0 12 rfl rfl)
theorem dX0_module_15 : decode cX0_module 15 = .ok (.aload_n 0, 1) := dk_42 (dk_at dksX0_module_0 15 rfl rfl)
theorem dX0_module_16 : decode cX0_module 16 = .ok (.invokevirtual 725, 3) := dk_182 2 213 (dk_at dksX0_module_0 16 rfl rfl)
theorem dX0_module_19 : decode cX0_module 19 = .ok (.ifCond .eq 7, 3) := dk_153 0 7 (dk_at dksX0_module_0 19 rfl rfl)
theorem dX0_module_22 : decode cX0_module 22 = .ok (.aload_n 0, 1) := dk_42 (dk_at dksX0_module_0 22 rfl rfl)
theorem dX0_module_23 : decode cX0_module 23 = .ok (.invokevirtual 728, 3) := dk_182 2 216 (dk_at dksX0_module_1 0 rfl rfl)
theorem dX0_module_26 : decode cX0_module 26 = .ok (.aload_n 0, 1) := dk_42 (dk_at dksX0_module_1 3 rfl rfl)
theorem dX0_module_27 : decode cX0_module 27 = .ok (.getfield 36, 3) := dk_180 0 36 (dk_at dksX0_module_1 4 rfl rfl)
theorem dX0_module_30 : decode cX0_module 30 = .ok (.ifCond .ne 52, 3) := dk_154 0 52 (dk_at dksX0_module_1 7 rfl rfl)
theorem dX0_module_33 : decode cX0_module 33 = .ok (.aload_n 0, 1) := dk_42 (dk_at dksX0_module_1 10 rfl rfl)
theorem dX0_module_34 : decode cX0_module 34 = .ok (.aload_n 0, 1) := dk_42 (dk_at dksX0_module_1 11 rfl rfl)
theorem dX0_module_35 : decode cX0_module 35 = .ok (.getfield 72, 3) := dk_180 0 72 (dk_at dksX0_module_1 12 rfl rfl)
theorem dX0_module_38 : decode cX0_module 38 = .ok (.putfield 172, 3) := dk_181 0 172 (dk_at dksX0_module_1 15 rfl rfl)
theorem dX0_module_41 : decode cX0_module 41 = .ok (.aload_n 0, 1) := dk_42 (dk_at dksX0_module_1 18 rfl rfl)
theorem dX0_module_42 : decode cX0_module 42 = .ok (.aload_n 0, 1) := dk_42 (dk_at dksX0_module_1 19 rfl rfl)
theorem dX0_module_43 : decode cX0_module 43 = .ok (.getfield 85, 3) := dk_180 0 85 (dk_at dksX0_module_1 20 rfl rfl)
theorem dX0_module_46 : decode cX0_module 46 = .ok (.putfield 175, 3) := dk_181 0 175 (dk_at dksX0_module_2 0 rfl rfl)
theorem dX0_module_49 : decode cX0_module 49 = .ok (.iconst 1, 1) := dk_4 (dk_at dksX0_module_2 3 rfl rfl)
theorem dX0_module_50 : decode cX0_module 50 = .ok (.istore_n 1, 1) := dk_60 (dk_at dksX0_module_2 4 rfl rfl)
theorem dX0_module_51 : decode cX0_module 51 = .ok (.iconst 0, 1) := dk_3 (dk_at dksX0_module_2 5 rfl rfl)
theorem dX0_module_52 : decode cX0_module 52 = .ok (.istore_n 2, 1) := dk_61 (dk_at dksX0_module_2 6 rfl rfl)
theorem dX0_module_53 : decode cX0_module 53 = .ok (.iload_n 2, 1) := dk_28 (dk_at dksX0_module_2 7 rfl rfl)
theorem dX0_module_54 : decode cX0_module 54 = .ok (.aload_n 0, 1) := dk_42 (dk_at dksX0_module_2 8 rfl rfl)
theorem dX0_module_55 : decode cX0_module 55 = .ok (.getfield 163, 3) := dk_180 0 163 (dk_at dksX0_module_2 9 rfl rfl)
theorem dX0_module_58 : decode cX0_module 58 = .ok (.if_icmp .ge 24, 3) := dk_162 0 24 (dk_at dksX0_module_2 12 rfl rfl)
theorem dX0_module_61 : decode cX0_module 61 = .ok (.iload_n 1, 1) := dk_27 (dk_at dksX0_module_2 15 rfl rfl)
theorem dX0_module_62 : decode cX0_module 62 = .ok (.ifCond .eq 20, 3) := dk_153 0 20 (dk_at dksX0_module_2 16 rfl rfl)
theorem dX0_module_65 : decode cX0_module 65 = .ok (.aload_n 0, 1) := dk_42 (dk_at dksX0_module_2 19 rfl rfl)
theorem dX0_module_66 : decode cX0_module 66 = .ok (.aload_n 0, 1) := dk_42 (dk_at dksX0_module_2 20 rfl rfl)
theorem dX0_module_67 : decode cX0_module 67 = .ok (.getfield 350, 3) := dk_180 1 94 (dk_at dksX0_module_2 21 rfl rfl)
theorem dX0_module_70 : decode cX0_module 70 = .ok (.iload_n 2, 1) := dk_28 (dk_at dksX0_module_3 0 rfl rfl)
theorem dX0_module_71 : decode cX0_module 71 = .ok (.iaload, 1) := dk_46 (dk_at dksX0_module_3 1 rfl rfl)
theorem dX0_module_72 : decode cX0_module 72 = .ok (.invokevirtual 731, 3) := dk_182 2 219 (dk_at dksX0_module_3 2 rfl rfl)
theorem dX0_module_75 : decode cX0_module 75 = .ok (.istore_n 1, 1) := dk_60 (dk_at dksX0_module_3 5 rfl rfl)
theorem dX0_module_76 : decode cX0_module 76 = .ok (.iinc 2 1, 3) := dk_132 2 1 (dk_at dksX0_module_3 6 rfl rfl)
theorem dX0_module_79 : decode cX0_module 79 = .ok (.goto (-26), 3) := dk_167 255 230 (dk_at dksX0_module_3 9 rfl rfl)
theorem dX0_module_82 : decode cX0_module 82 = .ok (.aload_n 0, 1) := dk_42 (dk_at dksX0_module_3 12 rfl rfl)
theorem dX0_module_83 : decode cX0_module 83 = .ok (.getfield 36, 3) := dk_180 0 36 (dk_at dksX0_module_3 13 rfl rfl)
theorem dX0_module_86 : decode cX0_module 86 = .ok (.ifCond .le 17, 3) := dk_158 0 17 (dk_at dksX0_module_3 16 rfl rfl)
theorem dX0_module_89 : decode cX0_module 89 = .ok (.aload_n 0, 1) := dk_42 (dk_at dksX0_module_3 19 rfl rfl)
theorem dX0_module_90 : decode cX0_module 90 = .ok (.getfield 36, 3) := dk_180 0 36 (dk_at dksX0_module_3 20 rfl rfl)
theorem dX0_module_93 : decode cX0_module 93 = .ok (.istore_n 1, 1) := dk_60 (dk_at dksX0_module_3 23 rfl rfl)
theorem dX0_module_94 : decode cX0_module 94 = .ok (.aload_n 0, 1) := dk_42 (dk_at dksX0_module_4 0 rfl rfl)
theorem dX0_module_95 : decode cX0_module 95 = .ok (.invokevirtual 719, 3) := dk_182 2 207 (dk_at dksX0_module_4 1 rfl rfl)
theorem dX0_module_98 : decode cX0_module 98 = .ok (.bipush (-10), 2) := dk_16 246 (dk_at dksX0_module_4 4 rfl rfl)
theorem dX0_module_100 : decode cX0_module 100 = .ok (.iload_n 1, 1) := dk_27 (dk_at dksX0_module_4 6 rfl rfl)
theorem dX0_module_101 : decode cX0_module 101 = .ok (.isub, 1) := dk_100 (dk_at dksX0_module_4 7 rfl rfl)
theorem dX0_module_102 : decode cX0_module 102 = .ok (.ireturn, 1) := dk_172 (dk_at dksX0_module_4 8 rfl rfl)
theorem dX0_module_103 : decode cX0_module 103 = .ok (.aload_n 0, 1) := dk_42 (dk_at dksX0_module_4 9 rfl rfl)
theorem dX0_module_104 : decode cX0_module 104 = .ok (.aload_n 0, 1) := dk_42 (dk_at dksX0_module_4 10 rfl rfl)
theorem dX0_module_105 : decode cX0_module 105 = .ok (.getfield 200, 3) := dk_180 0 200 (dk_at dksX0_module_4 11 rfl rfl)
theorem dX0_module_108 : decode cX0_module 108 = .ok (.putfield 197, 3) := dk_181 0 197 (dk_at dksX0_module_4 14 rfl rfl)
theorem dX0_module_111 : decode cX0_module 111 = .ok (.aload_n 0, 1) := dk_42 (dk_at dksX0_module_4 17 rfl rfl)
theorem dX0_module_112 : decode cX0_module 112 = .ok (.aload_n 0, 1) := dk_42 (dk_at dksX0_module_4 18 rfl rfl)
theorem dX0_module_113 : decode cX0_module 113 = .ok (.getfield 203, 3) := dk_180 0 203 (dk_at dksX0_module_4 19 rfl rfl)
theorem dX0_module_116 : decode cX0_module 116 = .ok (.putfield 206, 3) := dk_181 0 206 (dk_at dksX0_module_5 0 rfl rfl)
theorem dX0_module_119 : decode cX0_module 119 = .ok (.aload_n 0, 1) := dk_42 (dk_at dksX0_module_5 3 rfl rfl)
theorem dX0_module_120 : decode cX0_module 120 = .ok (.iconst 1, 1) := dk_4 (dk_at dksX0_module_5 4 rfl rfl)
theorem dX0_module_121 : decode cX0_module 121 = .ok (.putfield 193, 3) := dk_181 0 193 (dk_at dksX0_module_5 5 rfl rfl)
theorem dX0_module_124 : decode cX0_module 124 = .ok (.aload_n 0, 1) := dk_42 (dk_at dksX0_module_5 8 rfl rfl)
theorem dX0_module_125 : decode cX0_module 125 = .ok (.getfield 166, 3) := dk_180 0 166 (dk_at dksX0_module_5 9 rfl rfl)
theorem dX0_module_128 : decode cX0_module 128 = .ok (.ireturn, 1) := dk_172 (dk_at dksX0_module_5 12 rfl rfl)
abbrev cX0_takeTape : ByteArray := prog_1_method_5_code
def yX0_takeTape : MethodName := ⟨RX0, "takeTape", "()V"⟩
def dkwX0_takeTape_2 : List UInt8 := [16, 254, 181, 0, 33, 42, 3, 181, 0, 36, 42, 3, 181, 0, 39, 177]
abbrev dktX0_takeTape_2 : List UInt8 := dkwX0_takeTape_2 ++ []
def dkwX0_takeTape_1 : List UInt8 := [180, 0, 16, 27, 51, 84, 132, 1, 1, 167, 255, 233, 42, 3, 181, 0, 13, 42, 16, 254, 181, 0, 30, 42]
abbrev dktX0_takeTape_1 : List UInt8 := dkwX0_takeTape_1 ++ dktX0_takeTape_2
def dkwX0_takeTape_0 : List UInt8 := [42, 42, 180, 0, 13, 181, 0, 24, 3, 60, 27, 42, 180, 0, 24, 162, 0, 21, 42, 180, 0, 27, 27, 42]
abbrev dktX0_takeTape_0 : List UInt8 := dkwX0_takeTape_0 ++ dktX0_takeTape_1
theorem dksX0_takeTape_0 : cX0_takeTape.data.toList.drop 0 = dktX0_takeTape_0 := by decide +kernel
theorem dksX0_takeTape_1 : cX0_takeTape.data.toList.drop 24 = dktX0_takeTape_1 := dk_seg dksX0_takeTape_0 24 rfl rfl
theorem dksX0_takeTape_2 : cX0_takeTape.data.toList.drop 48 = dktX0_takeTape_2 := dk_seg dksX0_takeTape_1 24 rfl rfl
theorem dX0_takeTape_0 : decode cX0_takeTape 0 = .ok (.aload_n 0, 1) := dk_42 (dk_at dksX0_takeTape_0 0 rfl rfl)
theorem dX0_takeTape_1 : decode cX0_takeTape 1 = .ok (.aload_n 0, 1) := dk_42 (dk_at dksX0_takeTape_0 1 rfl rfl)
theorem dX0_takeTape_2 : decode cX0_takeTape 2 = .ok (.getfield 13, 3) := dk_180 0 13 (dk_at dksX0_takeTape_0 2 rfl rfl)
theorem dX0_takeTape_5 : decode cX0_takeTape 5 = .ok (.putfield 24, 3) := dk_181 0 24 (dk_at dksX0_takeTape_0 5 rfl rfl)
theorem dX0_takeTape_8 : decode cX0_takeTape 8 = .ok (.iconst 0, 1) := dk_3 (dk_at dksX0_takeTape_0 8 rfl rfl)
theorem dX0_takeTape_9 : decode cX0_takeTape 9 = .ok (.istore_n 1, 1) := dk_60 (dk_at dksX0_takeTape_0 9 rfl rfl)
theorem dX0_takeTape_10 : decode cX0_takeTape 10 = .ok (.iload_n 1, 1) := dk_27 (dk_at dksX0_takeTape_0 10 rfl rfl)
theorem dX0_takeTape_11 : decode cX0_takeTape 11 = .ok (.aload_n 0, 1) := dk_42 (dk_at dksX0_takeTape_0 11 rfl rfl)
theorem dX0_takeTape_12 : decode cX0_takeTape 12 = .ok (.getfield 24, 3) := dk_180 0 24 (dk_at dksX0_takeTape_0 12 rfl rfl)
theorem dX0_takeTape_15 : decode cX0_takeTape 15 = .ok (.if_icmp .ge 21, 3) := dk_162 0 21 (dk_at dksX0_takeTape_0 15 rfl rfl)
theorem dX0_takeTape_18 : decode cX0_takeTape 18 = .ok (.aload_n 0, 1) := dk_42 (dk_at dksX0_takeTape_0 18 rfl rfl)
theorem dX0_takeTape_19 : decode cX0_takeTape 19 = .ok (.getfield 27, 3) := dk_180 0 27 (dk_at dksX0_takeTape_0 19 rfl rfl)
theorem dX0_takeTape_22 : decode cX0_takeTape 22 = .ok (.iload_n 1, 1) := dk_27 (dk_at dksX0_takeTape_0 22 rfl rfl)
theorem dX0_takeTape_23 : decode cX0_takeTape 23 = .ok (.aload_n 0, 1) := dk_42 (dk_at dksX0_takeTape_0 23 rfl rfl)
theorem dX0_takeTape_24 : decode cX0_takeTape 24 = .ok (.getfield 16, 3) := dk_180 0 16 (dk_at dksX0_takeTape_1 0 rfl rfl)
theorem dX0_takeTape_27 : decode cX0_takeTape 27 = .ok (.iload_n 1, 1) := dk_27 (dk_at dksX0_takeTape_1 3 rfl rfl)
theorem dX0_takeTape_28 : decode cX0_takeTape 28 = .ok (.baload, 1) := dk_51 (dk_at dksX0_takeTape_1 4 rfl rfl)
theorem dX0_takeTape_29 : decode cX0_takeTape 29 = .ok (.bastore, 1) := dk_84 (dk_at dksX0_takeTape_1 5 rfl rfl)
theorem dX0_takeTape_30 : decode cX0_takeTape 30 = .ok (.iinc 1 1, 3) := dk_132 1 1 (dk_at dksX0_takeTape_1 6 rfl rfl)
theorem dX0_takeTape_33 : decode cX0_takeTape 33 = .ok (.goto (-23), 3) := dk_167 255 233 (dk_at dksX0_takeTape_1 9 rfl rfl)
theorem dX0_takeTape_36 : decode cX0_takeTape 36 = .ok (.aload_n 0, 1) := dk_42 (dk_at dksX0_takeTape_1 12 rfl rfl)
theorem dX0_takeTape_37 : decode cX0_takeTape 37 = .ok (.iconst 0, 1) := dk_3 (dk_at dksX0_takeTape_1 13 rfl rfl)
theorem dX0_takeTape_38 : decode cX0_takeTape 38 = .ok (.putfield 13, 3) := dk_181 0 13 (dk_at dksX0_takeTape_1 14 rfl rfl)
theorem dX0_takeTape_41 : decode cX0_takeTape 41 = .ok (.aload_n 0, 1) := dk_42 (dk_at dksX0_takeTape_1 17 rfl rfl)
theorem dX0_takeTape_42 : decode cX0_takeTape 42 = .ok (.bipush (-2), 2) := dk_16 254 (dk_at dksX0_takeTape_1 18 rfl rfl)
theorem dX0_takeTape_44 : decode cX0_takeTape 44 = .ok (.putfield 30, 3) := dk_181 0 30 (dk_at dksX0_takeTape_1 20 rfl rfl)
theorem dX0_takeTape_47 : decode cX0_takeTape 47 = .ok (.aload_n 0, 1) := dk_42 (dk_at dksX0_takeTape_1 23 rfl rfl)
theorem dX0_takeTape_48 : decode cX0_takeTape 48 = .ok (.bipush (-2), 2) := dk_16 254 (dk_at dksX0_takeTape_2 0 rfl rfl)
theorem dX0_takeTape_50 : decode cX0_takeTape 50 = .ok (.putfield 33, 3) := dk_181 0 33 (dk_at dksX0_takeTape_2 2 rfl rfl)
theorem dX0_takeTape_53 : decode cX0_takeTape 53 = .ok (.aload_n 0, 1) := dk_42 (dk_at dksX0_takeTape_2 5 rfl rfl)
theorem dX0_takeTape_54 : decode cX0_takeTape 54 = .ok (.iconst 0, 1) := dk_3 (dk_at dksX0_takeTape_2 6 rfl rfl)
theorem dX0_takeTape_55 : decode cX0_takeTape 55 = .ok (.putfield 36, 3) := dk_181 0 36 (dk_at dksX0_takeTape_2 7 rfl rfl)
theorem dX0_takeTape_58 : decode cX0_takeTape 58 = .ok (.aload_n 0, 1) := dk_42 (dk_at dksX0_takeTape_2 10 rfl rfl)
theorem dX0_takeTape_59 : decode cX0_takeTape 59 = .ok (.iconst 0, 1) := dk_3 (dk_at dksX0_takeTape_2 11 rfl rfl)
theorem dX0_takeTape_60 : decode cX0_takeTape 60 = .ok (.putfield 39, 3) := dk_181 0 39 (dk_at dksX0_takeTape_2 12 rfl rfl)
theorem dX0_takeTape_63 : decode cX0_takeTape 63 = .ok (.return_, 1) := dk_177 (dk_at dksX0_takeTape_2 15 rfl rfl)
abbrev cX0_clear : ByteArray := prog_1_method_23_code
def yX0_clear : MethodName := ⟨RX0, "clear", "()V"⟩
def dkwX0_clear_5 : List UInt8 := [182, 0, 209, 177]
abbrev dktX0_clear_5 : List UInt8 := dkwX0_clear_5 ++ []
def dkwX0_clear_4 : List UInt8 := [181, 0, 193, 42, 4, 181, 0, 197, 42, 4, 181, 0, 200, 42, 3, 181, 0, 203, 42, 3, 181, 0, 206, 42]
abbrev dktX0_clear_4 : List UInt8 := dkwX0_clear_4 ++ dktX0_clear_5
def dkwX0_clear_3 : List UInt8 := [42, 16, 254, 181, 0, 181, 42, 3, 181, 0, 184, 42, 3, 181, 0, 187, 42, 3, 181, 0, 190, 42, 3]
abbrev dktX0_clear_3 : List UInt8 := dkwX0_clear_3 ++ dktX0_clear_4
def dkwX0_clear_2 : List UInt8 := [3, 181, 0, 72, 42, 3, 181, 0, 85, 42, 3, 181, 0, 172, 42, 3, 181, 0, 175, 42, 3, 181, 0, 178]
abbrev dktX0_clear_2 : List UInt8 := dkwX0_clear_2 ++ dktX0_clear_3
def dkwX0_clear_1 : List UInt8 := [181, 0, 157, 42, 3, 181, 0, 160, 42, 3, 181, 0, 163, 42, 3, 181, 0, 166, 42, 3, 181, 0, 169, 42]
abbrev dktX0_clear_1 : List UInt8 := dkwX0_clear_1 ++ dktX0_clear_2
def dkwX0_clear_0 : List UInt8 := [42, 3, 181, 0, 145, 42, 3, 181, 0, 148, 42, 3, 181, 0, 151, 42, 3, 181, 0, 154, 42, 3]
abbrev dktX0_clear_0 : List UInt8 := dkwX0_clear_0 ++ dktX0_clear_1
theorem dksX0_clear_0 : cX0_clear.data.toList.drop 0 = dktX0_clear_0 := by decide +kernel
theorem dksX0_clear_1 : cX0_clear.data.toList.drop 22 = dktX0_clear_1 := dk_seg dksX0_clear_0 22 rfl rfl
theorem dksX0_clear_2 : cX0_clear.data.toList.drop 46 = dktX0_clear_2 := dk_seg dksX0_clear_1 24 rfl rfl
theorem dksX0_clear_3 : cX0_clear.data.toList.drop 70 = dktX0_clear_3 := dk_seg dksX0_clear_2 24 rfl rfl
theorem dksX0_clear_4 : cX0_clear.data.toList.drop 93 = dktX0_clear_4 := dk_seg dksX0_clear_3 23 rfl rfl
theorem dksX0_clear_5 : cX0_clear.data.toList.drop 117 = dktX0_clear_5 := dk_seg dksX0_clear_4 24 rfl rfl
theorem dX0_clear_0 : decode cX0_clear 0 = .ok (.aload_n 0, 1) := dk_42 (dk_at dksX0_clear_0 0 rfl rfl)
theorem dX0_clear_1 : decode cX0_clear 1 = .ok (.iconst 0, 1) := dk_3 (dk_at dksX0_clear_0 1 rfl rfl)
theorem dX0_clear_2 : decode cX0_clear 2 = .ok (.putfield 145, 3) := dk_181 0 145 (dk_at dksX0_clear_0 2 rfl rfl)
theorem dX0_clear_5 : decode cX0_clear 5 = .ok (.aload_n 0, 1) := dk_42 (dk_at dksX0_clear_0 5 rfl rfl)
theorem dX0_clear_6 : decode cX0_clear 6 = .ok (.iconst 0, 1) := dk_3 (dk_at dksX0_clear_0 6 rfl rfl)
theorem dX0_clear_7 : decode cX0_clear 7 = .ok (.putfield 148, 3) := dk_181 0 148 (dk_at dksX0_clear_0 7 rfl rfl)
theorem dX0_clear_10 : decode cX0_clear 10 = .ok (.aload_n 0, 1) := dk_42 (dk_at dksX0_clear_0 10 rfl rfl)
theorem dX0_clear_11 : decode cX0_clear 11 = .ok (.iconst 0, 1) := dk_3 (dk_at dksX0_clear_0 11 rfl rfl)
theorem dX0_clear_12 : decode cX0_clear 12 = .ok (.putfield 151, 3) := dk_181 0 151 (dk_at dksX0_clear_0 12 rfl rfl)
theorem dX0_clear_15 : decode cX0_clear 15 = .ok (.aload_n 0, 1) := dk_42 (dk_at dksX0_clear_0 15 rfl rfl)
theorem dX0_clear_16 : decode cX0_clear 16 = .ok (.iconst 0, 1) := dk_3 (dk_at dksX0_clear_0 16 rfl rfl)
theorem dX0_clear_17 : decode cX0_clear 17 = .ok (.putfield 154, 3) := dk_181 0 154 (dk_at dksX0_clear_0 17 rfl rfl)
theorem dX0_clear_20 : decode cX0_clear 20 = .ok (.aload_n 0, 1) := dk_42 (dk_at dksX0_clear_0 20 rfl rfl)
theorem dX0_clear_21 : decode cX0_clear 21 = .ok (.iconst 0, 1) := dk_3 (dk_at dksX0_clear_0 21 rfl rfl)
theorem dX0_clear_22 : decode cX0_clear 22 = .ok (.putfield 157, 3) := dk_181 0 157 (dk_at dksX0_clear_1 0 rfl rfl)
theorem dX0_clear_25 : decode cX0_clear 25 = .ok (.aload_n 0, 1) := dk_42 (dk_at dksX0_clear_1 3 rfl rfl)
theorem dX0_clear_26 : decode cX0_clear 26 = .ok (.iconst 0, 1) := dk_3 (dk_at dksX0_clear_1 4 rfl rfl)
theorem dX0_clear_27 : decode cX0_clear 27 = .ok (.putfield 160, 3) := dk_181 0 160 (dk_at dksX0_clear_1 5 rfl rfl)
theorem dX0_clear_30 : decode cX0_clear 30 = .ok (.aload_n 0, 1) := dk_42 (dk_at dksX0_clear_1 8 rfl rfl)
theorem dX0_clear_31 : decode cX0_clear 31 = .ok (.iconst 0, 1) := dk_3 (dk_at dksX0_clear_1 9 rfl rfl)
theorem dX0_clear_32 : decode cX0_clear 32 = .ok (.putfield 163, 3) := dk_181 0 163 (dk_at dksX0_clear_1 10 rfl rfl)
theorem dX0_clear_35 : decode cX0_clear 35 = .ok (.aload_n 0, 1) := dk_42 (dk_at dksX0_clear_1 13 rfl rfl)
theorem dX0_clear_36 : decode cX0_clear 36 = .ok (.iconst 0, 1) := dk_3 (dk_at dksX0_clear_1 14 rfl rfl)
theorem dX0_clear_37 : decode cX0_clear 37 = .ok (.putfield 166, 3) := dk_181 0 166 (dk_at dksX0_clear_1 15 rfl rfl)
theorem dX0_clear_40 : decode cX0_clear 40 = .ok (.aload_n 0, 1) := dk_42 (dk_at dksX0_clear_1 18 rfl rfl)
theorem dX0_clear_41 : decode cX0_clear 41 = .ok (.iconst 0, 1) := dk_3 (dk_at dksX0_clear_1 19 rfl rfl)
theorem dX0_clear_42 : decode cX0_clear 42 = .ok (.putfield 169, 3) := dk_181 0 169 (dk_at dksX0_clear_1 20 rfl rfl)
theorem dX0_clear_45 : decode cX0_clear 45 = .ok (.aload_n 0, 1) := dk_42 (dk_at dksX0_clear_1 23 rfl rfl)
theorem dX0_clear_46 : decode cX0_clear 46 = .ok (.iconst 0, 1) := dk_3 (dk_at dksX0_clear_2 0 rfl rfl)
theorem dX0_clear_47 : decode cX0_clear 47 = .ok (.putfield 72, 3) := dk_181 0 72 (dk_at dksX0_clear_2 1 rfl rfl)
theorem dX0_clear_50 : decode cX0_clear 50 = .ok (.aload_n 0, 1) := dk_42 (dk_at dksX0_clear_2 4 rfl rfl)
theorem dX0_clear_51 : decode cX0_clear 51 = .ok (.iconst 0, 1) := dk_3 (dk_at dksX0_clear_2 5 rfl rfl)
theorem dX0_clear_52 : decode cX0_clear 52 = .ok (.putfield 85, 3) := dk_181 0 85 (dk_at dksX0_clear_2 6 rfl rfl)
theorem dX0_clear_55 : decode cX0_clear 55 = .ok (.aload_n 0, 1) := dk_42 (dk_at dksX0_clear_2 9 rfl rfl)
theorem dX0_clear_56 : decode cX0_clear 56 = .ok (.iconst 0, 1) := dk_3 (dk_at dksX0_clear_2 10 rfl rfl)
theorem dX0_clear_57 : decode cX0_clear 57 = .ok (.putfield 172, 3) := dk_181 0 172 (dk_at dksX0_clear_2 11 rfl rfl)
theorem dX0_clear_60 : decode cX0_clear 60 = .ok (.aload_n 0, 1) := dk_42 (dk_at dksX0_clear_2 14 rfl rfl)
theorem dX0_clear_61 : decode cX0_clear 61 = .ok (.iconst 0, 1) := dk_3 (dk_at dksX0_clear_2 15 rfl rfl)
theorem dX0_clear_62 : decode cX0_clear 62 = .ok (.putfield 175, 3) := dk_181 0 175 (dk_at dksX0_clear_2 16 rfl rfl)
theorem dX0_clear_65 : decode cX0_clear 65 = .ok (.aload_n 0, 1) := dk_42 (dk_at dksX0_clear_2 19 rfl rfl)
theorem dX0_clear_66 : decode cX0_clear 66 = .ok (.iconst 0, 1) := dk_3 (dk_at dksX0_clear_2 20 rfl rfl)
theorem dX0_clear_67 : decode cX0_clear 67 = .ok (.putfield 178, 3) := dk_181 0 178 (dk_at dksX0_clear_2 21 rfl rfl)
theorem dX0_clear_70 : decode cX0_clear 70 = .ok (.aload_n 0, 1) := dk_42 (dk_at dksX0_clear_3 0 rfl rfl)
theorem dX0_clear_71 : decode cX0_clear 71 = .ok (.bipush (-2), 2) := dk_16 254 (dk_at dksX0_clear_3 1 rfl rfl)
theorem dX0_clear_73 : decode cX0_clear 73 = .ok (.putfield 181, 3) := dk_181 0 181 (dk_at dksX0_clear_3 3 rfl rfl)
theorem dX0_clear_76 : decode cX0_clear 76 = .ok (.aload_n 0, 1) := dk_42 (dk_at dksX0_clear_3 6 rfl rfl)
theorem dX0_clear_77 : decode cX0_clear 77 = .ok (.iconst 0, 1) := dk_3 (dk_at dksX0_clear_3 7 rfl rfl)
theorem dX0_clear_78 : decode cX0_clear 78 = .ok (.putfield 184, 3) := dk_181 0 184 (dk_at dksX0_clear_3 8 rfl rfl)
theorem dX0_clear_81 : decode cX0_clear 81 = .ok (.aload_n 0, 1) := dk_42 (dk_at dksX0_clear_3 11 rfl rfl)
theorem dX0_clear_82 : decode cX0_clear 82 = .ok (.iconst 0, 1) := dk_3 (dk_at dksX0_clear_3 12 rfl rfl)
theorem dX0_clear_83 : decode cX0_clear 83 = .ok (.putfield 187, 3) := dk_181 0 187 (dk_at dksX0_clear_3 13 rfl rfl)
theorem dX0_clear_86 : decode cX0_clear 86 = .ok (.aload_n 0, 1) := dk_42 (dk_at dksX0_clear_3 16 rfl rfl)
theorem dX0_clear_87 : decode cX0_clear 87 = .ok (.iconst 0, 1) := dk_3 (dk_at dksX0_clear_3 17 rfl rfl)
theorem dX0_clear_88 : decode cX0_clear 88 = .ok (.putfield 190, 3) := dk_181 0 190 (dk_at dksX0_clear_3 18 rfl rfl)
theorem dX0_clear_91 : decode cX0_clear 91 = .ok (.aload_n 0, 1) := dk_42 (dk_at dksX0_clear_3 21 rfl rfl)
theorem dX0_clear_92 : decode cX0_clear 92 = .ok (.iconst 0, 1) := dk_3 (dk_at dksX0_clear_3 22 rfl rfl)
theorem dX0_clear_93 : decode cX0_clear 93 = .ok (.putfield 193, 3) := dk_181 0 193 (dk_at dksX0_clear_4 0 rfl rfl)
theorem dX0_clear_96 : decode cX0_clear 96 = .ok (.aload_n 0, 1) := dk_42 (dk_at dksX0_clear_4 3 rfl rfl)
theorem dX0_clear_97 : decode cX0_clear 97 = .ok (.iconst 1, 1) := dk_4 (dk_at dksX0_clear_4 4 rfl rfl)
theorem dX0_clear_98 : decode cX0_clear 98 = .ok (.putfield 197, 3) := dk_181 0 197 (dk_at dksX0_clear_4 5 rfl rfl)
theorem dX0_clear_101 : decode cX0_clear 101 = .ok (.aload_n 0, 1) := dk_42 (dk_at dksX0_clear_4 8 rfl rfl)
theorem dX0_clear_102 : decode cX0_clear 102 = .ok (.iconst 1, 1) := dk_4 (dk_at dksX0_clear_4 9 rfl rfl)
theorem dX0_clear_103 : decode cX0_clear 103 = .ok (.putfield 200, 3) := dk_181 0 200 (dk_at dksX0_clear_4 10 rfl rfl)
theorem dX0_clear_106 : decode cX0_clear 106 = .ok (.aload_n 0, 1) := dk_42 (dk_at dksX0_clear_4 13 rfl rfl)
theorem dX0_clear_107 : decode cX0_clear 107 = .ok (.iconst 0, 1) := dk_3 (dk_at dksX0_clear_4 14 rfl rfl)
theorem dX0_clear_108 : decode cX0_clear 108 = .ok (.putfield 203, 3) := dk_181 0 203 (dk_at dksX0_clear_4 15 rfl rfl)
theorem dX0_clear_111 : decode cX0_clear 111 = .ok (.aload_n 0, 1) := dk_42 (dk_at dksX0_clear_4 18 rfl rfl)
theorem dX0_clear_112 : decode cX0_clear 112 = .ok (.iconst 0, 1) := dk_3 (dk_at dksX0_clear_4 19 rfl rfl)
theorem dX0_clear_113 : decode cX0_clear 113 = .ok (.putfield 206, 3) := dk_181 0 206 (dk_at dksX0_clear_4 20 rfl rfl)
theorem dX0_clear_116 : decode cX0_clear 116 = .ok (.aload_n 0, 1) := dk_42 (dk_at dksX0_clear_4 23 rfl rfl)
theorem dX0_clear_117 : decode cX0_clear 117 = .ok (.invokevirtual 209, 3) := dk_182 0 209 (dk_at dksX0_clear_5 0 rfl rfl)
theorem dX0_clear_120 : decode cX0_clear 120 = .ok (.return_, 1) := dk_177 (dk_at dksX0_clear_5 3 rfl rfl)
abbrev cX0_clearHash : ByteArray := prog_1_method_68_code
def yX0_clearHash : MethodName := ⟨RX0, "clearHash", "()V"⟩
def dkwX0_clearHash_0 : List UInt8 := [3, 60, 27, 19, 2, 50, 162, 0, 16, 42, 180, 2, 51, 27, 3, 79, 132, 1, 1, 167, 255, 239, 177]
abbrev dktX0_clearHash_0 : List UInt8 := dkwX0_clearHash_0 ++ []
theorem dksX0_clearHash_0 : cX0_clearHash.data.toList.drop 0 = dktX0_clearHash_0 := by decide +kernel
theorem dX0_clearHash_0 : decode cX0_clearHash 0 = .ok (.iconst 0, 1) := dk_3 (dk_at dksX0_clearHash_0 0 rfl rfl)
theorem dX0_clearHash_1 : decode cX0_clearHash 1 = .ok (.istore_n 1, 1) := dk_60 (dk_at dksX0_clearHash_0 1 rfl rfl)
theorem dX0_clearHash_2 : decode cX0_clearHash 2 = .ok (.iload_n 1, 1) := dk_27 (dk_at dksX0_clearHash_0 2 rfl rfl)
theorem dX0_clearHash_3 : decode cX0_clearHash 3 = .ok (.ldc_w 562, 3) := dk_19 2 50 (dk_at dksX0_clearHash_0 3 rfl rfl)
theorem dX0_clearHash_6 : decode cX0_clearHash 6 = .ok (.if_icmp .ge 16, 3) := dk_162 0 16 (dk_at dksX0_clearHash_0 6 rfl rfl)
theorem dX0_clearHash_9 : decode cX0_clearHash 9 = .ok (.aload_n 0, 1) := dk_42 (dk_at dksX0_clearHash_0 9 rfl rfl)
theorem dX0_clearHash_10 : decode cX0_clearHash 10 = .ok (.getfield 563, 3) := dk_180 2 51 (dk_at dksX0_clearHash_0 10 rfl rfl)
theorem dX0_clearHash_13 : decode cX0_clearHash 13 = .ok (.iload_n 1, 1) := dk_27 (dk_at dksX0_clearHash_0 13 rfl rfl)
theorem dX0_clearHash_14 : decode cX0_clearHash 14 = .ok (.iconst 0, 1) := dk_3 (dk_at dksX0_clearHash_0 14 rfl rfl)
theorem dX0_clearHash_15 : decode cX0_clearHash 15 = .ok (.iastore, 1) := dk_79 (dk_at dksX0_clearHash_0 15 rfl rfl)
theorem dX0_clearHash_16 : decode cX0_clearHash 16 = .ok (.iinc 1 1, 3) := dk_132 1 1 (dk_at dksX0_clearHash_0 16 rfl rfl)
theorem dX0_clearHash_19 : decode cX0_clearHash 19 = .ok (.goto (-17), 3) := dk_167 255 239 (dk_at dksX0_clearHash_0 19 rfl rfl)
theorem dX0_clearHash_22 : decode cX0_clearHash 22 = .ok (.return_, 1) := dk_177 (dk_at dksX0_clearHash_0 22 rfl rfl)
abbrev cX0_cutWords : ByteArray := prog_1_method_12_code
def yX0_cutWords : MethodName := ⟨RX0, "cutWords", "(I)V"⟩
def dkwX0_cutWords_16 : List UInt8 := [180, 0, 91, 27, 163, 0, 7, 4, 167, 0, 4, 3, 62, 167, 254, 141, 177]
abbrev dktX0_cutWords_16 : List UInt8 := dkwX0_cutWords_16 ++ []
def dkwX0_cutWords_15 : List UInt8 := [167, 0, 5, 16, 254, 79, 42, 89, 180, 0, 91, 4, 96, 181, 0, 91, 21, 5, 6, 162, 0, 15, 42]
abbrev dktX0_cutWords_15 : List UInt8 := dkwX0_cutWords_15 ++ dktX0_cutWords_16
def dkwX0_cutWords_14 : List UInt8 := [21, 4, 28, 182, 0, 120, 167, 0, 21, 21, 5, 5, 160, 0, 13, 42, 21, 4, 28, 182, 0, 104]
abbrev dktX0_cutWords_14 : List UInt8 := dkwX0_cutWords_14 ++ dktX0_cutWords_15
def dkwX0_cutWords_13 : List UInt8 := [180, 0, 117, 42, 180, 0, 91, 21, 5, 153, 0, 9, 21, 5, 4, 160, 0, 17, 42, 42, 180, 0, 27]
abbrev dktX0_cutWords_13 : List UInt8 := dkwX0_cutWords_13 ++ dktX0_cutWords_14
def dkwX0_cutWords_12 : List UInt8 := [42, 180, 0, 111, 42, 180, 0, 91, 21, 4, 79, 42, 180, 0, 114, 42, 180, 0, 91, 28, 79, 42]
abbrev dktX0_cutWords_12 : List UInt8 := dkwX0_cutWords_12 ++ dktX0_cutWords_13
def dkwX0_cutWords_11 : List UInt8 := [182, 0, 104, 155, 0, 7, 5, 167, 0, 4, 3, 54, 5, 42, 180, 0, 108, 42, 180, 0, 91, 21, 5, 79]
abbrev dktX0_cutWords_11 : List UInt8 := dkwX0_cutWords_11 ++ dktX0_cutWords_12
def dkwX0_cutWords_10 : List UInt8 := [21, 6, 54, 4, 21, 6, 16, 254, 160, 0, 8, 21, 7, 153, 0, 7, 7, 167, 0, 18, 42, 21, 4, 28]
abbrev dktX0_cutWords_10 : List UInt8 := dkwX0_cutWords_10 ++ dktX0_cutWords_11
def dkwX0_cutWords_9 : List UInt8 := [167, 0, 4, 3, 54, 7, 21, 6, 16, 254, 159, 0, 8, 21, 7, 153, 0, 8, 21, 4, 167, 0, 5]
abbrev dktX0_cutWords_9 : List UInt8 := dkwX0_cutWords_9 ++ dktX0_cutWords_10
def dkwX0_cutWords_8 : List UInt8 := [167, 0, 5, 21, 6, 54, 6, 132, 2, 1, 167, 255, 190, 28, 21, 4, 100, 16, 16, 164, 0, 7, 4]
abbrev dktX0_cutWords_8 : List UInt8 := dkwX0_cutWords_8 ++ dktX0_cutWords_9
def dkwX0_cutWords_7 : List UInt8 := [21, 6, 16, 254, 160, 0, 23, 42, 180, 0, 27, 28, 51, 16, 33, 16, 126, 184, 0, 20, 154, 0, 7, 28]
abbrev dktX0_cutWords_7 : List UInt8 := dkwX0_cutWords_7 ++ dktX0_cutWords_8
def dkwX0_cutWords_6 : List UInt8 := [180, 0, 27, 28, 51, 184, 0, 94, 154, 0, 52, 42, 180, 0, 27, 28, 51, 184, 0, 101, 154, 0, 40]
abbrev dktX0_cutWords_6 : List UInt8 := dkwX0_cutWords_6 ++ dktX0_cutWords_7
def dkwX0_cutWords_5 : List UInt8 := [167, 0, 154, 28, 42, 180, 0, 24, 162, 0, 146, 16, 254, 54, 6, 28, 42, 180, 0, 24, 162, 0, 64, 42]
abbrev dktX0_cutWords_5 : List UInt8 := dkwX0_cutWords_5 ++ dktX0_cutWords_6
def dkwX0_cutWords_4 : List UInt8 := [180, 0, 24, 162, 0, 24, 42, 180, 0, 27, 28, 51, 184, 0, 101, 153, 0, 12, 132, 2, 1, 4, 54, 5]
abbrev dktX0_cutWords_4 : List UInt8 := dkwX0_cutWords_4 ++ dktX0_cutWords_5
def dkwX0_cutWords_3 : List UInt8 := [159, 255, 204, 132, 2, 1, 167, 255, 234, 132, 2, 1, 167, 255, 192, 28, 54, 4, 6, 54, 5, 28, 42]
abbrev dktX0_cutWords_3 : List UInt8 := dkwX0_cutWords_3 ++ dktX0_cutWords_4
def dkwX0_cutWords_2 : List UInt8 := [28, 182, 0, 98, 153, 0, 28, 28, 42, 180, 0, 24, 162, 255, 215, 42, 180, 0, 27, 28, 51, 16, 10]
abbrev dktX0_cutWords_2 : List UInt8 := dkwX0_cutWords_2 ++ dktX0_cutWords_3
def dkwX0_cutWords_1 : List UInt8 := [162, 0, 62, 42, 180, 0, 27, 28, 51, 184, 0, 94, 154, 0, 11, 42, 28, 182, 0, 98, 153, 0, 42, 42]
abbrev dktX0_cutWords_1 : List UInt8 := dkwX0_cutWords_1 ++ dktX0_cutWords_2
def dkwX0_cutWords_0 : List UInt8 := [42, 27, 181, 0, 88, 42, 3, 181, 0, 91, 3, 61, 4, 62, 29, 153, 1, 117, 28, 42, 180, 0, 24]
abbrev dktX0_cutWords_0 : List UInt8 := dkwX0_cutWords_0 ++ dktX0_cutWords_1
theorem dksX0_cutWords_0 : cX0_cutWords.data.toList.drop 0 = dktX0_cutWords_0 := by decide +kernel
theorem dksX0_cutWords_1 : cX0_cutWords.data.toList.drop 23 = dktX0_cutWords_1 := dk_seg dksX0_cutWords_0 23 rfl rfl
theorem dksX0_cutWords_2 : cX0_cutWords.data.toList.drop 47 = dktX0_cutWords_2 := dk_seg dksX0_cutWords_1 24 rfl rfl
theorem dksX0_cutWords_3 : cX0_cutWords.data.toList.drop 70 = dktX0_cutWords_3 := dk_seg dksX0_cutWords_2 23 rfl rfl
theorem dksX0_cutWords_4 : cX0_cutWords.data.toList.drop 93 = dktX0_cutWords_4 := dk_seg dksX0_cutWords_3 23 rfl rfl
theorem dksX0_cutWords_5 : cX0_cutWords.data.toList.drop 117 = dktX0_cutWords_5 := dk_seg dksX0_cutWords_4 24 rfl rfl
theorem dksX0_cutWords_6 : cX0_cutWords.data.toList.drop 141 = dktX0_cutWords_6 := dk_seg dksX0_cutWords_5 24 rfl rfl
theorem dksX0_cutWords_7 : cX0_cutWords.data.toList.drop 164 = dktX0_cutWords_7 := dk_seg dksX0_cutWords_6 23 rfl rfl
theorem dksX0_cutWords_8 : cX0_cutWords.data.toList.drop 188 = dktX0_cutWords_8 := dk_seg dksX0_cutWords_7 24 rfl rfl
theorem dksX0_cutWords_9 : cX0_cutWords.data.toList.drop 211 = dktX0_cutWords_9 := dk_seg dksX0_cutWords_8 23 rfl rfl
theorem dksX0_cutWords_10 : cX0_cutWords.data.toList.drop 234 = dktX0_cutWords_10 := dk_seg dksX0_cutWords_9 23 rfl rfl
theorem dksX0_cutWords_11 : cX0_cutWords.data.toList.drop 258 = dktX0_cutWords_11 := dk_seg dksX0_cutWords_10 24 rfl rfl
theorem dksX0_cutWords_12 : cX0_cutWords.data.toList.drop 282 = dktX0_cutWords_12 := dk_seg dksX0_cutWords_11 24 rfl rfl
theorem dksX0_cutWords_13 : cX0_cutWords.data.toList.drop 304 = dktX0_cutWords_13 := dk_seg dksX0_cutWords_12 22 rfl rfl
theorem dksX0_cutWords_14 : cX0_cutWords.data.toList.drop 327 = dktX0_cutWords_14 := dk_seg dksX0_cutWords_13 23 rfl rfl
theorem dksX0_cutWords_15 : cX0_cutWords.data.toList.drop 349 = dktX0_cutWords_15 := dk_seg dksX0_cutWords_14 22 rfl rfl
theorem dksX0_cutWords_16 : cX0_cutWords.data.toList.drop 372 = dktX0_cutWords_16 := dk_seg dksX0_cutWords_15 23 rfl rfl
theorem dX0_cutWords_0 : decode cX0_cutWords 0 = .ok (.aload_n 0, 1) := dk_42 (dk_at dksX0_cutWords_0 0 rfl rfl)
theorem dX0_cutWords_1 : decode cX0_cutWords 1 = .ok (.iload_n 1, 1) := dk_27 (dk_at dksX0_cutWords_0 1 rfl rfl)
theorem dX0_cutWords_2 : decode cX0_cutWords 2 = .ok (.putfield 88, 3) := dk_181 0 88 (dk_at dksX0_cutWords_0 2 rfl rfl)
theorem dX0_cutWords_5 : decode cX0_cutWords 5 = .ok (.aload_n 0, 1) := dk_42 (dk_at dksX0_cutWords_0 5 rfl rfl)
theorem dX0_cutWords_6 : decode cX0_cutWords 6 = .ok (.iconst 0, 1) := dk_3 (dk_at dksX0_cutWords_0 6 rfl rfl)
theorem dX0_cutWords_7 : decode cX0_cutWords 7 = .ok (.putfield 91, 3) := dk_181 0 91 (dk_at dksX0_cutWords_0 7 rfl rfl)
theorem dX0_cutWords_10 : decode cX0_cutWords 10 = .ok (.iconst 0, 1) := dk_3 (dk_at dksX0_cutWords_0 10 rfl rfl)
theorem dX0_cutWords_11 : decode cX0_cutWords 11 = .ok (.istore_n 2, 1) := dk_61 (dk_at dksX0_cutWords_0 11 rfl rfl)
theorem dX0_cutWords_12 : decode cX0_cutWords 12 = .ok (.iconst 1, 1) := dk_4 (dk_at dksX0_cutWords_0 12 rfl rfl)
theorem dX0_cutWords_13 : decode cX0_cutWords 13 = .ok (.istore_n 3, 1) := dk_62 (dk_at dksX0_cutWords_0 13 rfl rfl)
theorem dX0_cutWords_14 : decode cX0_cutWords 14 = .ok (.iload_n 3, 1) := dk_29 (dk_at dksX0_cutWords_0 14 rfl rfl)
theorem dX0_cutWords_15 : decode cX0_cutWords 15 = .ok (.ifCond .eq 373, 3) := dk_153 1 117 (dk_at dksX0_cutWords_0 15 rfl rfl)
theorem dX0_cutWords_18 : decode cX0_cutWords 18 = .ok (.iload_n 2, 1) := dk_28 (dk_at dksX0_cutWords_0 18 rfl rfl)
theorem dX0_cutWords_19 : decode cX0_cutWords 19 = .ok (.aload_n 0, 1) := dk_42 (dk_at dksX0_cutWords_0 19 rfl rfl)
theorem dX0_cutWords_20 : decode cX0_cutWords 20 = .ok (.getfield 24, 3) := dk_180 0 24 (dk_at dksX0_cutWords_0 20 rfl rfl)
theorem dX0_cutWords_23 : decode cX0_cutWords 23 = .ok (.if_icmp .ge 62, 3) := dk_162 0 62 (dk_at dksX0_cutWords_1 0 rfl rfl)
theorem dX0_cutWords_26 : decode cX0_cutWords 26 = .ok (.aload_n 0, 1) := dk_42 (dk_at dksX0_cutWords_1 3 rfl rfl)
theorem dX0_cutWords_27 : decode cX0_cutWords 27 = .ok (.getfield 27, 3) := dk_180 0 27 (dk_at dksX0_cutWords_1 4 rfl rfl)
theorem dX0_cutWords_30 : decode cX0_cutWords 30 = .ok (.iload_n 2, 1) := dk_28 (dk_at dksX0_cutWords_1 7 rfl rfl)
theorem dX0_cutWords_31 : decode cX0_cutWords 31 = .ok (.baload, 1) := dk_51 (dk_at dksX0_cutWords_1 8 rfl rfl)
theorem dX0_cutWords_32 : decode cX0_cutWords 32 = .ok (.invokestatic 94, 3) := dk_184 0 94 (dk_at dksX0_cutWords_1 9 rfl rfl)
theorem dX0_cutWords_35 : decode cX0_cutWords 35 = .ok (.ifCond .ne 11, 3) := dk_154 0 11 (dk_at dksX0_cutWords_1 12 rfl rfl)
theorem dX0_cutWords_38 : decode cX0_cutWords 38 = .ok (.aload_n 0, 1) := dk_42 (dk_at dksX0_cutWords_1 15 rfl rfl)
theorem dX0_cutWords_39 : decode cX0_cutWords 39 = .ok (.iload_n 2, 1) := dk_28 (dk_at dksX0_cutWords_1 16 rfl rfl)
theorem dX0_cutWords_40 : decode cX0_cutWords 40 = .ok (.invokevirtual 98, 3) := dk_182 0 98 (dk_at dksX0_cutWords_1 17 rfl rfl)
theorem dX0_cutWords_43 : decode cX0_cutWords 43 = .ok (.ifCond .eq 42, 3) := dk_153 0 42 (dk_at dksX0_cutWords_1 20 rfl rfl)
theorem dX0_cutWords_46 : decode cX0_cutWords 46 = .ok (.aload_n 0, 1) := dk_42 (dk_at dksX0_cutWords_1 23 rfl rfl)
theorem dX0_cutWords_47 : decode cX0_cutWords 47 = .ok (.iload_n 2, 1) := dk_28 (dk_at dksX0_cutWords_2 0 rfl rfl)
theorem dX0_cutWords_48 : decode cX0_cutWords 48 = .ok (.invokevirtual 98, 3) := dk_182 0 98 (dk_at dksX0_cutWords_2 1 rfl rfl)
theorem dX0_cutWords_51 : decode cX0_cutWords 51 = .ok (.ifCond .eq 28, 3) := dk_153 0 28 (dk_at dksX0_cutWords_2 4 rfl rfl)
theorem dX0_cutWords_54 : decode cX0_cutWords 54 = .ok (.iload_n 2, 1) := dk_28 (dk_at dksX0_cutWords_2 7 rfl rfl)
theorem dX0_cutWords_55 : decode cX0_cutWords 55 = .ok (.aload_n 0, 1) := dk_42 (dk_at dksX0_cutWords_2 8 rfl rfl)
theorem dX0_cutWords_56 : decode cX0_cutWords 56 = .ok (.getfield 24, 3) := dk_180 0 24 (dk_at dksX0_cutWords_2 9 rfl rfl)
theorem dX0_cutWords_59 : decode cX0_cutWords 59 = .ok (.if_icmp .ge (-41), 3) := dk_162 255 215 (dk_at dksX0_cutWords_2 12 rfl rfl)
theorem dX0_cutWords_62 : decode cX0_cutWords 62 = .ok (.aload_n 0, 1) := dk_42 (dk_at dksX0_cutWords_2 15 rfl rfl)
theorem dX0_cutWords_63 : decode cX0_cutWords 63 = .ok (.getfield 27, 3) := dk_180 0 27 (dk_at dksX0_cutWords_2 16 rfl rfl)
theorem dX0_cutWords_66 : decode cX0_cutWords 66 = .ok (.iload_n 2, 1) := dk_28 (dk_at dksX0_cutWords_2 19 rfl rfl)
theorem dX0_cutWords_67 : decode cX0_cutWords 67 = .ok (.baload, 1) := dk_51 (dk_at dksX0_cutWords_2 20 rfl rfl)
theorem dX0_cutWords_68 : decode cX0_cutWords 68 = .ok (.bipush 10, 2) := dk_16 10 (dk_at dksX0_cutWords_2 21 rfl rfl)
theorem dX0_cutWords_70 : decode cX0_cutWords 70 = .ok (.if_icmp .eq (-52), 3) := dk_159 255 204 (dk_at dksX0_cutWords_3 0 rfl rfl)
theorem dX0_cutWords_73 : decode cX0_cutWords 73 = .ok (.iinc 2 1, 3) := dk_132 2 1 (dk_at dksX0_cutWords_3 3 rfl rfl)
theorem dX0_cutWords_76 : decode cX0_cutWords 76 = .ok (.goto (-22), 3) := dk_167 255 234 (dk_at dksX0_cutWords_3 6 rfl rfl)
theorem dX0_cutWords_79 : decode cX0_cutWords 79 = .ok (.iinc 2 1, 3) := dk_132 2 1 (dk_at dksX0_cutWords_3 9 rfl rfl)
theorem dX0_cutWords_82 : decode cX0_cutWords 82 = .ok (.goto (-64), 3) := dk_167 255 192 (dk_at dksX0_cutWords_3 12 rfl rfl)
theorem dX0_cutWords_85 : decode cX0_cutWords 85 = .ok (.iload_n 2, 1) := dk_28 (dk_at dksX0_cutWords_3 15 rfl rfl)
theorem dX0_cutWords_86 : decode cX0_cutWords 86 = .ok (.istore 4, 2) := dk_54 4 (dk_at dksX0_cutWords_3 16 rfl rfl)
theorem dX0_cutWords_88 : decode cX0_cutWords 88 = .ok (.iconst 3, 1) := dk_6 (dk_at dksX0_cutWords_3 18 rfl rfl)
theorem dX0_cutWords_89 : decode cX0_cutWords 89 = .ok (.istore 5, 2) := dk_54 5 (dk_at dksX0_cutWords_3 19 rfl rfl)
theorem dX0_cutWords_91 : decode cX0_cutWords 91 = .ok (.iload_n 2, 1) := dk_28 (dk_at dksX0_cutWords_3 21 rfl rfl)
theorem dX0_cutWords_92 : decode cX0_cutWords 92 = .ok (.aload_n 0, 1) := dk_42 (dk_at dksX0_cutWords_3 22 rfl rfl)
theorem dX0_cutWords_93 : decode cX0_cutWords 93 = .ok (.getfield 24, 3) := dk_180 0 24 (dk_at dksX0_cutWords_4 0 rfl rfl)
theorem dX0_cutWords_96 : decode cX0_cutWords 96 = .ok (.if_icmp .ge 24, 3) := dk_162 0 24 (dk_at dksX0_cutWords_4 3 rfl rfl)
theorem dX0_cutWords_99 : decode cX0_cutWords 99 = .ok (.aload_n 0, 1) := dk_42 (dk_at dksX0_cutWords_4 6 rfl rfl)
theorem dX0_cutWords_100 : decode cX0_cutWords 100 = .ok (.getfield 27, 3) := dk_180 0 27 (dk_at dksX0_cutWords_4 7 rfl rfl)
theorem dX0_cutWords_103 : decode cX0_cutWords 103 = .ok (.iload_n 2, 1) := dk_28 (dk_at dksX0_cutWords_4 10 rfl rfl)
theorem dX0_cutWords_104 : decode cX0_cutWords 104 = .ok (.baload, 1) := dk_51 (dk_at dksX0_cutWords_4 11 rfl rfl)
theorem dX0_cutWords_105 : decode cX0_cutWords 105 = .ok (.invokestatic 101, 3) := dk_184 0 101 (dk_at dksX0_cutWords_4 12 rfl rfl)
theorem dX0_cutWords_108 : decode cX0_cutWords 108 = .ok (.ifCond .eq 12, 3) := dk_153 0 12 (dk_at dksX0_cutWords_4 15 rfl rfl)
theorem dX0_cutWords_111 : decode cX0_cutWords 111 = .ok (.iinc 2 1, 3) := dk_132 2 1 (dk_at dksX0_cutWords_4 18 rfl rfl)
theorem dX0_cutWords_114 : decode cX0_cutWords 114 = .ok (.iconst 1, 1) := dk_4 (dk_at dksX0_cutWords_4 21 rfl rfl)
theorem dX0_cutWords_115 : decode cX0_cutWords 115 = .ok (.istore 5, 2) := dk_54 5 (dk_at dksX0_cutWords_4 22 rfl rfl)
theorem dX0_cutWords_117 : decode cX0_cutWords 117 = .ok (.goto 154, 3) := dk_167 0 154 (dk_at dksX0_cutWords_5 0 rfl rfl)
theorem dX0_cutWords_120 : decode cX0_cutWords 120 = .ok (.iload_n 2, 1) := dk_28 (dk_at dksX0_cutWords_5 3 rfl rfl)
theorem dX0_cutWords_121 : decode cX0_cutWords 121 = .ok (.aload_n 0, 1) := dk_42 (dk_at dksX0_cutWords_5 4 rfl rfl)
theorem dX0_cutWords_122 : decode cX0_cutWords 122 = .ok (.getfield 24, 3) := dk_180 0 24 (dk_at dksX0_cutWords_5 5 rfl rfl)
theorem dX0_cutWords_125 : decode cX0_cutWords 125 = .ok (.if_icmp .ge 146, 3) := dk_162 0 146 (dk_at dksX0_cutWords_5 8 rfl rfl)
theorem dX0_cutWords_128 : decode cX0_cutWords 128 = .ok (.bipush (-2), 2) := dk_16 254 (dk_at dksX0_cutWords_5 11 rfl rfl)
theorem dX0_cutWords_130 : decode cX0_cutWords 130 = .ok (.istore 6, 2) := dk_54 6 (dk_at dksX0_cutWords_5 13 rfl rfl)
theorem dX0_cutWords_132 : decode cX0_cutWords 132 = .ok (.iload_n 2, 1) := dk_28 (dk_at dksX0_cutWords_5 15 rfl rfl)
theorem dX0_cutWords_133 : decode cX0_cutWords 133 = .ok (.aload_n 0, 1) := dk_42 (dk_at dksX0_cutWords_5 16 rfl rfl)
theorem dX0_cutWords_134 : decode cX0_cutWords 134 = .ok (.getfield 24, 3) := dk_180 0 24 (dk_at dksX0_cutWords_5 17 rfl rfl)
theorem dX0_cutWords_137 : decode cX0_cutWords 137 = .ok (.if_icmp .ge 64, 3) := dk_162 0 64 (dk_at dksX0_cutWords_5 20 rfl rfl)
theorem dX0_cutWords_140 : decode cX0_cutWords 140 = .ok (.aload_n 0, 1) := dk_42 (dk_at dksX0_cutWords_5 23 rfl rfl)
theorem dX0_cutWords_141 : decode cX0_cutWords 141 = .ok (.getfield 27, 3) := dk_180 0 27 (dk_at dksX0_cutWords_6 0 rfl rfl)
theorem dX0_cutWords_144 : decode cX0_cutWords 144 = .ok (.iload_n 2, 1) := dk_28 (dk_at dksX0_cutWords_6 3 rfl rfl)
theorem dX0_cutWords_145 : decode cX0_cutWords 145 = .ok (.baload, 1) := dk_51 (dk_at dksX0_cutWords_6 4 rfl rfl)
theorem dX0_cutWords_146 : decode cX0_cutWords 146 = .ok (.invokestatic 94, 3) := dk_184 0 94 (dk_at dksX0_cutWords_6 5 rfl rfl)
theorem dX0_cutWords_149 : decode cX0_cutWords 149 = .ok (.ifCond .ne 52, 3) := dk_154 0 52 (dk_at dksX0_cutWords_6 8 rfl rfl)
theorem dX0_cutWords_152 : decode cX0_cutWords 152 = .ok (.aload_n 0, 1) := dk_42 (dk_at dksX0_cutWords_6 11 rfl rfl)
theorem dX0_cutWords_153 : decode cX0_cutWords 153 = .ok (.getfield 27, 3) := dk_180 0 27 (dk_at dksX0_cutWords_6 12 rfl rfl)
theorem dX0_cutWords_156 : decode cX0_cutWords 156 = .ok (.iload_n 2, 1) := dk_28 (dk_at dksX0_cutWords_6 15 rfl rfl)
theorem dX0_cutWords_157 : decode cX0_cutWords 157 = .ok (.baload, 1) := dk_51 (dk_at dksX0_cutWords_6 16 rfl rfl)
theorem dX0_cutWords_158 : decode cX0_cutWords 158 = .ok (.invokestatic 101, 3) := dk_184 0 101 (dk_at dksX0_cutWords_6 17 rfl rfl)
theorem dX0_cutWords_161 : decode cX0_cutWords 161 = .ok (.ifCond .ne 40, 3) := dk_154 0 40 (dk_at dksX0_cutWords_6 20 rfl rfl)
theorem dX0_cutWords_164 : decode cX0_cutWords 164 = .ok (.iload 6, 2) := dk_21 6 (dk_at dksX0_cutWords_7 0 rfl rfl)
theorem dX0_cutWords_166 : decode cX0_cutWords 166 = .ok (.bipush (-2), 2) := dk_16 254 (dk_at dksX0_cutWords_7 2 rfl rfl)
theorem dX0_cutWords_168 : decode cX0_cutWords 168 = .ok (.if_icmp .ne 23, 3) := dk_160 0 23 (dk_at dksX0_cutWords_7 4 rfl rfl)
theorem dX0_cutWords_171 : decode cX0_cutWords 171 = .ok (.aload_n 0, 1) := dk_42 (dk_at dksX0_cutWords_7 7 rfl rfl)
theorem dX0_cutWords_172 : decode cX0_cutWords 172 = .ok (.getfield 27, 3) := dk_180 0 27 (dk_at dksX0_cutWords_7 8 rfl rfl)
theorem dX0_cutWords_175 : decode cX0_cutWords 175 = .ok (.iload_n 2, 1) := dk_28 (dk_at dksX0_cutWords_7 11 rfl rfl)
theorem dX0_cutWords_176 : decode cX0_cutWords 176 = .ok (.baload, 1) := dk_51 (dk_at dksX0_cutWords_7 12 rfl rfl)
theorem dX0_cutWords_177 : decode cX0_cutWords 177 = .ok (.bipush 33, 2) := dk_16 33 (dk_at dksX0_cutWords_7 13 rfl rfl)
theorem dX0_cutWords_179 : decode cX0_cutWords 179 = .ok (.bipush 126, 2) := dk_16 126 (dk_at dksX0_cutWords_7 15 rfl rfl)
theorem dX0_cutWords_181 : decode cX0_cutWords 181 = .ok (.invokestatic 20, 3) := dk_184 0 20 (dk_at dksX0_cutWords_7 17 rfl rfl)
theorem dX0_cutWords_184 : decode cX0_cutWords 184 = .ok (.ifCond .ne 7, 3) := dk_154 0 7 (dk_at dksX0_cutWords_7 20 rfl rfl)
theorem dX0_cutWords_187 : decode cX0_cutWords 187 = .ok (.iload_n 2, 1) := dk_28 (dk_at dksX0_cutWords_7 23 rfl rfl)
theorem dX0_cutWords_188 : decode cX0_cutWords 188 = .ok (.goto 5, 3) := dk_167 0 5 (dk_at dksX0_cutWords_8 0 rfl rfl)
theorem dX0_cutWords_191 : decode cX0_cutWords 191 = .ok (.iload 6, 2) := dk_21 6 (dk_at dksX0_cutWords_8 3 rfl rfl)
theorem dX0_cutWords_193 : decode cX0_cutWords 193 = .ok (.istore 6, 2) := dk_54 6 (dk_at dksX0_cutWords_8 5 rfl rfl)
theorem dX0_cutWords_195 : decode cX0_cutWords 195 = .ok (.iinc 2 1, 3) := dk_132 2 1 (dk_at dksX0_cutWords_8 7 rfl rfl)
theorem dX0_cutWords_198 : decode cX0_cutWords 198 = .ok (.goto (-66), 3) := dk_167 255 190 (dk_at dksX0_cutWords_8 10 rfl rfl)
theorem dX0_cutWords_201 : decode cX0_cutWords 201 = .ok (.iload_n 2, 1) := dk_28 (dk_at dksX0_cutWords_8 13 rfl rfl)
theorem dX0_cutWords_202 : decode cX0_cutWords 202 = .ok (.iload 4, 2) := dk_21 4 (dk_at dksX0_cutWords_8 14 rfl rfl)
theorem dX0_cutWords_204 : decode cX0_cutWords 204 = .ok (.isub, 1) := dk_100 (dk_at dksX0_cutWords_8 16 rfl rfl)
theorem dX0_cutWords_205 : decode cX0_cutWords 205 = .ok (.bipush 16, 2) := dk_16 16 (dk_at dksX0_cutWords_8 17 rfl rfl)
theorem dX0_cutWords_207 : decode cX0_cutWords 207 = .ok (.if_icmp .le 7, 3) := dk_164 0 7 (dk_at dksX0_cutWords_8 19 rfl rfl)
theorem dX0_cutWords_210 : decode cX0_cutWords 210 = .ok (.iconst 1, 1) := dk_4 (dk_at dksX0_cutWords_8 22 rfl rfl)
theorem dX0_cutWords_211 : decode cX0_cutWords 211 = .ok (.goto 4, 3) := dk_167 0 4 (dk_at dksX0_cutWords_9 0 rfl rfl)
theorem dX0_cutWords_214 : decode cX0_cutWords 214 = .ok (.iconst 0, 1) := dk_3 (dk_at dksX0_cutWords_9 3 rfl rfl)
theorem dX0_cutWords_215 : decode cX0_cutWords 215 = .ok (.istore 7, 2) := dk_54 7 (dk_at dksX0_cutWords_9 4 rfl rfl)
theorem dX0_cutWords_217 : decode cX0_cutWords 217 = .ok (.iload 6, 2) := dk_21 6 (dk_at dksX0_cutWords_9 6 rfl rfl)
theorem dX0_cutWords_219 : decode cX0_cutWords 219 = .ok (.bipush (-2), 2) := dk_16 254 (dk_at dksX0_cutWords_9 8 rfl rfl)
theorem dX0_cutWords_221 : decode cX0_cutWords 221 = .ok (.if_icmp .eq 8, 3) := dk_159 0 8 (dk_at dksX0_cutWords_9 10 rfl rfl)
theorem dX0_cutWords_224 : decode cX0_cutWords 224 = .ok (.iload 7, 2) := dk_21 7 (dk_at dksX0_cutWords_9 13 rfl rfl)
theorem dX0_cutWords_226 : decode cX0_cutWords 226 = .ok (.ifCond .eq 8, 3) := dk_153 0 8 (dk_at dksX0_cutWords_9 15 rfl rfl)
theorem dX0_cutWords_229 : decode cX0_cutWords 229 = .ok (.iload 4, 2) := dk_21 4 (dk_at dksX0_cutWords_9 18 rfl rfl)
theorem dX0_cutWords_231 : decode cX0_cutWords 231 = .ok (.goto 5, 3) := dk_167 0 5 (dk_at dksX0_cutWords_9 20 rfl rfl)
theorem dX0_cutWords_234 : decode cX0_cutWords 234 = .ok (.iload 6, 2) := dk_21 6 (dk_at dksX0_cutWords_10 0 rfl rfl)
theorem dX0_cutWords_236 : decode cX0_cutWords 236 = .ok (.istore 4, 2) := dk_54 4 (dk_at dksX0_cutWords_10 2 rfl rfl)
theorem dX0_cutWords_238 : decode cX0_cutWords 238 = .ok (.iload 6, 2) := dk_21 6 (dk_at dksX0_cutWords_10 4 rfl rfl)
theorem dX0_cutWords_240 : decode cX0_cutWords 240 = .ok (.bipush (-2), 2) := dk_16 254 (dk_at dksX0_cutWords_10 6 rfl rfl)
theorem dX0_cutWords_242 : decode cX0_cutWords 242 = .ok (.if_icmp .ne 8, 3) := dk_160 0 8 (dk_at dksX0_cutWords_10 8 rfl rfl)
theorem dX0_cutWords_245 : decode cX0_cutWords 245 = .ok (.iload 7, 2) := dk_21 7 (dk_at dksX0_cutWords_10 11 rfl rfl)
theorem dX0_cutWords_247 : decode cX0_cutWords 247 = .ok (.ifCond .eq 7, 3) := dk_153 0 7 (dk_at dksX0_cutWords_10 13 rfl rfl)
theorem dX0_cutWords_250 : decode cX0_cutWords 250 = .ok (.iconst 4, 1) := dk_7 (dk_at dksX0_cutWords_10 16 rfl rfl)
theorem dX0_cutWords_251 : decode cX0_cutWords 251 = .ok (.goto 18, 3) := dk_167 0 18 (dk_at dksX0_cutWords_10 17 rfl rfl)
theorem dX0_cutWords_254 : decode cX0_cutWords 254 = .ok (.aload_n 0, 1) := dk_42 (dk_at dksX0_cutWords_10 20 rfl rfl)
theorem dX0_cutWords_255 : decode cX0_cutWords 255 = .ok (.iload 4, 2) := dk_21 4 (dk_at dksX0_cutWords_10 21 rfl rfl)
theorem dX0_cutWords_257 : decode cX0_cutWords 257 = .ok (.iload_n 2, 1) := dk_28 (dk_at dksX0_cutWords_10 23 rfl rfl)
theorem dX0_cutWords_258 : decode cX0_cutWords 258 = .ok (.invokevirtual 104, 3) := dk_182 0 104 (dk_at dksX0_cutWords_11 0 rfl rfl)
theorem dX0_cutWords_261 : decode cX0_cutWords 261 = .ok (.ifCond .lt 7, 3) := dk_155 0 7 (dk_at dksX0_cutWords_11 3 rfl rfl)
theorem dX0_cutWords_264 : decode cX0_cutWords 264 = .ok (.iconst 2, 1) := dk_5 (dk_at dksX0_cutWords_11 6 rfl rfl)
theorem dX0_cutWords_265 : decode cX0_cutWords 265 = .ok (.goto 4, 3) := dk_167 0 4 (dk_at dksX0_cutWords_11 7 rfl rfl)
theorem dX0_cutWords_268 : decode cX0_cutWords 268 = .ok (.iconst 0, 1) := dk_3 (dk_at dksX0_cutWords_11 10 rfl rfl)
theorem dX0_cutWords_269 : decode cX0_cutWords 269 = .ok (.istore 5, 2) := dk_54 5 (dk_at dksX0_cutWords_11 11 rfl rfl)
theorem dX0_cutWords_271 : decode cX0_cutWords 271 = .ok (.aload_n 0, 1) := dk_42 (dk_at dksX0_cutWords_11 13 rfl rfl)
theorem dX0_cutWords_272 : decode cX0_cutWords 272 = .ok (.getfield 108, 3) := dk_180 0 108 (dk_at dksX0_cutWords_11 14 rfl rfl)
theorem dX0_cutWords_275 : decode cX0_cutWords 275 = .ok (.aload_n 0, 1) := dk_42 (dk_at dksX0_cutWords_11 17 rfl rfl)
theorem dX0_cutWords_276 : decode cX0_cutWords 276 = .ok (.getfield 91, 3) := dk_180 0 91 (dk_at dksX0_cutWords_11 18 rfl rfl)
theorem dX0_cutWords_279 : decode cX0_cutWords 279 = .ok (.iload 5, 2) := dk_21 5 (dk_at dksX0_cutWords_11 21 rfl rfl)
theorem dX0_cutWords_281 : decode cX0_cutWords 281 = .ok (.iastore, 1) := dk_79 (dk_at dksX0_cutWords_11 23 rfl rfl)
theorem dX0_cutWords_282 : decode cX0_cutWords 282 = .ok (.aload_n 0, 1) := dk_42 (dk_at dksX0_cutWords_12 0 rfl rfl)
theorem dX0_cutWords_283 : decode cX0_cutWords 283 = .ok (.getfield 111, 3) := dk_180 0 111 (dk_at dksX0_cutWords_12 1 rfl rfl)
theorem dX0_cutWords_286 : decode cX0_cutWords 286 = .ok (.aload_n 0, 1) := dk_42 (dk_at dksX0_cutWords_12 4 rfl rfl)
theorem dX0_cutWords_287 : decode cX0_cutWords 287 = .ok (.getfield 91, 3) := dk_180 0 91 (dk_at dksX0_cutWords_12 5 rfl rfl)
theorem dX0_cutWords_290 : decode cX0_cutWords 290 = .ok (.iload 4, 2) := dk_21 4 (dk_at dksX0_cutWords_12 8 rfl rfl)
theorem dX0_cutWords_292 : decode cX0_cutWords 292 = .ok (.iastore, 1) := dk_79 (dk_at dksX0_cutWords_12 10 rfl rfl)
theorem dX0_cutWords_293 : decode cX0_cutWords 293 = .ok (.aload_n 0, 1) := dk_42 (dk_at dksX0_cutWords_12 11 rfl rfl)
theorem dX0_cutWords_294 : decode cX0_cutWords 294 = .ok (.getfield 114, 3) := dk_180 0 114 (dk_at dksX0_cutWords_12 12 rfl rfl)
theorem dX0_cutWords_297 : decode cX0_cutWords 297 = .ok (.aload_n 0, 1) := dk_42 (dk_at dksX0_cutWords_12 15 rfl rfl)
theorem dX0_cutWords_298 : decode cX0_cutWords 298 = .ok (.getfield 91, 3) := dk_180 0 91 (dk_at dksX0_cutWords_12 16 rfl rfl)
theorem dX0_cutWords_301 : decode cX0_cutWords 301 = .ok (.iload_n 2, 1) := dk_28 (dk_at dksX0_cutWords_12 19 rfl rfl)
theorem dX0_cutWords_302 : decode cX0_cutWords 302 = .ok (.iastore, 1) := dk_79 (dk_at dksX0_cutWords_12 20 rfl rfl)
theorem dX0_cutWords_303 : decode cX0_cutWords 303 = .ok (.aload_n 0, 1) := dk_42 (dk_at dksX0_cutWords_12 21 rfl rfl)
theorem dX0_cutWords_304 : decode cX0_cutWords 304 = .ok (.getfield 117, 3) := dk_180 0 117 (dk_at dksX0_cutWords_13 0 rfl rfl)
theorem dX0_cutWords_307 : decode cX0_cutWords 307 = .ok (.aload_n 0, 1) := dk_42 (dk_at dksX0_cutWords_13 3 rfl rfl)
theorem dX0_cutWords_308 : decode cX0_cutWords 308 = .ok (.getfield 91, 3) := dk_180 0 91 (dk_at dksX0_cutWords_13 4 rfl rfl)
theorem dX0_cutWords_311 : decode cX0_cutWords 311 = .ok (.iload 5, 2) := dk_21 5 (dk_at dksX0_cutWords_13 7 rfl rfl)
theorem dX0_cutWords_313 : decode cX0_cutWords 313 = .ok (.ifCond .eq 9, 3) := dk_153 0 9 (dk_at dksX0_cutWords_13 9 rfl rfl)
theorem dX0_cutWords_316 : decode cX0_cutWords 316 = .ok (.iload 5, 2) := dk_21 5 (dk_at dksX0_cutWords_13 12 rfl rfl)
theorem dX0_cutWords_318 : decode cX0_cutWords 318 = .ok (.iconst 1, 1) := dk_4 (dk_at dksX0_cutWords_13 14 rfl rfl)
theorem dX0_cutWords_319 : decode cX0_cutWords 319 = .ok (.if_icmp .ne 17, 3) := dk_160 0 17 (dk_at dksX0_cutWords_13 15 rfl rfl)
theorem dX0_cutWords_322 : decode cX0_cutWords 322 = .ok (.aload_n 0, 1) := dk_42 (dk_at dksX0_cutWords_13 18 rfl rfl)
theorem dX0_cutWords_323 : decode cX0_cutWords 323 = .ok (.aload_n 0, 1) := dk_42 (dk_at dksX0_cutWords_13 19 rfl rfl)
theorem dX0_cutWords_324 : decode cX0_cutWords 324 = .ok (.getfield 27, 3) := dk_180 0 27 (dk_at dksX0_cutWords_13 20 rfl rfl)
theorem dX0_cutWords_327 : decode cX0_cutWords 327 = .ok (.iload 4, 2) := dk_21 4 (dk_at dksX0_cutWords_14 0 rfl rfl)
theorem dX0_cutWords_329 : decode cX0_cutWords 329 = .ok (.iload_n 2, 1) := dk_28 (dk_at dksX0_cutWords_14 2 rfl rfl)
theorem dX0_cutWords_330 : decode cX0_cutWords 330 = .ok (.invokevirtual 120, 3) := dk_182 0 120 (dk_at dksX0_cutWords_14 3 rfl rfl)
theorem dX0_cutWords_333 : decode cX0_cutWords 333 = .ok (.goto 21, 3) := dk_167 0 21 (dk_at dksX0_cutWords_14 6 rfl rfl)
theorem dX0_cutWords_336 : decode cX0_cutWords 336 = .ok (.iload 5, 2) := dk_21 5 (dk_at dksX0_cutWords_14 9 rfl rfl)
theorem dX0_cutWords_338 : decode cX0_cutWords 338 = .ok (.iconst 2, 1) := dk_5 (dk_at dksX0_cutWords_14 11 rfl rfl)
theorem dX0_cutWords_339 : decode cX0_cutWords 339 = .ok (.if_icmp .ne 13, 3) := dk_160 0 13 (dk_at dksX0_cutWords_14 12 rfl rfl)
theorem dX0_cutWords_342 : decode cX0_cutWords 342 = .ok (.aload_n 0, 1) := dk_42 (dk_at dksX0_cutWords_14 15 rfl rfl)
theorem dX0_cutWords_343 : decode cX0_cutWords 343 = .ok (.iload 4, 2) := dk_21 4 (dk_at dksX0_cutWords_14 16 rfl rfl)
theorem dX0_cutWords_345 : decode cX0_cutWords 345 = .ok (.iload_n 2, 1) := dk_28 (dk_at dksX0_cutWords_14 18 rfl rfl)
theorem dX0_cutWords_346 : decode cX0_cutWords 346 = .ok (.invokevirtual 104, 3) := dk_182 0 104 (dk_at dksX0_cutWords_14 19 rfl rfl)
theorem dX0_cutWords_349 : decode cX0_cutWords 349 = .ok (.goto 5, 3) := dk_167 0 5 (dk_at dksX0_cutWords_15 0 rfl rfl)
theorem dX0_cutWords_352 : decode cX0_cutWords 352 = .ok (.bipush (-2), 2) := dk_16 254 (dk_at dksX0_cutWords_15 3 rfl rfl)
theorem dX0_cutWords_354 : decode cX0_cutWords 354 = .ok (.iastore, 1) := dk_79 (dk_at dksX0_cutWords_15 5 rfl rfl)
theorem dX0_cutWords_355 : decode cX0_cutWords 355 = .ok (.aload_n 0, 1) := dk_42 (dk_at dksX0_cutWords_15 6 rfl rfl)
theorem dX0_cutWords_356 : decode cX0_cutWords 356 = .ok (.dup, 1) := dk_89 (dk_at dksX0_cutWords_15 7 rfl rfl)
theorem dX0_cutWords_357 : decode cX0_cutWords 357 = .ok (.getfield 91, 3) := dk_180 0 91 (dk_at dksX0_cutWords_15 8 rfl rfl)
theorem dX0_cutWords_360 : decode cX0_cutWords 360 = .ok (.iconst 1, 1) := dk_4 (dk_at dksX0_cutWords_15 11 rfl rfl)
theorem dX0_cutWords_361 : decode cX0_cutWords 361 = .ok (.iadd, 1) := dk_96 (dk_at dksX0_cutWords_15 12 rfl rfl)
theorem dX0_cutWords_362 : decode cX0_cutWords 362 = .ok (.putfield 91, 3) := dk_181 0 91 (dk_at dksX0_cutWords_15 13 rfl rfl)
theorem dX0_cutWords_365 : decode cX0_cutWords 365 = .ok (.iload 5, 2) := dk_21 5 (dk_at dksX0_cutWords_15 16 rfl rfl)
theorem dX0_cutWords_367 : decode cX0_cutWords 367 = .ok (.iconst 3, 1) := dk_6 (dk_at dksX0_cutWords_15 18 rfl rfl)
theorem dX0_cutWords_368 : decode cX0_cutWords 368 = .ok (.if_icmp .ge 15, 3) := dk_162 0 15 (dk_at dksX0_cutWords_15 19 rfl rfl)
theorem dX0_cutWords_371 : decode cX0_cutWords 371 = .ok (.aload_n 0, 1) := dk_42 (dk_at dksX0_cutWords_15 22 rfl rfl)
theorem dX0_cutWords_372 : decode cX0_cutWords 372 = .ok (.getfield 91, 3) := dk_180 0 91 (dk_at dksX0_cutWords_16 0 rfl rfl)
theorem dX0_cutWords_375 : decode cX0_cutWords 375 = .ok (.iload_n 1, 1) := dk_27 (dk_at dksX0_cutWords_16 3 rfl rfl)
theorem dX0_cutWords_376 : decode cX0_cutWords 376 = .ok (.if_icmp .gt 7, 3) := dk_163 0 7 (dk_at dksX0_cutWords_16 4 rfl rfl)
theorem dX0_cutWords_379 : decode cX0_cutWords 379 = .ok (.iconst 1, 1) := dk_4 (dk_at dksX0_cutWords_16 7 rfl rfl)
theorem dX0_cutWords_380 : decode cX0_cutWords 380 = .ok (.goto 4, 3) := dk_167 0 4 (dk_at dksX0_cutWords_16 8 rfl rfl)
theorem dX0_cutWords_383 : decode cX0_cutWords 383 = .ok (.iconst 0, 1) := dk_3 (dk_at dksX0_cutWords_16 11 rfl rfl)
theorem dX0_cutWords_384 : decode cX0_cutWords 384 = .ok (.istore_n 3, 1) := dk_62 (dk_at dksX0_cutWords_16 12 rfl rfl)
theorem dX0_cutWords_385 : decode cX0_cutWords 385 = .ok (.goto (-371), 3) := dk_167 254 141 (dk_at dksX0_cutWords_16 13 rfl rfl)
theorem dX0_cutWords_388 : decode cX0_cutWords 388 = .ok (.return_, 1) := dk_177 (dk_at dksX0_cutWords_16 16 rfl rfl)
abbrev cX0_isBlank : ByteArray := prog_1_method_7_code
def yX0_isBlank : MethodName := ⟨RX0, "isBlank", "(I)Z"⟩
def dkwX0_isBlank_0 : List UInt8 := [26, 16, 32, 159, 0, 9, 26, 16, 10, 160, 0, 7, 4, 167, 0, 4, 3, 172]
abbrev dktX0_isBlank_0 : List UInt8 := dkwX0_isBlank_0 ++ []
theorem dksX0_isBlank_0 : cX0_isBlank.data.toList.drop 0 = dktX0_isBlank_0 := by decide +kernel
theorem dX0_isBlank_0 : decode cX0_isBlank 0 = .ok (.iload_n 0, 1) := dk_26 (dk_at dksX0_isBlank_0 0 rfl rfl)
theorem dX0_isBlank_1 : decode cX0_isBlank 1 = .ok (.bipush 32, 2) := dk_16 32 (dk_at dksX0_isBlank_0 1 rfl rfl)
theorem dX0_isBlank_3 : decode cX0_isBlank 3 = .ok (.if_icmp .eq 9, 3) := dk_159 0 9 (dk_at dksX0_isBlank_0 3 rfl rfl)
theorem dX0_isBlank_6 : decode cX0_isBlank 6 = .ok (.iload_n 0, 1) := dk_26 (dk_at dksX0_isBlank_0 6 rfl rfl)
theorem dX0_isBlank_7 : decode cX0_isBlank 7 = .ok (.bipush 10, 2) := dk_16 10 (dk_at dksX0_isBlank_0 7 rfl rfl)
theorem dX0_isBlank_9 : decode cX0_isBlank 9 = .ok (.if_icmp .ne 7, 3) := dk_160 0 7 (dk_at dksX0_isBlank_0 9 rfl rfl)
theorem dX0_isBlank_12 : decode cX0_isBlank 12 = .ok (.iconst 1, 1) := dk_4 (dk_at dksX0_isBlank_0 12 rfl rfl)
theorem dX0_isBlank_13 : decode cX0_isBlank 13 = .ok (.goto 4, 3) := dk_167 0 4 (dk_at dksX0_isBlank_0 13 rfl rfl)
theorem dX0_isBlank_16 : decode cX0_isBlank 16 = .ok (.iconst 0, 1) := dk_3 (dk_at dksX0_isBlank_0 16 rfl rfl)
theorem dX0_isBlank_17 : decode cX0_isBlank 17 = .ok (.ireturn, 1) := dk_172 (dk_at dksX0_isBlank_0 17 rfl rfl)
abbrev cX0_isStar : ByteArray := prog_1_method_8_code
def yX0_isStar : MethodName := ⟨RX0, "isStar", "(I)Z"⟩
def dkwX0_isStar_2 : List UInt8 := [160, 0, 7, 4, 167, 0, 4, 3, 172]
abbrev dktX0_isStar_2 : List UInt8 := dkwX0_isStar_2 ++ []
def dkwX0_isStar_1 : List UInt8 := [180, 0, 27, 27, 4, 96, 51, 16, 42, 160, 0, 20, 42, 180, 0, 27, 27, 5, 96, 51, 16, 42]
abbrev dktX0_isStar_1 : List UInt8 := dkwX0_isStar_1 ++ dktX0_isStar_2
def dkwX0_isStar_0 : List UInt8 := [27, 5, 96, 42, 180, 0, 24, 162, 0, 44, 42, 180, 0, 27, 27, 51, 16, 42, 160, 0, 33, 42]
abbrev dktX0_isStar_0 : List UInt8 := dkwX0_isStar_0 ++ dktX0_isStar_1
theorem dksX0_isStar_0 : cX0_isStar.data.toList.drop 0 = dktX0_isStar_0 := by decide +kernel
theorem dksX0_isStar_1 : cX0_isStar.data.toList.drop 22 = dktX0_isStar_1 := dk_seg dksX0_isStar_0 22 rfl rfl
theorem dksX0_isStar_2 : cX0_isStar.data.toList.drop 44 = dktX0_isStar_2 := dk_seg dksX0_isStar_1 22 rfl rfl
theorem dX0_isStar_0 : decode cX0_isStar 0 = .ok (.iload_n 1, 1) := dk_27 (dk_at dksX0_isStar_0 0 rfl rfl)
theorem dX0_isStar_1 : decode cX0_isStar 1 = .ok (.iconst 2, 1) := dk_5 (dk_at dksX0_isStar_0 1 rfl rfl)
theorem dX0_isStar_2 : decode cX0_isStar 2 = .ok (.iadd, 1) := dk_96 (dk_at dksX0_isStar_0 2 rfl rfl)
theorem dX0_isStar_3 : decode cX0_isStar 3 = .ok (.aload_n 0, 1) := dk_42 (dk_at dksX0_isStar_0 3 rfl rfl)
theorem dX0_isStar_4 : decode cX0_isStar 4 = .ok (.getfield 24, 3) := dk_180 0 24 (dk_at dksX0_isStar_0 4 rfl rfl)
theorem dX0_isStar_7 : decode cX0_isStar 7 = .ok (.if_icmp .ge 44, 3) := dk_162 0 44 (dk_at dksX0_isStar_0 7 rfl rfl)
theorem dX0_isStar_10 : decode cX0_isStar 10 = .ok (.aload_n 0, 1) := dk_42 (dk_at dksX0_isStar_0 10 rfl rfl)
theorem dX0_isStar_11 : decode cX0_isStar 11 = .ok (.getfield 27, 3) := dk_180 0 27 (dk_at dksX0_isStar_0 11 rfl rfl)
theorem dX0_isStar_14 : decode cX0_isStar 14 = .ok (.iload_n 1, 1) := dk_27 (dk_at dksX0_isStar_0 14 rfl rfl)
theorem dX0_isStar_15 : decode cX0_isStar 15 = .ok (.baload, 1) := dk_51 (dk_at dksX0_isStar_0 15 rfl rfl)
theorem dX0_isStar_16 : decode cX0_isStar 16 = .ok (.bipush 42, 2) := dk_16 42 (dk_at dksX0_isStar_0 16 rfl rfl)
theorem dX0_isStar_18 : decode cX0_isStar 18 = .ok (.if_icmp .ne 33, 3) := dk_160 0 33 (dk_at dksX0_isStar_0 18 rfl rfl)
theorem dX0_isStar_21 : decode cX0_isStar 21 = .ok (.aload_n 0, 1) := dk_42 (dk_at dksX0_isStar_0 21 rfl rfl)
theorem dX0_isStar_22 : decode cX0_isStar 22 = .ok (.getfield 27, 3) := dk_180 0 27 (dk_at dksX0_isStar_1 0 rfl rfl)
theorem dX0_isStar_25 : decode cX0_isStar 25 = .ok (.iload_n 1, 1) := dk_27 (dk_at dksX0_isStar_1 3 rfl rfl)
theorem dX0_isStar_26 : decode cX0_isStar 26 = .ok (.iconst 1, 1) := dk_4 (dk_at dksX0_isStar_1 4 rfl rfl)
theorem dX0_isStar_27 : decode cX0_isStar 27 = .ok (.iadd, 1) := dk_96 (dk_at dksX0_isStar_1 5 rfl rfl)
theorem dX0_isStar_28 : decode cX0_isStar 28 = .ok (.baload, 1) := dk_51 (dk_at dksX0_isStar_1 6 rfl rfl)
theorem dX0_isStar_29 : decode cX0_isStar 29 = .ok (.bipush 42, 2) := dk_16 42 (dk_at dksX0_isStar_1 7 rfl rfl)
theorem dX0_isStar_31 : decode cX0_isStar 31 = .ok (.if_icmp .ne 20, 3) := dk_160 0 20 (dk_at dksX0_isStar_1 9 rfl rfl)
theorem dX0_isStar_34 : decode cX0_isStar 34 = .ok (.aload_n 0, 1) := dk_42 (dk_at dksX0_isStar_1 12 rfl rfl)
theorem dX0_isStar_35 : decode cX0_isStar 35 = .ok (.getfield 27, 3) := dk_180 0 27 (dk_at dksX0_isStar_1 13 rfl rfl)
theorem dX0_isStar_38 : decode cX0_isStar 38 = .ok (.iload_n 1, 1) := dk_27 (dk_at dksX0_isStar_1 16 rfl rfl)
theorem dX0_isStar_39 : decode cX0_isStar 39 = .ok (.iconst 2, 1) := dk_5 (dk_at dksX0_isStar_1 17 rfl rfl)
theorem dX0_isStar_40 : decode cX0_isStar 40 = .ok (.iadd, 1) := dk_96 (dk_at dksX0_isStar_1 18 rfl rfl)
theorem dX0_isStar_41 : decode cX0_isStar 41 = .ok (.baload, 1) := dk_51 (dk_at dksX0_isStar_1 19 rfl rfl)
theorem dX0_isStar_42 : decode cX0_isStar 42 = .ok (.bipush 42, 2) := dk_16 42 (dk_at dksX0_isStar_1 20 rfl rfl)
theorem dX0_isStar_44 : decode cX0_isStar 44 = .ok (.if_icmp .ne 7, 3) := dk_160 0 7 (dk_at dksX0_isStar_2 0 rfl rfl)
theorem dX0_isStar_47 : decode cX0_isStar 47 = .ok (.iconst 1, 1) := dk_4 (dk_at dksX0_isStar_2 3 rfl rfl)
theorem dX0_isStar_48 : decode cX0_isStar 48 = .ok (.goto 4, 3) := dk_167 0 4 (dk_at dksX0_isStar_2 4 rfl rfl)
theorem dX0_isStar_51 : decode cX0_isStar 51 = .ok (.iconst 0, 1) := dk_3 (dk_at dksX0_isStar_2 7 rfl rfl)
theorem dX0_isStar_52 : decode cX0_isStar 52 = .ok (.ireturn, 1) := dk_172 (dk_at dksX0_isStar_2 8 rfl rfl)
abbrev cX0_isSpecial : ByteArray := prog_1_method_6_code
def yX0_isSpecial : MethodName := ⟨RX0, "isSpecial", "(I)Z"⟩
def dkwX0_isSpecial_1 : List UInt8 := [26, 16, 123, 159, 0, 15, 26, 16, 125, 159, 0, 9, 26, 16, 44, 160, 0, 7, 4, 167, 0, 4, 3, 172]
abbrev dktX0_isSpecial_1 : List UInt8 := dkwX0_isSpecial_1 ++ []
def dkwX0_isSpecial_0 : List UInt8 := [26, 16, 40, 159, 0, 39, 26, 16, 41, 159, 0, 33, 26, 16, 91, 159, 0, 27, 26, 16, 93, 159, 0, 21]
abbrev dktX0_isSpecial_0 : List UInt8 := dkwX0_isSpecial_0 ++ dktX0_isSpecial_1
theorem dksX0_isSpecial_0 : cX0_isSpecial.data.toList.drop 0 = dktX0_isSpecial_0 := by decide +kernel
theorem dksX0_isSpecial_1 : cX0_isSpecial.data.toList.drop 24 = dktX0_isSpecial_1 := dk_seg dksX0_isSpecial_0 24 rfl rfl
theorem dX0_isSpecial_0 : decode cX0_isSpecial 0 = .ok (.iload_n 0, 1) := dk_26 (dk_at dksX0_isSpecial_0 0 rfl rfl)
theorem dX0_isSpecial_1 : decode cX0_isSpecial 1 = .ok (.bipush 40, 2) := dk_16 40 (dk_at dksX0_isSpecial_0 1 rfl rfl)
theorem dX0_isSpecial_3 : decode cX0_isSpecial 3 = .ok (.if_icmp .eq 39, 3) := dk_159 0 39 (dk_at dksX0_isSpecial_0 3 rfl rfl)
theorem dX0_isSpecial_6 : decode cX0_isSpecial 6 = .ok (.iload_n 0, 1) := dk_26 (dk_at dksX0_isSpecial_0 6 rfl rfl)
theorem dX0_isSpecial_7 : decode cX0_isSpecial 7 = .ok (.bipush 41, 2) := dk_16 41 (dk_at dksX0_isSpecial_0 7 rfl rfl)
theorem dX0_isSpecial_9 : decode cX0_isSpecial 9 = .ok (.if_icmp .eq 33, 3) := dk_159 0 33 (dk_at dksX0_isSpecial_0 9 rfl rfl)
theorem dX0_isSpecial_12 : decode cX0_isSpecial 12 = .ok (.iload_n 0, 1) := dk_26 (dk_at dksX0_isSpecial_0 12 rfl rfl)
theorem dX0_isSpecial_13 : decode cX0_isSpecial 13 = .ok (.bipush 91, 2) := dk_16 91 (dk_at dksX0_isSpecial_0 13 rfl rfl)
theorem dX0_isSpecial_15 : decode cX0_isSpecial 15 = .ok (.if_icmp .eq 27, 3) := dk_159 0 27 (dk_at dksX0_isSpecial_0 15 rfl rfl)
theorem dX0_isSpecial_18 : decode cX0_isSpecial 18 = .ok (.iload_n 0, 1) := dk_26 (dk_at dksX0_isSpecial_0 18 rfl rfl)
theorem dX0_isSpecial_19 : decode cX0_isSpecial 19 = .ok (.bipush 93, 2) := dk_16 93 (dk_at dksX0_isSpecial_0 19 rfl rfl)
theorem dX0_isSpecial_21 : decode cX0_isSpecial 21 = .ok (.if_icmp .eq 21, 3) := dk_159 0 21 (dk_at dksX0_isSpecial_0 21 rfl rfl)
theorem dX0_isSpecial_24 : decode cX0_isSpecial 24 = .ok (.iload_n 0, 1) := dk_26 (dk_at dksX0_isSpecial_1 0 rfl rfl)
theorem dX0_isSpecial_25 : decode cX0_isSpecial 25 = .ok (.bipush 123, 2) := dk_16 123 (dk_at dksX0_isSpecial_1 1 rfl rfl)
theorem dX0_isSpecial_27 : decode cX0_isSpecial 27 = .ok (.if_icmp .eq 15, 3) := dk_159 0 15 (dk_at dksX0_isSpecial_1 3 rfl rfl)
theorem dX0_isSpecial_30 : decode cX0_isSpecial 30 = .ok (.iload_n 0, 1) := dk_26 (dk_at dksX0_isSpecial_1 6 rfl rfl)
theorem dX0_isSpecial_31 : decode cX0_isSpecial 31 = .ok (.bipush 125, 2) := dk_16 125 (dk_at dksX0_isSpecial_1 7 rfl rfl)
theorem dX0_isSpecial_33 : decode cX0_isSpecial 33 = .ok (.if_icmp .eq 9, 3) := dk_159 0 9 (dk_at dksX0_isSpecial_1 9 rfl rfl)
theorem dX0_isSpecial_36 : decode cX0_isSpecial 36 = .ok (.iload_n 0, 1) := dk_26 (dk_at dksX0_isSpecial_1 12 rfl rfl)
theorem dX0_isSpecial_37 : decode cX0_isSpecial 37 = .ok (.bipush 44, 2) := dk_16 44 (dk_at dksX0_isSpecial_1 13 rfl rfl)
theorem dX0_isSpecial_39 : decode cX0_isSpecial 39 = .ok (.if_icmp .ne 7, 3) := dk_160 0 7 (dk_at dksX0_isSpecial_1 15 rfl rfl)
theorem dX0_isSpecial_42 : decode cX0_isSpecial 42 = .ok (.iconst 1, 1) := dk_4 (dk_at dksX0_isSpecial_1 18 rfl rfl)
theorem dX0_isSpecial_43 : decode cX0_isSpecial 43 = .ok (.goto 4, 3) := dk_167 0 4 (dk_at dksX0_isSpecial_1 19 rfl rfl)
theorem dX0_isSpecial_46 : decode cX0_isSpecial 46 = .ok (.iconst 0, 1) := dk_3 (dk_at dksX0_isSpecial_1 22 rfl rfl)
theorem dX0_isSpecial_47 : decode cX0_isSpecial 47 = .ok (.ireturn, 1) := dk_172 (dk_at dksX0_isSpecial_1 23 rfl rfl)
abbrev cX0_reservedOf : ByteArray := prog_1_method_10_code
def yX0_reservedOf : MethodName := ⟨RX0, "reservedOf", "(II)I"⟩
def dkwX0_reservedOf_4 : List UInt8 := [28, 18, 70, 182, 0, 54, 153, 0, 8, 16, 7, 167, 0, 5, 16, 254, 172]
abbrev dktX0_reservedOf_4 : List UInt8 := dkwX0_reservedOf_4 ++ []
def dkwX0_reservedOf_3 : List UInt8 := [182, 0, 54, 153, 0, 5, 8, 172, 42, 27, 28, 18, 68, 182, 0, 54, 153, 0, 6, 16, 6, 172, 42, 27]
abbrev dktX0_reservedOf_3 : List UInt8 := dkwX0_reservedOf_3 ++ dktX0_reservedOf_4
def dkwX0_reservedOf_2 : List UInt8 := [153, 0, 5, 6, 172, 42, 27, 28, 18, 64, 182, 0, 54, 153, 0, 5, 7, 172, 42, 27, 28, 18, 66]
abbrev dktX0_reservedOf_2 : List UInt8 := dkwX0_reservedOf_2 ++ dktX0_reservedOf_3
def dkwX0_reservedOf_1 : List UInt8 := [4, 172, 42, 27, 28, 18, 60, 182, 0, 54, 153, 0, 5, 5, 172, 42, 27, 28, 18, 62, 182, 0, 54]
abbrev dktX0_reservedOf_1 : List UInt8 := dkwX0_reservedOf_1 ++ dktX0_reservedOf_2
def dkwX0_reservedOf_0 : List UInt8 := [42, 27, 28, 18, 52, 182, 0, 54, 153, 0, 5, 3, 172, 42, 27, 28, 18, 58, 182, 0, 54, 153, 0, 5]
abbrev dktX0_reservedOf_0 : List UInt8 := dkwX0_reservedOf_0 ++ dktX0_reservedOf_1
theorem dksX0_reservedOf_0 : cX0_reservedOf.data.toList.drop 0 = dktX0_reservedOf_0 := by decide +kernel
theorem dksX0_reservedOf_1 : cX0_reservedOf.data.toList.drop 24 = dktX0_reservedOf_1 := dk_seg dksX0_reservedOf_0 24 rfl rfl
theorem dksX0_reservedOf_2 : cX0_reservedOf.data.toList.drop 47 = dktX0_reservedOf_2 := dk_seg dksX0_reservedOf_1 23 rfl rfl
theorem dksX0_reservedOf_3 : cX0_reservedOf.data.toList.drop 70 = dktX0_reservedOf_3 := dk_seg dksX0_reservedOf_2 23 rfl rfl
theorem dksX0_reservedOf_4 : cX0_reservedOf.data.toList.drop 94 = dktX0_reservedOf_4 := dk_seg dksX0_reservedOf_3 24 rfl rfl
theorem dX0_reservedOf_0 : decode cX0_reservedOf 0 = .ok (.aload_n 0, 1) := dk_42 (dk_at dksX0_reservedOf_0 0 rfl rfl)
theorem dX0_reservedOf_1 : decode cX0_reservedOf 1 = .ok (.iload_n 1, 1) := dk_27 (dk_at dksX0_reservedOf_0 1 rfl rfl)
theorem dX0_reservedOf_2 : decode cX0_reservedOf 2 = .ok (.iload_n 2, 1) := dk_28 (dk_at dksX0_reservedOf_0 2 rfl rfl)
theorem dX0_reservedOf_3 : decode cX0_reservedOf 3 = .ok (.ldc 52, 2) := dk_18 52 (dk_at dksX0_reservedOf_0 3 rfl rfl)
theorem dX0_reservedOf_5 : decode cX0_reservedOf 5 = .ok (.invokevirtual 54, 3) := dk_182 0 54 (dk_at dksX0_reservedOf_0 5 rfl rfl)
theorem dX0_reservedOf_8 : decode cX0_reservedOf 8 = .ok (.ifCond .eq 5, 3) := dk_153 0 5 (dk_at dksX0_reservedOf_0 8 rfl rfl)
theorem dX0_reservedOf_11 : decode cX0_reservedOf 11 = .ok (.iconst 0, 1) := dk_3 (dk_at dksX0_reservedOf_0 11 rfl rfl)
theorem dX0_reservedOf_12 : decode cX0_reservedOf 12 = .ok (.ireturn, 1) := dk_172 (dk_at dksX0_reservedOf_0 12 rfl rfl)
theorem dX0_reservedOf_13 : decode cX0_reservedOf 13 = .ok (.aload_n 0, 1) := dk_42 (dk_at dksX0_reservedOf_0 13 rfl rfl)
theorem dX0_reservedOf_14 : decode cX0_reservedOf 14 = .ok (.iload_n 1, 1) := dk_27 (dk_at dksX0_reservedOf_0 14 rfl rfl)
theorem dX0_reservedOf_15 : decode cX0_reservedOf 15 = .ok (.iload_n 2, 1) := dk_28 (dk_at dksX0_reservedOf_0 15 rfl rfl)
theorem dX0_reservedOf_16 : decode cX0_reservedOf 16 = .ok (.ldc 58, 2) := dk_18 58 (dk_at dksX0_reservedOf_0 16 rfl rfl)
theorem dX0_reservedOf_18 : decode cX0_reservedOf 18 = .ok (.invokevirtual 54, 3) := dk_182 0 54 (dk_at dksX0_reservedOf_0 18 rfl rfl)
theorem dX0_reservedOf_21 : decode cX0_reservedOf 21 = .ok (.ifCond .eq 5, 3) := dk_153 0 5 (dk_at dksX0_reservedOf_0 21 rfl rfl)
theorem dX0_reservedOf_24 : decode cX0_reservedOf 24 = .ok (.iconst 1, 1) := dk_4 (dk_at dksX0_reservedOf_1 0 rfl rfl)
theorem dX0_reservedOf_25 : decode cX0_reservedOf 25 = .ok (.ireturn, 1) := dk_172 (dk_at dksX0_reservedOf_1 1 rfl rfl)
theorem dX0_reservedOf_26 : decode cX0_reservedOf 26 = .ok (.aload_n 0, 1) := dk_42 (dk_at dksX0_reservedOf_1 2 rfl rfl)
theorem dX0_reservedOf_27 : decode cX0_reservedOf 27 = .ok (.iload_n 1, 1) := dk_27 (dk_at dksX0_reservedOf_1 3 rfl rfl)
theorem dX0_reservedOf_28 : decode cX0_reservedOf 28 = .ok (.iload_n 2, 1) := dk_28 (dk_at dksX0_reservedOf_1 4 rfl rfl)
theorem dX0_reservedOf_29 : decode cX0_reservedOf 29 = .ok (.ldc 60, 2) := dk_18 60 (dk_at dksX0_reservedOf_1 5 rfl rfl)
theorem dX0_reservedOf_31 : decode cX0_reservedOf 31 = .ok (.invokevirtual 54, 3) := dk_182 0 54 (dk_at dksX0_reservedOf_1 7 rfl rfl)
theorem dX0_reservedOf_34 : decode cX0_reservedOf 34 = .ok (.ifCond .eq 5, 3) := dk_153 0 5 (dk_at dksX0_reservedOf_1 10 rfl rfl)
theorem dX0_reservedOf_37 : decode cX0_reservedOf 37 = .ok (.iconst 2, 1) := dk_5 (dk_at dksX0_reservedOf_1 13 rfl rfl)
theorem dX0_reservedOf_38 : decode cX0_reservedOf 38 = .ok (.ireturn, 1) := dk_172 (dk_at dksX0_reservedOf_1 14 rfl rfl)
theorem dX0_reservedOf_39 : decode cX0_reservedOf 39 = .ok (.aload_n 0, 1) := dk_42 (dk_at dksX0_reservedOf_1 15 rfl rfl)
theorem dX0_reservedOf_40 : decode cX0_reservedOf 40 = .ok (.iload_n 1, 1) := dk_27 (dk_at dksX0_reservedOf_1 16 rfl rfl)
theorem dX0_reservedOf_41 : decode cX0_reservedOf 41 = .ok (.iload_n 2, 1) := dk_28 (dk_at dksX0_reservedOf_1 17 rfl rfl)
theorem dX0_reservedOf_42 : decode cX0_reservedOf 42 = .ok (.ldc 62, 2) := dk_18 62 (dk_at dksX0_reservedOf_1 18 rfl rfl)
theorem dX0_reservedOf_44 : decode cX0_reservedOf 44 = .ok (.invokevirtual 54, 3) := dk_182 0 54 (dk_at dksX0_reservedOf_1 20 rfl rfl)
theorem dX0_reservedOf_47 : decode cX0_reservedOf 47 = .ok (.ifCond .eq 5, 3) := dk_153 0 5 (dk_at dksX0_reservedOf_2 0 rfl rfl)
theorem dX0_reservedOf_50 : decode cX0_reservedOf 50 = .ok (.iconst 3, 1) := dk_6 (dk_at dksX0_reservedOf_2 3 rfl rfl)
theorem dX0_reservedOf_51 : decode cX0_reservedOf 51 = .ok (.ireturn, 1) := dk_172 (dk_at dksX0_reservedOf_2 4 rfl rfl)
theorem dX0_reservedOf_52 : decode cX0_reservedOf 52 = .ok (.aload_n 0, 1) := dk_42 (dk_at dksX0_reservedOf_2 5 rfl rfl)
theorem dX0_reservedOf_53 : decode cX0_reservedOf 53 = .ok (.iload_n 1, 1) := dk_27 (dk_at dksX0_reservedOf_2 6 rfl rfl)
theorem dX0_reservedOf_54 : decode cX0_reservedOf 54 = .ok (.iload_n 2, 1) := dk_28 (dk_at dksX0_reservedOf_2 7 rfl rfl)
theorem dX0_reservedOf_55 : decode cX0_reservedOf 55 = .ok (.ldc 64, 2) := dk_18 64 (dk_at dksX0_reservedOf_2 8 rfl rfl)
theorem dX0_reservedOf_57 : decode cX0_reservedOf 57 = .ok (.invokevirtual 54, 3) := dk_182 0 54 (dk_at dksX0_reservedOf_2 10 rfl rfl)
theorem dX0_reservedOf_60 : decode cX0_reservedOf 60 = .ok (.ifCond .eq 5, 3) := dk_153 0 5 (dk_at dksX0_reservedOf_2 13 rfl rfl)
theorem dX0_reservedOf_63 : decode cX0_reservedOf 63 = .ok (.iconst 4, 1) := dk_7 (dk_at dksX0_reservedOf_2 16 rfl rfl)
theorem dX0_reservedOf_64 : decode cX0_reservedOf 64 = .ok (.ireturn, 1) := dk_172 (dk_at dksX0_reservedOf_2 17 rfl rfl)
theorem dX0_reservedOf_65 : decode cX0_reservedOf 65 = .ok (.aload_n 0, 1) := dk_42 (dk_at dksX0_reservedOf_2 18 rfl rfl)
theorem dX0_reservedOf_66 : decode cX0_reservedOf 66 = .ok (.iload_n 1, 1) := dk_27 (dk_at dksX0_reservedOf_2 19 rfl rfl)
theorem dX0_reservedOf_67 : decode cX0_reservedOf 67 = .ok (.iload_n 2, 1) := dk_28 (dk_at dksX0_reservedOf_2 20 rfl rfl)
theorem dX0_reservedOf_68 : decode cX0_reservedOf 68 = .ok (.ldc 66, 2) := dk_18 66 (dk_at dksX0_reservedOf_2 21 rfl rfl)
theorem dX0_reservedOf_70 : decode cX0_reservedOf 70 = .ok (.invokevirtual 54, 3) := dk_182 0 54 (dk_at dksX0_reservedOf_3 0 rfl rfl)
theorem dX0_reservedOf_73 : decode cX0_reservedOf 73 = .ok (.ifCond .eq 5, 3) := dk_153 0 5 (dk_at dksX0_reservedOf_3 3 rfl rfl)
theorem dX0_reservedOf_76 : decode cX0_reservedOf 76 = .ok (.iconst 5, 1) := dk_8 (dk_at dksX0_reservedOf_3 6 rfl rfl)
theorem dX0_reservedOf_77 : decode cX0_reservedOf 77 = .ok (.ireturn, 1) := dk_172 (dk_at dksX0_reservedOf_3 7 rfl rfl)
theorem dX0_reservedOf_78 : decode cX0_reservedOf 78 = .ok (.aload_n 0, 1) := dk_42 (dk_at dksX0_reservedOf_3 8 rfl rfl)
theorem dX0_reservedOf_79 : decode cX0_reservedOf 79 = .ok (.iload_n 1, 1) := dk_27 (dk_at dksX0_reservedOf_3 9 rfl rfl)
theorem dX0_reservedOf_80 : decode cX0_reservedOf 80 = .ok (.iload_n 2, 1) := dk_28 (dk_at dksX0_reservedOf_3 10 rfl rfl)
theorem dX0_reservedOf_81 : decode cX0_reservedOf 81 = .ok (.ldc 68, 2) := dk_18 68 (dk_at dksX0_reservedOf_3 11 rfl rfl)
theorem dX0_reservedOf_83 : decode cX0_reservedOf 83 = .ok (.invokevirtual 54, 3) := dk_182 0 54 (dk_at dksX0_reservedOf_3 13 rfl rfl)
theorem dX0_reservedOf_86 : decode cX0_reservedOf 86 = .ok (.ifCond .eq 6, 3) := dk_153 0 6 (dk_at dksX0_reservedOf_3 16 rfl rfl)
theorem dX0_reservedOf_89 : decode cX0_reservedOf 89 = .ok (.bipush 6, 2) := dk_16 6 (dk_at dksX0_reservedOf_3 19 rfl rfl)
theorem dX0_reservedOf_91 : decode cX0_reservedOf 91 = .ok (.ireturn, 1) := dk_172 (dk_at dksX0_reservedOf_3 21 rfl rfl)
theorem dX0_reservedOf_92 : decode cX0_reservedOf 92 = .ok (.aload_n 0, 1) := dk_42 (dk_at dksX0_reservedOf_3 22 rfl rfl)
theorem dX0_reservedOf_93 : decode cX0_reservedOf 93 = .ok (.iload_n 1, 1) := dk_27 (dk_at dksX0_reservedOf_3 23 rfl rfl)
theorem dX0_reservedOf_94 : decode cX0_reservedOf 94 = .ok (.iload_n 2, 1) := dk_28 (dk_at dksX0_reservedOf_4 0 rfl rfl)
theorem dX0_reservedOf_95 : decode cX0_reservedOf 95 = .ok (.ldc 70, 2) := dk_18 70 (dk_at dksX0_reservedOf_4 1 rfl rfl)
theorem dX0_reservedOf_97 : decode cX0_reservedOf 97 = .ok (.invokevirtual 54, 3) := dk_182 0 54 (dk_at dksX0_reservedOf_4 3 rfl rfl)
theorem dX0_reservedOf_100 : decode cX0_reservedOf 100 = .ok (.ifCond .eq 8, 3) := dk_153 0 8 (dk_at dksX0_reservedOf_4 6 rfl rfl)
theorem dX0_reservedOf_103 : decode cX0_reservedOf 103 = .ok (.bipush 7, 2) := dk_16 7 (dk_at dksX0_reservedOf_4 9 rfl rfl)
theorem dX0_reservedOf_105 : decode cX0_reservedOf 105 = .ok (.goto 5, 3) := dk_167 0 5 (dk_at dksX0_reservedOf_4 11 rfl rfl)
theorem dX0_reservedOf_108 : decode cX0_reservedOf 108 = .ok (.bipush (-2), 2) := dk_16 254 (dk_at dksX0_reservedOf_4 14 rfl rfl)
theorem dX0_reservedOf_110 : decode cX0_reservedOf 110 = .ok (.ireturn, 1) := dk_172 (dk_at dksX0_reservedOf_4 16 rfl rfl)
abbrev cX0_isText : ByteArray := prog_1_method_9_code
def yX0_isText : MethodName := ⟨RX0, "isText", "(IILjava/lang/String;)Z"⟩
def dkwX0_isText_2 : List UInt8 := [160, 0, 7, 4, 167, 0, 4, 3, 54, 4, 132, 5, 1, 167, 255, 215, 21, 4, 172]
abbrev dktX0_isText_2 : List UInt8 := dkwX0_isText_2 ++ []
def dkwX0_isText_1 : List UInt8 := [100, 162, 0, 39, 21, 4, 153, 0, 34, 42, 180, 0, 27, 27, 21, 5, 96, 51, 45, 21, 5, 182, 0, 48]
abbrev dktX0_isText_1 : List UInt8 := dkwX0_isText_1 ++ dktX0_isText_2
def dkwX0_isText_0 : List UInt8 := [28, 27, 100, 45, 182, 0, 42, 160, 0, 7, 4, 167, 0, 4, 3, 54, 4, 3, 54, 5, 21, 5, 28, 27]
abbrev dktX0_isText_0 : List UInt8 := dkwX0_isText_0 ++ dktX0_isText_1
theorem dksX0_isText_0 : cX0_isText.data.toList.drop 0 = dktX0_isText_0 := by decide +kernel
theorem dksX0_isText_1 : cX0_isText.data.toList.drop 24 = dktX0_isText_1 := dk_seg dksX0_isText_0 24 rfl rfl
theorem dksX0_isText_2 : cX0_isText.data.toList.drop 48 = dktX0_isText_2 := dk_seg dksX0_isText_1 24 rfl rfl
theorem dX0_isText_0 : decode cX0_isText 0 = .ok (.iload_n 2, 1) := dk_28 (dk_at dksX0_isText_0 0 rfl rfl)
theorem dX0_isText_1 : decode cX0_isText 1 = .ok (.iload_n 1, 1) := dk_27 (dk_at dksX0_isText_0 1 rfl rfl)
theorem dX0_isText_2 : decode cX0_isText 2 = .ok (.isub, 1) := dk_100 (dk_at dksX0_isText_0 2 rfl rfl)
theorem dX0_isText_3 : decode cX0_isText 3 = .ok (.aload_n 3, 1) := dk_45 (dk_at dksX0_isText_0 3 rfl rfl)
theorem dX0_isText_4 : decode cX0_isText 4 = .ok (.invokevirtual 42, 3) := dk_182 0 42 (dk_at dksX0_isText_0 4 rfl rfl)
theorem dX0_isText_7 : decode cX0_isText 7 = .ok (.if_icmp .ne 7, 3) := dk_160 0 7 (dk_at dksX0_isText_0 7 rfl rfl)
theorem dX0_isText_10 : decode cX0_isText 10 = .ok (.iconst 1, 1) := dk_4 (dk_at dksX0_isText_0 10 rfl rfl)
theorem dX0_isText_11 : decode cX0_isText 11 = .ok (.goto 4, 3) := dk_167 0 4 (dk_at dksX0_isText_0 11 rfl rfl)
theorem dX0_isText_14 : decode cX0_isText 14 = .ok (.iconst 0, 1) := dk_3 (dk_at dksX0_isText_0 14 rfl rfl)
theorem dX0_isText_15 : decode cX0_isText 15 = .ok (.istore 4, 2) := dk_54 4 (dk_at dksX0_isText_0 15 rfl rfl)
theorem dX0_isText_17 : decode cX0_isText 17 = .ok (.iconst 0, 1) := dk_3 (dk_at dksX0_isText_0 17 rfl rfl)
theorem dX0_isText_18 : decode cX0_isText 18 = .ok (.istore 5, 2) := dk_54 5 (dk_at dksX0_isText_0 18 rfl rfl)
theorem dX0_isText_20 : decode cX0_isText 20 = .ok (.iload 5, 2) := dk_21 5 (dk_at dksX0_isText_0 20 rfl rfl)
theorem dX0_isText_22 : decode cX0_isText 22 = .ok (.iload_n 2, 1) := dk_28 (dk_at dksX0_isText_0 22 rfl rfl)
theorem dX0_isText_23 : decode cX0_isText 23 = .ok (.iload_n 1, 1) := dk_27 (dk_at dksX0_isText_0 23 rfl rfl)
theorem dX0_isText_24 : decode cX0_isText 24 = .ok (.isub, 1) := dk_100 (dk_at dksX0_isText_1 0 rfl rfl)
theorem dX0_isText_25 : decode cX0_isText 25 = .ok (.if_icmp .ge 39, 3) := dk_162 0 39 (dk_at dksX0_isText_1 1 rfl rfl)
theorem dX0_isText_28 : decode cX0_isText 28 = .ok (.iload 4, 2) := dk_21 4 (dk_at dksX0_isText_1 4 rfl rfl)
theorem dX0_isText_30 : decode cX0_isText 30 = .ok (.ifCond .eq 34, 3) := dk_153 0 34 (dk_at dksX0_isText_1 6 rfl rfl)
theorem dX0_isText_33 : decode cX0_isText 33 = .ok (.aload_n 0, 1) := dk_42 (dk_at dksX0_isText_1 9 rfl rfl)
theorem dX0_isText_34 : decode cX0_isText 34 = .ok (.getfield 27, 3) := dk_180 0 27 (dk_at dksX0_isText_1 10 rfl rfl)
theorem dX0_isText_37 : decode cX0_isText 37 = .ok (.iload_n 1, 1) := dk_27 (dk_at dksX0_isText_1 13 rfl rfl)
theorem dX0_isText_38 : decode cX0_isText 38 = .ok (.iload 5, 2) := dk_21 5 (dk_at dksX0_isText_1 14 rfl rfl)
theorem dX0_isText_40 : decode cX0_isText 40 = .ok (.iadd, 1) := dk_96 (dk_at dksX0_isText_1 16 rfl rfl)
theorem dX0_isText_41 : decode cX0_isText 41 = .ok (.baload, 1) := dk_51 (dk_at dksX0_isText_1 17 rfl rfl)
theorem dX0_isText_42 : decode cX0_isText 42 = .ok (.aload_n 3, 1) := dk_45 (dk_at dksX0_isText_1 18 rfl rfl)
theorem dX0_isText_43 : decode cX0_isText 43 = .ok (.iload 5, 2) := dk_21 5 (dk_at dksX0_isText_1 19 rfl rfl)
theorem dX0_isText_45 : decode cX0_isText 45 = .ok (.invokevirtual 48, 3) := dk_182 0 48 (dk_at dksX0_isText_1 21 rfl rfl)
theorem dX0_isText_48 : decode cX0_isText 48 = .ok (.if_icmp .ne 7, 3) := dk_160 0 7 (dk_at dksX0_isText_2 0 rfl rfl)
theorem dX0_isText_51 : decode cX0_isText 51 = .ok (.iconst 1, 1) := dk_4 (dk_at dksX0_isText_2 3 rfl rfl)
theorem dX0_isText_52 : decode cX0_isText 52 = .ok (.goto 4, 3) := dk_167 0 4 (dk_at dksX0_isText_2 4 rfl rfl)
theorem dX0_isText_55 : decode cX0_isText 55 = .ok (.iconst 0, 1) := dk_3 (dk_at dksX0_isText_2 7 rfl rfl)
theorem dX0_isText_56 : decode cX0_isText 56 = .ok (.istore 4, 2) := dk_54 4 (dk_at dksX0_isText_2 8 rfl rfl)
theorem dX0_isText_58 : decode cX0_isText 58 = .ok (.iinc 5 1, 3) := dk_132 5 1 (dk_at dksX0_isText_2 10 rfl rfl)
theorem dX0_isText_61 : decode cX0_isText 61 = .ok (.goto (-41), 3) := dk_167 255 215 (dk_at dksX0_isText_2 13 rfl rfl)
theorem dX0_isText_64 : decode cX0_isText 64 = .ok (.iload 4, 2) := dk_21 4 (dk_at dksX0_isText_2 16 rfl rfl)
theorem dX0_isText_66 : decode cX0_isText 66 = .ok (.ireturn, 1) := dk_172 (dk_at dksX0_isText_2 18 rfl rfl)
abbrev cX0_idOf : ByteArray := prog_1_method_11_code
def yX0_idOf : MethodName := ⟨RX0, "idOf", "([BII)I"⟩
def dkwX0_idOf_7 : List UInt8 := [180, 0, 85, 79, 42, 89, 180, 0, 72, 90, 4, 96, 181, 0, 72, 172]
abbrev dktX0_idOf_7 : List UInt8 := dkwX0_idOf_7 ++ []
def dkwX0_idOf_6 : List UInt8 := [181, 0, 85, 43, 21, 4, 51, 84, 132, 4, 1, 167, 255, 227, 42, 180, 0, 75, 42, 180, 0, 72, 42]
abbrev dktX0_idOf_6 : List UInt8 := dkwX0_idOf_6 ++ dktX0_idOf_7
def dkwX0_idOf_5 : List UInt8 := [79, 28, 54, 4, 21, 4, 29, 162, 0, 29, 42, 180, 0, 82, 42, 89, 180, 0, 85, 90, 4, 96]
abbrev dktX0_idOf_5 : List UInt8 := dkwX0_idOf_5 ++ dktX0_idOf_6
def dkwX0_idOf_4 : List UInt8 := [153, 0, 6, 21, 4, 172, 132, 4, 1, 167, 255, 155, 42, 180, 0, 79, 42, 180, 0, 72, 42, 180, 0, 85]
abbrev dktX0_idOf_4 : List UInt8 := dkwX0_idOf_4 ++ dktX0_idOf_5
def dkwX0_idOf_3 : List UInt8 := [43, 28, 21, 6, 96, 51, 160, 0, 7, 4, 167, 0, 4, 3, 54, 5, 132, 6, 1, 167, 255, 209, 21, 5]
abbrev dktX0_idOf_3 : List UInt8 := dkwX0_idOf_3 ++ dktX0_idOf_4
def dkwX0_idOf_2 : List UInt8 := [100, 162, 0, 45, 21, 5, 153, 0, 40, 42, 180, 0, 82, 42, 180, 0, 79, 21, 4, 46, 21, 6, 96, 51]
abbrev dktX0_idOf_2 : List UInt8 := dkwX0_idOf_2 ++ dktX0_idOf_3
def dkwX0_idOf_1 : List UInt8 := [21, 4, 46, 100, 29, 28, 100, 160, 0, 7, 4, 167, 0, 4, 3, 54, 5, 3, 54, 6, 21, 6, 29, 28]
abbrev dktX0_idOf_1 : List UInt8 := dkwX0_idOf_1 ++ dktX0_idOf_2
def dkwX0_idOf_0 : List UInt8 := [3, 54, 4, 21, 4, 42, 180, 0, 72, 162, 0, 98, 42, 180, 0, 75, 21, 4, 46, 42, 180, 0, 79]
abbrev dktX0_idOf_0 : List UInt8 := dkwX0_idOf_0 ++ dktX0_idOf_1
theorem dksX0_idOf_0 : cX0_idOf.data.toList.drop 0 = dktX0_idOf_0 := by decide +kernel
theorem dksX0_idOf_1 : cX0_idOf.data.toList.drop 23 = dktX0_idOf_1 := dk_seg dksX0_idOf_0 23 rfl rfl
theorem dksX0_idOf_2 : cX0_idOf.data.toList.drop 47 = dktX0_idOf_2 := dk_seg dksX0_idOf_1 24 rfl rfl
theorem dksX0_idOf_3 : cX0_idOf.data.toList.drop 71 = dktX0_idOf_3 := dk_seg dksX0_idOf_2 24 rfl rfl
theorem dksX0_idOf_4 : cX0_idOf.data.toList.drop 95 = dktX0_idOf_4 := dk_seg dksX0_idOf_3 24 rfl rfl
theorem dksX0_idOf_5 : cX0_idOf.data.toList.drop 119 = dktX0_idOf_5 := dk_seg dksX0_idOf_4 24 rfl rfl
theorem dksX0_idOf_6 : cX0_idOf.data.toList.drop 141 = dktX0_idOf_6 := dk_seg dksX0_idOf_5 22 rfl rfl
theorem dksX0_idOf_7 : cX0_idOf.data.toList.drop 164 = dktX0_idOf_7 := dk_seg dksX0_idOf_6 23 rfl rfl
theorem dX0_idOf_0 : decode cX0_idOf 0 = .ok (.iconst 0, 1) := dk_3 (dk_at dksX0_idOf_0 0 rfl rfl)
theorem dX0_idOf_1 : decode cX0_idOf 1 = .ok (.istore 4, 2) := dk_54 4 (dk_at dksX0_idOf_0 1 rfl rfl)
theorem dX0_idOf_3 : decode cX0_idOf 3 = .ok (.iload 4, 2) := dk_21 4 (dk_at dksX0_idOf_0 3 rfl rfl)
theorem dX0_idOf_5 : decode cX0_idOf 5 = .ok (.aload_n 0, 1) := dk_42 (dk_at dksX0_idOf_0 5 rfl rfl)
theorem dX0_idOf_6 : decode cX0_idOf 6 = .ok (.getfield 72, 3) := dk_180 0 72 (dk_at dksX0_idOf_0 6 rfl rfl)
theorem dX0_idOf_9 : decode cX0_idOf 9 = .ok (.if_icmp .ge 98, 3) := dk_162 0 98 (dk_at dksX0_idOf_0 9 rfl rfl)
theorem dX0_idOf_12 : decode cX0_idOf 12 = .ok (.aload_n 0, 1) := dk_42 (dk_at dksX0_idOf_0 12 rfl rfl)
theorem dX0_idOf_13 : decode cX0_idOf 13 = .ok (.getfield 75, 3) := dk_180 0 75 (dk_at dksX0_idOf_0 13 rfl rfl)
theorem dX0_idOf_16 : decode cX0_idOf 16 = .ok (.iload 4, 2) := dk_21 4 (dk_at dksX0_idOf_0 16 rfl rfl)
theorem dX0_idOf_18 : decode cX0_idOf 18 = .ok (.iaload, 1) := dk_46 (dk_at dksX0_idOf_0 18 rfl rfl)
theorem dX0_idOf_19 : decode cX0_idOf 19 = .ok (.aload_n 0, 1) := dk_42 (dk_at dksX0_idOf_0 19 rfl rfl)
theorem dX0_idOf_20 : decode cX0_idOf 20 = .ok (.getfield 79, 3) := dk_180 0 79 (dk_at dksX0_idOf_0 20 rfl rfl)
theorem dX0_idOf_23 : decode cX0_idOf 23 = .ok (.iload 4, 2) := dk_21 4 (dk_at dksX0_idOf_1 0 rfl rfl)
theorem dX0_idOf_25 : decode cX0_idOf 25 = .ok (.iaload, 1) := dk_46 (dk_at dksX0_idOf_1 2 rfl rfl)
theorem dX0_idOf_26 : decode cX0_idOf 26 = .ok (.isub, 1) := dk_100 (dk_at dksX0_idOf_1 3 rfl rfl)
theorem dX0_idOf_27 : decode cX0_idOf 27 = .ok (.iload_n 3, 1) := dk_29 (dk_at dksX0_idOf_1 4 rfl rfl)
theorem dX0_idOf_28 : decode cX0_idOf 28 = .ok (.iload_n 2, 1) := dk_28 (dk_at dksX0_idOf_1 5 rfl rfl)
theorem dX0_idOf_29 : decode cX0_idOf 29 = .ok (.isub, 1) := dk_100 (dk_at dksX0_idOf_1 6 rfl rfl)
theorem dX0_idOf_30 : decode cX0_idOf 30 = .ok (.if_icmp .ne 7, 3) := dk_160 0 7 (dk_at dksX0_idOf_1 7 rfl rfl)
theorem dX0_idOf_33 : decode cX0_idOf 33 = .ok (.iconst 1, 1) := dk_4 (dk_at dksX0_idOf_1 10 rfl rfl)
theorem dX0_idOf_34 : decode cX0_idOf 34 = .ok (.goto 4, 3) := dk_167 0 4 (dk_at dksX0_idOf_1 11 rfl rfl)
theorem dX0_idOf_37 : decode cX0_idOf 37 = .ok (.iconst 0, 1) := dk_3 (dk_at dksX0_idOf_1 14 rfl rfl)
theorem dX0_idOf_38 : decode cX0_idOf 38 = .ok (.istore 5, 2) := dk_54 5 (dk_at dksX0_idOf_1 15 rfl rfl)
theorem dX0_idOf_40 : decode cX0_idOf 40 = .ok (.iconst 0, 1) := dk_3 (dk_at dksX0_idOf_1 17 rfl rfl)
theorem dX0_idOf_41 : decode cX0_idOf 41 = .ok (.istore 6, 2) := dk_54 6 (dk_at dksX0_idOf_1 18 rfl rfl)
theorem dX0_idOf_43 : decode cX0_idOf 43 = .ok (.iload 6, 2) := dk_21 6 (dk_at dksX0_idOf_1 20 rfl rfl)
theorem dX0_idOf_45 : decode cX0_idOf 45 = .ok (.iload_n 3, 1) := dk_29 (dk_at dksX0_idOf_1 22 rfl rfl)
theorem dX0_idOf_46 : decode cX0_idOf 46 = .ok (.iload_n 2, 1) := dk_28 (dk_at dksX0_idOf_1 23 rfl rfl)
theorem dX0_idOf_47 : decode cX0_idOf 47 = .ok (.isub, 1) := dk_100 (dk_at dksX0_idOf_2 0 rfl rfl)
theorem dX0_idOf_48 : decode cX0_idOf 48 = .ok (.if_icmp .ge 45, 3) := dk_162 0 45 (dk_at dksX0_idOf_2 1 rfl rfl)
theorem dX0_idOf_51 : decode cX0_idOf 51 = .ok (.iload 5, 2) := dk_21 5 (dk_at dksX0_idOf_2 4 rfl rfl)
theorem dX0_idOf_53 : decode cX0_idOf 53 = .ok (.ifCond .eq 40, 3) := dk_153 0 40 (dk_at dksX0_idOf_2 6 rfl rfl)
theorem dX0_idOf_56 : decode cX0_idOf 56 = .ok (.aload_n 0, 1) := dk_42 (dk_at dksX0_idOf_2 9 rfl rfl)
theorem dX0_idOf_57 : decode cX0_idOf 57 = .ok (.getfield 82, 3) := dk_180 0 82 (dk_at dksX0_idOf_2 10 rfl rfl)
theorem dX0_idOf_60 : decode cX0_idOf 60 = .ok (.aload_n 0, 1) := dk_42 (dk_at dksX0_idOf_2 13 rfl rfl)
theorem dX0_idOf_61 : decode cX0_idOf 61 = .ok (.getfield 79, 3) := dk_180 0 79 (dk_at dksX0_idOf_2 14 rfl rfl)
theorem dX0_idOf_64 : decode cX0_idOf 64 = .ok (.iload 4, 2) := dk_21 4 (dk_at dksX0_idOf_2 17 rfl rfl)
theorem dX0_idOf_66 : decode cX0_idOf 66 = .ok (.iaload, 1) := dk_46 (dk_at dksX0_idOf_2 19 rfl rfl)
theorem dX0_idOf_67 : decode cX0_idOf 67 = .ok (.iload 6, 2) := dk_21 6 (dk_at dksX0_idOf_2 20 rfl rfl)
theorem dX0_idOf_69 : decode cX0_idOf 69 = .ok (.iadd, 1) := dk_96 (dk_at dksX0_idOf_2 22 rfl rfl)
theorem dX0_idOf_70 : decode cX0_idOf 70 = .ok (.baload, 1) := dk_51 (dk_at dksX0_idOf_2 23 rfl rfl)
theorem dX0_idOf_71 : decode cX0_idOf 71 = .ok (.aload_n 1, 1) := dk_43 (dk_at dksX0_idOf_3 0 rfl rfl)
theorem dX0_idOf_72 : decode cX0_idOf 72 = .ok (.iload_n 2, 1) := dk_28 (dk_at dksX0_idOf_3 1 rfl rfl)
theorem dX0_idOf_73 : decode cX0_idOf 73 = .ok (.iload 6, 2) := dk_21 6 (dk_at dksX0_idOf_3 2 rfl rfl)
theorem dX0_idOf_75 : decode cX0_idOf 75 = .ok (.iadd, 1) := dk_96 (dk_at dksX0_idOf_3 4 rfl rfl)
theorem dX0_idOf_76 : decode cX0_idOf 76 = .ok (.baload, 1) := dk_51 (dk_at dksX0_idOf_3 5 rfl rfl)
theorem dX0_idOf_77 : decode cX0_idOf 77 = .ok (.if_icmp .ne 7, 3) := dk_160 0 7 (dk_at dksX0_idOf_3 6 rfl rfl)
theorem dX0_idOf_80 : decode cX0_idOf 80 = .ok (.iconst 1, 1) := dk_4 (dk_at dksX0_idOf_3 9 rfl rfl)
theorem dX0_idOf_81 : decode cX0_idOf 81 = .ok (.goto 4, 3) := dk_167 0 4 (dk_at dksX0_idOf_3 10 rfl rfl)
theorem dX0_idOf_84 : decode cX0_idOf 84 = .ok (.iconst 0, 1) := dk_3 (dk_at dksX0_idOf_3 13 rfl rfl)
theorem dX0_idOf_85 : decode cX0_idOf 85 = .ok (.istore 5, 2) := dk_54 5 (dk_at dksX0_idOf_3 14 rfl rfl)
theorem dX0_idOf_87 : decode cX0_idOf 87 = .ok (.iinc 6 1, 3) := dk_132 6 1 (dk_at dksX0_idOf_3 16 rfl rfl)
theorem dX0_idOf_90 : decode cX0_idOf 90 = .ok (.goto (-47), 3) := dk_167 255 209 (dk_at dksX0_idOf_3 19 rfl rfl)
theorem dX0_idOf_93 : decode cX0_idOf 93 = .ok (.iload 5, 2) := dk_21 5 (dk_at dksX0_idOf_3 22 rfl rfl)
theorem dX0_idOf_95 : decode cX0_idOf 95 = .ok (.ifCond .eq 6, 3) := dk_153 0 6 (dk_at dksX0_idOf_4 0 rfl rfl)
theorem dX0_idOf_98 : decode cX0_idOf 98 = .ok (.iload 4, 2) := dk_21 4 (dk_at dksX0_idOf_4 3 rfl rfl)
theorem dX0_idOf_100 : decode cX0_idOf 100 = .ok (.ireturn, 1) := dk_172 (dk_at dksX0_idOf_4 5 rfl rfl)
theorem dX0_idOf_101 : decode cX0_idOf 101 = .ok (.iinc 4 1, 3) := dk_132 4 1 (dk_at dksX0_idOf_4 6 rfl rfl)
theorem dX0_idOf_104 : decode cX0_idOf 104 = .ok (.goto (-101), 3) := dk_167 255 155 (dk_at dksX0_idOf_4 9 rfl rfl)
theorem dX0_idOf_107 : decode cX0_idOf 107 = .ok (.aload_n 0, 1) := dk_42 (dk_at dksX0_idOf_4 12 rfl rfl)
theorem dX0_idOf_108 : decode cX0_idOf 108 = .ok (.getfield 79, 3) := dk_180 0 79 (dk_at dksX0_idOf_4 13 rfl rfl)
theorem dX0_idOf_111 : decode cX0_idOf 111 = .ok (.aload_n 0, 1) := dk_42 (dk_at dksX0_idOf_4 16 rfl rfl)
theorem dX0_idOf_112 : decode cX0_idOf 112 = .ok (.getfield 72, 3) := dk_180 0 72 (dk_at dksX0_idOf_4 17 rfl rfl)
theorem dX0_idOf_115 : decode cX0_idOf 115 = .ok (.aload_n 0, 1) := dk_42 (dk_at dksX0_idOf_4 20 rfl rfl)
theorem dX0_idOf_116 : decode cX0_idOf 116 = .ok (.getfield 85, 3) := dk_180 0 85 (dk_at dksX0_idOf_4 21 rfl rfl)
theorem dX0_idOf_119 : decode cX0_idOf 119 = .ok (.iastore, 1) := dk_79 (dk_at dksX0_idOf_5 0 rfl rfl)
theorem dX0_idOf_120 : decode cX0_idOf 120 = .ok (.iload_n 2, 1) := dk_28 (dk_at dksX0_idOf_5 1 rfl rfl)
theorem dX0_idOf_121 : decode cX0_idOf 121 = .ok (.istore 4, 2) := dk_54 4 (dk_at dksX0_idOf_5 2 rfl rfl)
theorem dX0_idOf_123 : decode cX0_idOf 123 = .ok (.iload 4, 2) := dk_21 4 (dk_at dksX0_idOf_5 4 rfl rfl)
theorem dX0_idOf_125 : decode cX0_idOf 125 = .ok (.iload_n 3, 1) := dk_29 (dk_at dksX0_idOf_5 6 rfl rfl)
theorem dX0_idOf_126 : decode cX0_idOf 126 = .ok (.if_icmp .ge 29, 3) := dk_162 0 29 (dk_at dksX0_idOf_5 7 rfl rfl)
theorem dX0_idOf_129 : decode cX0_idOf 129 = .ok (.aload_n 0, 1) := dk_42 (dk_at dksX0_idOf_5 10 rfl rfl)
theorem dX0_idOf_130 : decode cX0_idOf 130 = .ok (.getfield 82, 3) := dk_180 0 82 (dk_at dksX0_idOf_5 11 rfl rfl)
theorem dX0_idOf_133 : decode cX0_idOf 133 = .ok (.aload_n 0, 1) := dk_42 (dk_at dksX0_idOf_5 14 rfl rfl)
theorem dX0_idOf_134 : decode cX0_idOf 134 = .ok (.dup, 1) := dk_89 (dk_at dksX0_idOf_5 15 rfl rfl)
theorem dX0_idOf_135 : decode cX0_idOf 135 = .ok (.getfield 85, 3) := dk_180 0 85 (dk_at dksX0_idOf_5 16 rfl rfl)
theorem dX0_idOf_138 : decode cX0_idOf 138 = .ok (.dup_x1, 1) := dk_90 (dk_at dksX0_idOf_5 19 rfl rfl)
theorem dX0_idOf_139 : decode cX0_idOf 139 = .ok (.iconst 1, 1) := dk_4 (dk_at dksX0_idOf_5 20 rfl rfl)
theorem dX0_idOf_140 : decode cX0_idOf 140 = .ok (.iadd, 1) := dk_96 (dk_at dksX0_idOf_5 21 rfl rfl)
theorem dX0_idOf_141 : decode cX0_idOf 141 = .ok (.putfield 85, 3) := dk_181 0 85 (dk_at dksX0_idOf_6 0 rfl rfl)
theorem dX0_idOf_144 : decode cX0_idOf 144 = .ok (.aload_n 1, 1) := dk_43 (dk_at dksX0_idOf_6 3 rfl rfl)
theorem dX0_idOf_145 : decode cX0_idOf 145 = .ok (.iload 4, 2) := dk_21 4 (dk_at dksX0_idOf_6 4 rfl rfl)
theorem dX0_idOf_147 : decode cX0_idOf 147 = .ok (.baload, 1) := dk_51 (dk_at dksX0_idOf_6 6 rfl rfl)
theorem dX0_idOf_148 : decode cX0_idOf 148 = .ok (.bastore, 1) := dk_84 (dk_at dksX0_idOf_6 7 rfl rfl)
theorem dX0_idOf_149 : decode cX0_idOf 149 = .ok (.iinc 4 1, 3) := dk_132 4 1 (dk_at dksX0_idOf_6 8 rfl rfl)
theorem dX0_idOf_152 : decode cX0_idOf 152 = .ok (.goto (-29), 3) := dk_167 255 227 (dk_at dksX0_idOf_6 11 rfl rfl)
theorem dX0_idOf_155 : decode cX0_idOf 155 = .ok (.aload_n 0, 1) := dk_42 (dk_at dksX0_idOf_6 14 rfl rfl)
theorem dX0_idOf_156 : decode cX0_idOf 156 = .ok (.getfield 75, 3) := dk_180 0 75 (dk_at dksX0_idOf_6 15 rfl rfl)
theorem dX0_idOf_159 : decode cX0_idOf 159 = .ok (.aload_n 0, 1) := dk_42 (dk_at dksX0_idOf_6 18 rfl rfl)
theorem dX0_idOf_160 : decode cX0_idOf 160 = .ok (.getfield 72, 3) := dk_180 0 72 (dk_at dksX0_idOf_6 19 rfl rfl)
theorem dX0_idOf_163 : decode cX0_idOf 163 = .ok (.aload_n 0, 1) := dk_42 (dk_at dksX0_idOf_6 22 rfl rfl)
theorem dX0_idOf_164 : decode cX0_idOf 164 = .ok (.getfield 85, 3) := dk_180 0 85 (dk_at dksX0_idOf_7 0 rfl rfl)
theorem dX0_idOf_167 : decode cX0_idOf 167 = .ok (.iastore, 1) := dk_79 (dk_at dksX0_idOf_7 3 rfl rfl)
theorem dX0_idOf_168 : decode cX0_idOf 168 = .ok (.aload_n 0, 1) := dk_42 (dk_at dksX0_idOf_7 4 rfl rfl)
theorem dX0_idOf_169 : decode cX0_idOf 169 = .ok (.dup, 1) := dk_89 (dk_at dksX0_idOf_7 5 rfl rfl)
theorem dX0_idOf_170 : decode cX0_idOf 170 = .ok (.getfield 72, 3) := dk_180 0 72 (dk_at dksX0_idOf_7 6 rfl rfl)
theorem dX0_idOf_173 : decode cX0_idOf 173 = .ok (.dup_x1, 1) := dk_90 (dk_at dksX0_idOf_7 9 rfl rfl)
theorem dX0_idOf_174 : decode cX0_idOf 174 = .ok (.iconst 1, 1) := dk_4 (dk_at dksX0_idOf_7 10 rfl rfl)
theorem dX0_idOf_175 : decode cX0_idOf 175 = .ok (.iadd, 1) := dk_96 (dk_at dksX0_idOf_7 11 rfl rfl)
theorem dX0_idOf_176 : decode cX0_idOf 176 = .ok (.putfield 72, 3) := dk_181 0 72 (dk_at dksX0_idOf_7 12 rfl rfl)
theorem dX0_idOf_179 : decode cX0_idOf 179 = .ok (.ireturn, 1) := dk_172 (dk_at dksX0_idOf_7 15 rfl rfl)
abbrev cX0_readText : ByteArray := prog_1_method_24_code
def yX0_readText : MethodName := ⟨RX0, "readText", "()Z"⟩
def dkwX0_readText_1 : List UInt8 := [167, 255, 234, 27, 172]
abbrev dktX0_readText_1 : List UInt8 := dkwX0_readText_1 ++ []
def dkwX0_readText_0 : List UInt8 := [4, 60, 27, 153, 0, 24, 42, 180, 0, 108, 42, 180, 0, 39, 46, 6, 159, 0, 11, 42, 182, 0, 213, 60]
abbrev dktX0_readText_0 : List UInt8 := dkwX0_readText_0 ++ dktX0_readText_1
theorem dksX0_readText_0 : cX0_readText.data.toList.drop 0 = dktX0_readText_0 := by decide +kernel
theorem dksX0_readText_1 : cX0_readText.data.toList.drop 24 = dktX0_readText_1 := dk_seg dksX0_readText_0 24 rfl rfl
theorem dX0_readText_0 : decode cX0_readText 0 = .ok (.iconst 1, 1) := dk_4 (dk_at dksX0_readText_0 0 rfl rfl)
theorem dX0_readText_1 : decode cX0_readText 1 = .ok (.istore_n 1, 1) := dk_60 (dk_at dksX0_readText_0 1 rfl rfl)
theorem dX0_readText_2 : decode cX0_readText 2 = .ok (.iload_n 1, 1) := dk_27 (dk_at dksX0_readText_0 2 rfl rfl)
theorem dX0_readText_3 : decode cX0_readText 3 = .ok (.ifCond .eq 24, 3) := dk_153 0 24 (dk_at dksX0_readText_0 3 rfl rfl)
theorem dX0_readText_6 : decode cX0_readText 6 = .ok (.aload_n 0, 1) := dk_42 (dk_at dksX0_readText_0 6 rfl rfl)
theorem dX0_readText_7 : decode cX0_readText 7 = .ok (.getfield 108, 3) := dk_180 0 108 (dk_at dksX0_readText_0 7 rfl rfl)
theorem dX0_readText_10 : decode cX0_readText 10 = .ok (.aload_n 0, 1) := dk_42 (dk_at dksX0_readText_0 10 rfl rfl)
theorem dX0_readText_11 : decode cX0_readText 11 = .ok (.getfield 39, 3) := dk_180 0 39 (dk_at dksX0_readText_0 11 rfl rfl)
theorem dX0_readText_14 : decode cX0_readText 14 = .ok (.iaload, 1) := dk_46 (dk_at dksX0_readText_0 14 rfl rfl)
theorem dX0_readText_15 : decode cX0_readText 15 = .ok (.iconst 3, 1) := dk_6 (dk_at dksX0_readText_0 15 rfl rfl)
theorem dX0_readText_16 : decode cX0_readText 16 = .ok (.if_icmp .eq 11, 3) := dk_159 0 11 (dk_at dksX0_readText_0 16 rfl rfl)
theorem dX0_readText_19 : decode cX0_readText 19 = .ok (.aload_n 0, 1) := dk_42 (dk_at dksX0_readText_0 19 rfl rfl)
theorem dX0_readText_20 : decode cX0_readText 20 = .ok (.invokevirtual 213, 3) := dk_182 0 213 (dk_at dksX0_readText_0 20 rfl rfl)
theorem dX0_readText_23 : decode cX0_readText 23 = .ok (.istore_n 1, 1) := dk_60 (dk_at dksX0_readText_0 23 rfl rfl)
theorem dX0_readText_24 : decode cX0_readText 24 = .ok (.goto (-22), 3) := dk_167 255 234 (dk_at dksX0_readText_1 0 rfl rfl)
theorem dX0_readText_27 : decode cX0_readText 27 = .ok (.iload_n 1, 1) := dk_27 (dk_at dksX0_readText_1 3 rfl rfl)
theorem dX0_readText_28 : decode cX0_readText 28 = .ok (.ireturn, 1) := dk_172 (dk_at dksX0_readText_1 4 rfl rfl)
abbrev cX0_readStatement : ByteArray := prog_1_method_25_code
def yX0_readStatement : MethodName := ⟨RX0, "readStatement", "()Z"⟩
def dkwX0_readStatement_6 : List UInt8 := [42, 4, 42, 180, 0, 39, 182, 0, 132, 172]
abbrev dktX0_readStatement_6 : List UInt8 := dkwX0_readStatement_6 ++ []
def dkwX0_readStatement_5 : List UInt8 := [153, 0, 8, 42, 182, 0, 244, 172, 42, 18, 247, 182, 0, 218, 153, 0, 10, 42, 182, 0, 249, 167, 0, 12]
abbrev dktX0_readStatement_5 : List UInt8 := dkwX0_readStatement_5 ++ dktX0_readStatement_6
def dkwX0_readStatement_4 : List UInt8 := [153, 0, 7, 4, 167, 0, 4, 3, 172, 42, 18, 240, 182, 0, 218, 154, 0, 12, 42, 18, 242, 182, 0, 218]
abbrev dktX0_readStatement_4 : List UInt8 := dkwX0_readStatement_4 ++ dktX0_readStatement_5
def dkwX0_readStatement_3 : List UInt8 := [182, 0, 232, 172, 42, 18, 235, 182, 0, 218, 153, 0, 23, 42, 182, 0, 138, 153, 0, 14, 42, 182, 0, 237]
abbrev dktX0_readStatement_3 : List UInt8 := dkwX0_readStatement_3 ++ dktX0_readStatement_4
def dkwX0_readStatement_2 : List UInt8 := [182, 0, 227, 153, 0, 7, 4, 167, 0, 4, 3, 172, 42, 18, 230, 182, 0, 218, 153, 0, 8, 42]
abbrev dktX0_readStatement_2 : List UInt8 := dkwX0_readStatement_2 ++ dktX0_readStatement_3
def dkwX0_readStatement_1 : List UInt8 := [167, 0, 4, 3, 172, 42, 18, 225, 182, 0, 218, 153, 0, 23, 42, 182, 0, 138, 153, 0, 14, 42]
abbrev dktX0_readStatement_1 : List UInt8 := dkwX0_readStatement_1 ++ dktX0_readStatement_2
def dkwX0_readStatement_0 : List UInt8 := [42, 18, 216, 182, 0, 218, 153, 0, 23, 42, 182, 0, 138, 153, 0, 14, 42, 182, 0, 222, 153, 0, 7, 4]
abbrev dktX0_readStatement_0 : List UInt8 := dkwX0_readStatement_0 ++ dktX0_readStatement_1
theorem dksX0_readStatement_0 : cX0_readStatement.data.toList.drop 0 = dktX0_readStatement_0 := by decide +kernel
theorem dksX0_readStatement_1 : cX0_readStatement.data.toList.drop 24 = dktX0_readStatement_1 := dk_seg dksX0_readStatement_0 24 rfl rfl
theorem dksX0_readStatement_2 : cX0_readStatement.data.toList.drop 46 = dktX0_readStatement_2 := dk_seg dksX0_readStatement_1 22 rfl rfl
theorem dksX0_readStatement_3 : cX0_readStatement.data.toList.drop 68 = dktX0_readStatement_3 := dk_seg dksX0_readStatement_2 22 rfl rfl
theorem dksX0_readStatement_4 : cX0_readStatement.data.toList.drop 92 = dktX0_readStatement_4 := dk_seg dksX0_readStatement_3 24 rfl rfl
theorem dksX0_readStatement_5 : cX0_readStatement.data.toList.drop 116 = dktX0_readStatement_5 := dk_seg dksX0_readStatement_4 24 rfl rfl
theorem dksX0_readStatement_6 : cX0_readStatement.data.toList.drop 140 = dktX0_readStatement_6 := dk_seg dksX0_readStatement_5 24 rfl rfl
theorem dX0_readStatement_0 : decode cX0_readStatement 0 = .ok (.aload_n 0, 1) := dk_42 (dk_at dksX0_readStatement_0 0 rfl rfl)
theorem dX0_readStatement_1 : decode cX0_readStatement 1 = .ok (.ldc 216, 2) := dk_18 216 (dk_at dksX0_readStatement_0 1 rfl rfl)
theorem dX0_readStatement_3 : decode cX0_readStatement 3 = .ok (.invokevirtual 218, 3) := dk_182 0 218 (dk_at dksX0_readStatement_0 3 rfl rfl)
theorem dX0_readStatement_6 : decode cX0_readStatement 6 = .ok (.ifCond .eq 23, 3) := dk_153 0 23 (dk_at dksX0_readStatement_0 6 rfl rfl)
theorem dX0_readStatement_9 : decode cX0_readStatement 9 = .ok (.aload_n 0, 1) := dk_42 (dk_at dksX0_readStatement_0 9 rfl rfl)
theorem dX0_readStatement_10 : decode cX0_readStatement 10 = .ok (.invokevirtual 138, 3) := dk_182 0 138 (dk_at dksX0_readStatement_0 10 rfl rfl)
theorem dX0_readStatement_13 : decode cX0_readStatement 13 = .ok (.ifCond .eq 14, 3) := dk_153 0 14 (dk_at dksX0_readStatement_0 13 rfl rfl)
theorem dX0_readStatement_16 : decode cX0_readStatement 16 = .ok (.aload_n 0, 1) := dk_42 (dk_at dksX0_readStatement_0 16 rfl rfl)
theorem dX0_readStatement_17 : decode cX0_readStatement 17 = .ok (.invokevirtual 222, 3) := dk_182 0 222 (dk_at dksX0_readStatement_0 17 rfl rfl)
theorem dX0_readStatement_20 : decode cX0_readStatement 20 = .ok (.ifCond .eq 7, 3) := dk_153 0 7 (dk_at dksX0_readStatement_0 20 rfl rfl)
theorem dX0_readStatement_23 : decode cX0_readStatement 23 = .ok (.iconst 1, 1) := dk_4 (dk_at dksX0_readStatement_0 23 rfl rfl)
theorem dX0_readStatement_24 : decode cX0_readStatement 24 = .ok (.goto 4, 3) := dk_167 0 4 (dk_at dksX0_readStatement_1 0 rfl rfl)
theorem dX0_readStatement_27 : decode cX0_readStatement 27 = .ok (.iconst 0, 1) := dk_3 (dk_at dksX0_readStatement_1 3 rfl rfl)
theorem dX0_readStatement_28 : decode cX0_readStatement 28 = .ok (.ireturn, 1) := dk_172 (dk_at dksX0_readStatement_1 4 rfl rfl)
theorem dX0_readStatement_29 : decode cX0_readStatement 29 = .ok (.aload_n 0, 1) := dk_42 (dk_at dksX0_readStatement_1 5 rfl rfl)
theorem dX0_readStatement_30 : decode cX0_readStatement 30 = .ok (.ldc 225, 2) := dk_18 225 (dk_at dksX0_readStatement_1 6 rfl rfl)
theorem dX0_readStatement_32 : decode cX0_readStatement 32 = .ok (.invokevirtual 218, 3) := dk_182 0 218 (dk_at dksX0_readStatement_1 8 rfl rfl)
theorem dX0_readStatement_35 : decode cX0_readStatement 35 = .ok (.ifCond .eq 23, 3) := dk_153 0 23 (dk_at dksX0_readStatement_1 11 rfl rfl)
theorem dX0_readStatement_38 : decode cX0_readStatement 38 = .ok (.aload_n 0, 1) := dk_42 (dk_at dksX0_readStatement_1 14 rfl rfl)
theorem dX0_readStatement_39 : decode cX0_readStatement 39 = .ok (.invokevirtual 138, 3) := dk_182 0 138 (dk_at dksX0_readStatement_1 15 rfl rfl)
theorem dX0_readStatement_42 : decode cX0_readStatement 42 = .ok (.ifCond .eq 14, 3) := dk_153 0 14 (dk_at dksX0_readStatement_1 18 rfl rfl)
theorem dX0_readStatement_45 : decode cX0_readStatement 45 = .ok (.aload_n 0, 1) := dk_42 (dk_at dksX0_readStatement_1 21 rfl rfl)
theorem dX0_readStatement_46 : decode cX0_readStatement 46 = .ok (.invokevirtual 227, 3) := dk_182 0 227 (dk_at dksX0_readStatement_2 0 rfl rfl)
theorem dX0_readStatement_49 : decode cX0_readStatement 49 = .ok (.ifCond .eq 7, 3) := dk_153 0 7 (dk_at dksX0_readStatement_2 3 rfl rfl)
theorem dX0_readStatement_52 : decode cX0_readStatement 52 = .ok (.iconst 1, 1) := dk_4 (dk_at dksX0_readStatement_2 6 rfl rfl)
theorem dX0_readStatement_53 : decode cX0_readStatement 53 = .ok (.goto 4, 3) := dk_167 0 4 (dk_at dksX0_readStatement_2 7 rfl rfl)
theorem dX0_readStatement_56 : decode cX0_readStatement 56 = .ok (.iconst 0, 1) := dk_3 (dk_at dksX0_readStatement_2 10 rfl rfl)
theorem dX0_readStatement_57 : decode cX0_readStatement 57 = .ok (.ireturn, 1) := dk_172 (dk_at dksX0_readStatement_2 11 rfl rfl)
theorem dX0_readStatement_58 : decode cX0_readStatement 58 = .ok (.aload_n 0, 1) := dk_42 (dk_at dksX0_readStatement_2 12 rfl rfl)
theorem dX0_readStatement_59 : decode cX0_readStatement 59 = .ok (.ldc 230, 2) := dk_18 230 (dk_at dksX0_readStatement_2 13 rfl rfl)
theorem dX0_readStatement_61 : decode cX0_readStatement 61 = .ok (.invokevirtual 218, 3) := dk_182 0 218 (dk_at dksX0_readStatement_2 15 rfl rfl)
theorem dX0_readStatement_64 : decode cX0_readStatement 64 = .ok (.ifCond .eq 8, 3) := dk_153 0 8 (dk_at dksX0_readStatement_2 18 rfl rfl)
theorem dX0_readStatement_67 : decode cX0_readStatement 67 = .ok (.aload_n 0, 1) := dk_42 (dk_at dksX0_readStatement_2 21 rfl rfl)
theorem dX0_readStatement_68 : decode cX0_readStatement 68 = .ok (.invokevirtual 232, 3) := dk_182 0 232 (dk_at dksX0_readStatement_3 0 rfl rfl)
theorem dX0_readStatement_71 : decode cX0_readStatement 71 = .ok (.ireturn, 1) := dk_172 (dk_at dksX0_readStatement_3 3 rfl rfl)
theorem dX0_readStatement_72 : decode cX0_readStatement 72 = .ok (.aload_n 0, 1) := dk_42 (dk_at dksX0_readStatement_3 4 rfl rfl)
theorem dX0_readStatement_73 : decode cX0_readStatement 73 = .ok (.ldc 235, 2) := dk_18 235 (dk_at dksX0_readStatement_3 5 rfl rfl)
theorem dX0_readStatement_75 : decode cX0_readStatement 75 = .ok (.invokevirtual 218, 3) := dk_182 0 218 (dk_at dksX0_readStatement_3 7 rfl rfl)
theorem dX0_readStatement_78 : decode cX0_readStatement 78 = .ok (.ifCond .eq 23, 3) := dk_153 0 23 (dk_at dksX0_readStatement_3 10 rfl rfl)
theorem dX0_readStatement_81 : decode cX0_readStatement 81 = .ok (.aload_n 0, 1) := dk_42 (dk_at dksX0_readStatement_3 13 rfl rfl)
theorem dX0_readStatement_82 : decode cX0_readStatement 82 = .ok (.invokevirtual 138, 3) := dk_182 0 138 (dk_at dksX0_readStatement_3 14 rfl rfl)
theorem dX0_readStatement_85 : decode cX0_readStatement 85 = .ok (.ifCond .eq 14, 3) := dk_153 0 14 (dk_at dksX0_readStatement_3 17 rfl rfl)
theorem dX0_readStatement_88 : decode cX0_readStatement 88 = .ok (.aload_n 0, 1) := dk_42 (dk_at dksX0_readStatement_3 20 rfl rfl)
theorem dX0_readStatement_89 : decode cX0_readStatement 89 = .ok (.invokevirtual 237, 3) := dk_182 0 237 (dk_at dksX0_readStatement_3 21 rfl rfl)
theorem dX0_readStatement_92 : decode cX0_readStatement 92 = .ok (.ifCond .eq 7, 3) := dk_153 0 7 (dk_at dksX0_readStatement_4 0 rfl rfl)
theorem dX0_readStatement_95 : decode cX0_readStatement 95 = .ok (.iconst 1, 1) := dk_4 (dk_at dksX0_readStatement_4 3 rfl rfl)
theorem dX0_readStatement_96 : decode cX0_readStatement 96 = .ok (.goto 4, 3) := dk_167 0 4 (dk_at dksX0_readStatement_4 4 rfl rfl)
theorem dX0_readStatement_99 : decode cX0_readStatement 99 = .ok (.iconst 0, 1) := dk_3 (dk_at dksX0_readStatement_4 7 rfl rfl)
theorem dX0_readStatement_100 : decode cX0_readStatement 100 = .ok (.ireturn, 1) := dk_172 (dk_at dksX0_readStatement_4 8 rfl rfl)
theorem dX0_readStatement_101 : decode cX0_readStatement 101 = .ok (.aload_n 0, 1) := dk_42 (dk_at dksX0_readStatement_4 9 rfl rfl)
theorem dX0_readStatement_102 : decode cX0_readStatement 102 = .ok (.ldc 240, 2) := dk_18 240 (dk_at dksX0_readStatement_4 10 rfl rfl)
theorem dX0_readStatement_104 : decode cX0_readStatement 104 = .ok (.invokevirtual 218, 3) := dk_182 0 218 (dk_at dksX0_readStatement_4 12 rfl rfl)
theorem dX0_readStatement_107 : decode cX0_readStatement 107 = .ok (.ifCond .ne 12, 3) := dk_154 0 12 (dk_at dksX0_readStatement_4 15 rfl rfl)
theorem dX0_readStatement_110 : decode cX0_readStatement 110 = .ok (.aload_n 0, 1) := dk_42 (dk_at dksX0_readStatement_4 18 rfl rfl)
theorem dX0_readStatement_111 : decode cX0_readStatement 111 = .ok (.ldc 242, 2) := dk_18 242 (dk_at dksX0_readStatement_4 19 rfl rfl)
theorem dX0_readStatement_113 : decode cX0_readStatement 113 = .ok (.invokevirtual 218, 3) := dk_182 0 218 (dk_at dksX0_readStatement_4 21 rfl rfl)
theorem dX0_readStatement_116 : decode cX0_readStatement 116 = .ok (.ifCond .eq 8, 3) := dk_153 0 8 (dk_at dksX0_readStatement_5 0 rfl rfl)
theorem dX0_readStatement_119 : decode cX0_readStatement 119 = .ok (.aload_n 0, 1) := dk_42 (dk_at dksX0_readStatement_5 3 rfl rfl)
theorem dX0_readStatement_120 : decode cX0_readStatement 120 = .ok (.invokevirtual 244, 3) := dk_182 0 244 (dk_at dksX0_readStatement_5 4 rfl rfl)
theorem dX0_readStatement_123 : decode cX0_readStatement 123 = .ok (.ireturn, 1) := dk_172 (dk_at dksX0_readStatement_5 7 rfl rfl)
theorem dX0_readStatement_124 : decode cX0_readStatement 124 = .ok (.aload_n 0, 1) := dk_42 (dk_at dksX0_readStatement_5 8 rfl rfl)
theorem dX0_readStatement_125 : decode cX0_readStatement 125 = .ok (.ldc 247, 2) := dk_18 247 (dk_at dksX0_readStatement_5 9 rfl rfl)
theorem dX0_readStatement_127 : decode cX0_readStatement 127 = .ok (.invokevirtual 218, 3) := dk_182 0 218 (dk_at dksX0_readStatement_5 11 rfl rfl)
theorem dX0_readStatement_130 : decode cX0_readStatement 130 = .ok (.ifCond .eq 10, 3) := dk_153 0 10 (dk_at dksX0_readStatement_5 14 rfl rfl)
theorem dX0_readStatement_133 : decode cX0_readStatement 133 = .ok (.aload_n 0, 1) := dk_42 (dk_at dksX0_readStatement_5 17 rfl rfl)
theorem dX0_readStatement_134 : decode cX0_readStatement 134 = .ok (.invokevirtual 249, 3) := dk_182 0 249 (dk_at dksX0_readStatement_5 18 rfl rfl)
theorem dX0_readStatement_137 : decode cX0_readStatement 137 = .ok (.goto 12, 3) := dk_167 0 12 (dk_at dksX0_readStatement_5 21 rfl rfl)
theorem dX0_readStatement_140 : decode cX0_readStatement 140 = .ok (.aload_n 0, 1) := dk_42 (dk_at dksX0_readStatement_6 0 rfl rfl)
theorem dX0_readStatement_141 : decode cX0_readStatement 141 = .ok (.iconst 1, 1) := dk_4 (dk_at dksX0_readStatement_6 1 rfl rfl)
theorem dX0_readStatement_142 : decode cX0_readStatement 142 = .ok (.aload_n 0, 1) := dk_42 (dk_at dksX0_readStatement_6 2 rfl rfl)
theorem dX0_readStatement_143 : decode cX0_readStatement 143 = .ok (.getfield 39, 3) := dk_180 0 39 (dk_at dksX0_readStatement_6 3 rfl rfl)
theorem dX0_readStatement_146 : decode cX0_readStatement 146 = .ok (.invokevirtual 132, 3) := dk_182 0 132 (dk_at dksX0_readStatement_6 6 rfl rfl)
theorem dX0_readStatement_149 : decode cX0_readStatement 149 = .ok (.ireturn, 1) := dk_172 (dk_at dksX0_readStatement_6 9 rfl rfl)
abbrev cX0_isWordText : ByteArray := prog_1_method_20_code
def yX0_isWordText : MethodName := ⟨RX0, "isWordText", "(Ljava/lang/String;)Z"⟩
def dkwX0_isWordText_1 : List UInt8 := [180, 0, 39, 46, 43, 182, 0, 54, 153, 0, 7, 4, 167, 0, 4, 3, 172]
abbrev dktX0_isWordText_1 : List UInt8 := dkwX0_isWordText_1 ++ []
def dkwX0_isWordText_0 : List UInt8 := [42, 182, 0, 142, 153, 0, 33, 42, 42, 180, 0, 111, 42, 180, 0, 39, 46, 42, 180, 0, 114, 42]
abbrev dktX0_isWordText_0 : List UInt8 := dkwX0_isWordText_0 ++ dktX0_isWordText_1
theorem dksX0_isWordText_0 : cX0_isWordText.data.toList.drop 0 = dktX0_isWordText_0 := by decide +kernel
theorem dksX0_isWordText_1 : cX0_isWordText.data.toList.drop 22 = dktX0_isWordText_1 := dk_seg dksX0_isWordText_0 22 rfl rfl
theorem dX0_isWordText_0 : decode cX0_isWordText 0 = .ok (.aload_n 0, 1) := dk_42 (dk_at dksX0_isWordText_0 0 rfl rfl)
theorem dX0_isWordText_1 : decode cX0_isWordText 1 = .ok (.invokevirtual 142, 3) := dk_182 0 142 (dk_at dksX0_isWordText_0 1 rfl rfl)
theorem dX0_isWordText_4 : decode cX0_isWordText 4 = .ok (.ifCond .eq 33, 3) := dk_153 0 33 (dk_at dksX0_isWordText_0 4 rfl rfl)
theorem dX0_isWordText_7 : decode cX0_isWordText 7 = .ok (.aload_n 0, 1) := dk_42 (dk_at dksX0_isWordText_0 7 rfl rfl)
theorem dX0_isWordText_8 : decode cX0_isWordText 8 = .ok (.aload_n 0, 1) := dk_42 (dk_at dksX0_isWordText_0 8 rfl rfl)
theorem dX0_isWordText_9 : decode cX0_isWordText 9 = .ok (.getfield 111, 3) := dk_180 0 111 (dk_at dksX0_isWordText_0 9 rfl rfl)
theorem dX0_isWordText_12 : decode cX0_isWordText 12 = .ok (.aload_n 0, 1) := dk_42 (dk_at dksX0_isWordText_0 12 rfl rfl)
theorem dX0_isWordText_13 : decode cX0_isWordText 13 = .ok (.getfield 39, 3) := dk_180 0 39 (dk_at dksX0_isWordText_0 13 rfl rfl)
theorem dX0_isWordText_16 : decode cX0_isWordText 16 = .ok (.iaload, 1) := dk_46 (dk_at dksX0_isWordText_0 16 rfl rfl)
theorem dX0_isWordText_17 : decode cX0_isWordText 17 = .ok (.aload_n 0, 1) := dk_42 (dk_at dksX0_isWordText_0 17 rfl rfl)
theorem dX0_isWordText_18 : decode cX0_isWordText 18 = .ok (.getfield 114, 3) := dk_180 0 114 (dk_at dksX0_isWordText_0 18 rfl rfl)
theorem dX0_isWordText_21 : decode cX0_isWordText 21 = .ok (.aload_n 0, 1) := dk_42 (dk_at dksX0_isWordText_0 21 rfl rfl)
theorem dX0_isWordText_22 : decode cX0_isWordText 22 = .ok (.getfield 39, 3) := dk_180 0 39 (dk_at dksX0_isWordText_1 0 rfl rfl)
theorem dX0_isWordText_25 : decode cX0_isWordText 25 = .ok (.iaload, 1) := dk_46 (dk_at dksX0_isWordText_1 3 rfl rfl)
theorem dX0_isWordText_26 : decode cX0_isWordText 26 = .ok (.aload_n 1, 1) := dk_43 (dk_at dksX0_isWordText_1 4 rfl rfl)
theorem dX0_isWordText_27 : decode cX0_isWordText 27 = .ok (.invokevirtual 54, 3) := dk_182 0 54 (dk_at dksX0_isWordText_1 5 rfl rfl)
theorem dX0_isWordText_30 : decode cX0_isWordText 30 = .ok (.ifCond .eq 7, 3) := dk_153 0 7 (dk_at dksX0_isWordText_1 8 rfl rfl)
theorem dX0_isWordText_33 : decode cX0_isWordText 33 = .ok (.iconst 1, 1) := dk_4 (dk_at dksX0_isWordText_1 11 rfl rfl)
theorem dX0_isWordText_34 : decode cX0_isWordText 34 = .ok (.goto 4, 3) := dk_167 0 4 (dk_at dksX0_isWordText_1 12 rfl rfl)
theorem dX0_isWordText_37 : decode cX0_isWordText 37 = .ok (.iconst 0, 1) := dk_3 (dk_at dksX0_isWordText_1 15 rfl rfl)
theorem dX0_isWordText_38 : decode cX0_isWordText 38 = .ok (.ireturn, 1) := dk_172 (dk_at dksX0_isWordText_1 16 rfl rfl)
abbrev cX0_isWord : ByteArray := prog_1_method_19_code
def yX0_isWord : MethodName := ⟨RX0, "isWord", "()Z"⟩
def dkwX0_isWord_0 : List UInt8 := [42, 180, 0, 108, 42, 180, 0, 39, 46, 154, 0, 7, 4, 167, 0, 4, 3, 172]
abbrev dktX0_isWord_0 : List UInt8 := dkwX0_isWord_0 ++ []
theorem dksX0_isWord_0 : cX0_isWord.data.toList.drop 0 = dktX0_isWord_0 := by decide +kernel
theorem dX0_isWord_0 : decode cX0_isWord 0 = .ok (.aload_n 0, 1) := dk_42 (dk_at dksX0_isWord_0 0 rfl rfl)
theorem dX0_isWord_1 : decode cX0_isWord 1 = .ok (.getfield 108, 3) := dk_180 0 108 (dk_at dksX0_isWord_0 1 rfl rfl)
theorem dX0_isWord_4 : decode cX0_isWord 4 = .ok (.aload_n 0, 1) := dk_42 (dk_at dksX0_isWord_0 4 rfl rfl)
theorem dX0_isWord_5 : decode cX0_isWord 5 = .ok (.getfield 39, 3) := dk_180 0 39 (dk_at dksX0_isWord_0 5 rfl rfl)
theorem dX0_isWord_8 : decode cX0_isWord 8 = .ok (.iaload, 1) := dk_46 (dk_at dksX0_isWord_0 8 rfl rfl)
theorem dX0_isWord_9 : decode cX0_isWord 9 = .ok (.ifCond .ne 7, 3) := dk_154 0 7 (dk_at dksX0_isWord_0 9 rfl rfl)
theorem dX0_isWord_12 : decode cX0_isWord 12 = .ok (.iconst 1, 1) := dk_4 (dk_at dksX0_isWord_0 12 rfl rfl)
theorem dX0_isWord_13 : decode cX0_isWord 13 = .ok (.goto 4, 3) := dk_167 0 4 (dk_at dksX0_isWord_0 13 rfl rfl)
theorem dX0_isWord_16 : decode cX0_isWord 16 = .ok (.iconst 0, 1) := dk_3 (dk_at dksX0_isWord_0 16 rfl rfl)
theorem dX0_isWord_17 : decode cX0_isWord 17 = .ok (.ireturn, 1) := dk_172 (dk_at dksX0_isWord_0 17 rfl rfl)
abbrev cX0_step : ByteArray := prog_1_method_17_code
def yX0_step : MethodName := ⟨RX0, "step", "()Z"⟩
def dkwX0_step_1 : List UInt8 := [180, 0, 39, 4, 96, 181, 0, 39, 4, 172]
abbrev dktX0_step_1 : List UInt8 := dkwX0_step_1 ++ []
def dkwX0_step_0 : List UInt8 := [42, 180, 0, 39, 42, 180, 0, 88, 160, 0, 13, 42, 5, 42, 180, 0, 39, 182, 0, 132, 172, 42, 89]
abbrev dktX0_step_0 : List UInt8 := dkwX0_step_0 ++ dktX0_step_1
theorem dksX0_step_0 : cX0_step.data.toList.drop 0 = dktX0_step_0 := by decide +kernel
theorem dksX0_step_1 : cX0_step.data.toList.drop 23 = dktX0_step_1 := dk_seg dksX0_step_0 23 rfl rfl
theorem dX0_step_0 : decode cX0_step 0 = .ok (.aload_n 0, 1) := dk_42 (dk_at dksX0_step_0 0 rfl rfl)
theorem dX0_step_1 : decode cX0_step 1 = .ok (.getfield 39, 3) := dk_180 0 39 (dk_at dksX0_step_0 1 rfl rfl)
theorem dX0_step_4 : decode cX0_step 4 = .ok (.aload_n 0, 1) := dk_42 (dk_at dksX0_step_0 4 rfl rfl)
theorem dX0_step_5 : decode cX0_step 5 = .ok (.getfield 88, 3) := dk_180 0 88 (dk_at dksX0_step_0 5 rfl rfl)
theorem dX0_step_8 : decode cX0_step 8 = .ok (.if_icmp .ne 13, 3) := dk_160 0 13 (dk_at dksX0_step_0 8 rfl rfl)
theorem dX0_step_11 : decode cX0_step 11 = .ok (.aload_n 0, 1) := dk_42 (dk_at dksX0_step_0 11 rfl rfl)
theorem dX0_step_12 : decode cX0_step 12 = .ok (.iconst 2, 1) := dk_5 (dk_at dksX0_step_0 12 rfl rfl)
theorem dX0_step_13 : decode cX0_step 13 = .ok (.aload_n 0, 1) := dk_42 (dk_at dksX0_step_0 13 rfl rfl)
theorem dX0_step_14 : decode cX0_step 14 = .ok (.getfield 39, 3) := dk_180 0 39 (dk_at dksX0_step_0 14 rfl rfl)
theorem dX0_step_17 : decode cX0_step 17 = .ok (.invokevirtual 132, 3) := dk_182 0 132 (dk_at dksX0_step_0 17 rfl rfl)
theorem dX0_step_20 : decode cX0_step 20 = .ok (.ireturn, 1) := dk_172 (dk_at dksX0_step_0 20 rfl rfl)
theorem dX0_step_21 : decode cX0_step 21 = .ok (.aload_n 0, 1) := dk_42 (dk_at dksX0_step_0 21 rfl rfl)
theorem dX0_step_22 : decode cX0_step 22 = .ok (.dup, 1) := dk_89 (dk_at dksX0_step_0 22 rfl rfl)
theorem dX0_step_23 : decode cX0_step 23 = .ok (.getfield 39, 3) := dk_180 0 39 (dk_at dksX0_step_1 0 rfl rfl)
theorem dX0_step_26 : decode cX0_step 26 = .ok (.iconst 1, 1) := dk_4 (dk_at dksX0_step_1 3 rfl rfl)
theorem dX0_step_27 : decode cX0_step 27 = .ok (.iadd, 1) := dk_96 (dk_at dksX0_step_1 4 rfl rfl)
theorem dX0_step_28 : decode cX0_step 28 = .ok (.putfield 39, 3) := dk_181 0 39 (dk_at dksX0_step_1 5 rfl rfl)
theorem dX0_step_31 : decode cX0_step 31 = .ok (.iconst 1, 1) := dk_4 (dk_at dksX0_step_1 8 rfl rfl)
theorem dX0_step_32 : decode cX0_step 32 = .ok (.ireturn, 1) := dk_172 (dk_at dksX0_step_1 9 rfl rfl)
abbrev cX0_wrong : ByteArray := prog_1_method_14_code
def yX0_wrong : MethodName := ⟨RX0, "wrong", "(II)Z"⟩
def dkwX0_wrong_0 : List UInt8 := [42, 27, 42, 180, 0, 111, 28, 46, 182, 0, 124, 172]
abbrev dktX0_wrong_0 : List UInt8 := dkwX0_wrong_0 ++ []
theorem dksX0_wrong_0 : cX0_wrong.data.toList.drop 0 = dktX0_wrong_0 := by decide +kernel
theorem dX0_wrong_0 : decode cX0_wrong 0 = .ok (.aload_n 0, 1) := dk_42 (dk_at dksX0_wrong_0 0 rfl rfl)
theorem dX0_wrong_1 : decode cX0_wrong 1 = .ok (.iload_n 1, 1) := dk_27 (dk_at dksX0_wrong_0 1 rfl rfl)
theorem dX0_wrong_2 : decode cX0_wrong 2 = .ok (.aload_n 0, 1) := dk_42 (dk_at dksX0_wrong_0 2 rfl rfl)
theorem dX0_wrong_3 : decode cX0_wrong 3 = .ok (.getfield 111, 3) := dk_180 0 111 (dk_at dksX0_wrong_0 3 rfl rfl)
theorem dX0_wrong_6 : decode cX0_wrong 6 = .ok (.iload_n 2, 1) := dk_28 (dk_at dksX0_wrong_0 6 rfl rfl)
theorem dX0_wrong_7 : decode cX0_wrong 7 = .ok (.iaload, 1) := dk_46 (dk_at dksX0_wrong_0 7 rfl rfl)
theorem dX0_wrong_8 : decode cX0_wrong 8 = .ok (.invokevirtual 124, 3) := dk_182 0 124 (dk_at dksX0_wrong_0 8 rfl rfl)
theorem dX0_wrong_11 : decode cX0_wrong 11 = .ok (.ireturn, 1) := dk_172 (dk_at dksX0_wrong_0 11 rfl rfl)
abbrev cX0_wrongAt : ByteArray := prog_1_method_15_code
def yX0_wrongAt : MethodName := ⟨RX0, "wrongAt", "(II)Z"⟩
def dkwX0_wrongAt_2 : List UInt8 := [181, 0, 30, 42, 42, 28, 182, 0, 128, 181, 0, 33, 3, 172]
abbrev dktX0_wrongAt_2 : List UInt8 := dkwX0_wrongAt_2 ++ []
def dkwX0_wrongAt_1 : List UInt8 := [42, 180, 0, 36, 162, 0, 7, 4, 167, 0, 4, 3, 62, 29, 153, 0, 22, 42, 27, 181, 0, 36, 42, 28]
abbrev dktX0_wrongAt_1 : List UInt8 := dkwX0_wrongAt_1 ++ dktX0_wrongAt_2
def dkwX0_wrongAt_0 : List UInt8 := [42, 180, 0, 36, 153, 0, 27, 28, 42, 180, 0, 30, 161, 0, 19, 28, 42, 180, 0, 30, 160, 0, 15, 27]
abbrev dktX0_wrongAt_0 : List UInt8 := dkwX0_wrongAt_0 ++ dktX0_wrongAt_1
theorem dksX0_wrongAt_0 : cX0_wrongAt.data.toList.drop 0 = dktX0_wrongAt_0 := by decide +kernel
theorem dksX0_wrongAt_1 : cX0_wrongAt.data.toList.drop 24 = dktX0_wrongAt_1 := dk_seg dksX0_wrongAt_0 24 rfl rfl
theorem dksX0_wrongAt_2 : cX0_wrongAt.data.toList.drop 48 = dktX0_wrongAt_2 := dk_seg dksX0_wrongAt_1 24 rfl rfl
theorem dX0_wrongAt_0 : decode cX0_wrongAt 0 = .ok (.aload_n 0, 1) := dk_42 (dk_at dksX0_wrongAt_0 0 rfl rfl)
theorem dX0_wrongAt_1 : decode cX0_wrongAt 1 = .ok (.getfield 36, 3) := dk_180 0 36 (dk_at dksX0_wrongAt_0 1 rfl rfl)
theorem dX0_wrongAt_4 : decode cX0_wrongAt 4 = .ok (.ifCond .eq 27, 3) := dk_153 0 27 (dk_at dksX0_wrongAt_0 4 rfl rfl)
theorem dX0_wrongAt_7 : decode cX0_wrongAt 7 = .ok (.iload_n 2, 1) := dk_28 (dk_at dksX0_wrongAt_0 7 rfl rfl)
theorem dX0_wrongAt_8 : decode cX0_wrongAt 8 = .ok (.aload_n 0, 1) := dk_42 (dk_at dksX0_wrongAt_0 8 rfl rfl)
theorem dX0_wrongAt_9 : decode cX0_wrongAt 9 = .ok (.getfield 30, 3) := dk_180 0 30 (dk_at dksX0_wrongAt_0 9 rfl rfl)
theorem dX0_wrongAt_12 : decode cX0_wrongAt 12 = .ok (.if_icmp .lt 19, 3) := dk_161 0 19 (dk_at dksX0_wrongAt_0 12 rfl rfl)
theorem dX0_wrongAt_15 : decode cX0_wrongAt 15 = .ok (.iload_n 2, 1) := dk_28 (dk_at dksX0_wrongAt_0 15 rfl rfl)
theorem dX0_wrongAt_16 : decode cX0_wrongAt 16 = .ok (.aload_n 0, 1) := dk_42 (dk_at dksX0_wrongAt_0 16 rfl rfl)
theorem dX0_wrongAt_17 : decode cX0_wrongAt 17 = .ok (.getfield 30, 3) := dk_180 0 30 (dk_at dksX0_wrongAt_0 17 rfl rfl)
theorem dX0_wrongAt_20 : decode cX0_wrongAt 20 = .ok (.if_icmp .ne 15, 3) := dk_160 0 15 (dk_at dksX0_wrongAt_0 20 rfl rfl)
theorem dX0_wrongAt_23 : decode cX0_wrongAt 23 = .ok (.iload_n 1, 1) := dk_27 (dk_at dksX0_wrongAt_0 23 rfl rfl)
theorem dX0_wrongAt_24 : decode cX0_wrongAt 24 = .ok (.aload_n 0, 1) := dk_42 (dk_at dksX0_wrongAt_1 0 rfl rfl)
theorem dX0_wrongAt_25 : decode cX0_wrongAt 25 = .ok (.getfield 36, 3) := dk_180 0 36 (dk_at dksX0_wrongAt_1 1 rfl rfl)
theorem dX0_wrongAt_28 : decode cX0_wrongAt 28 = .ok (.if_icmp .ge 7, 3) := dk_162 0 7 (dk_at dksX0_wrongAt_1 4 rfl rfl)
theorem dX0_wrongAt_31 : decode cX0_wrongAt 31 = .ok (.iconst 1, 1) := dk_4 (dk_at dksX0_wrongAt_1 7 rfl rfl)
theorem dX0_wrongAt_32 : decode cX0_wrongAt 32 = .ok (.goto 4, 3) := dk_167 0 4 (dk_at dksX0_wrongAt_1 8 rfl rfl)
theorem dX0_wrongAt_35 : decode cX0_wrongAt 35 = .ok (.iconst 0, 1) := dk_3 (dk_at dksX0_wrongAt_1 11 rfl rfl)
theorem dX0_wrongAt_36 : decode cX0_wrongAt 36 = .ok (.istore_n 3, 1) := dk_62 (dk_at dksX0_wrongAt_1 12 rfl rfl)
theorem dX0_wrongAt_37 : decode cX0_wrongAt 37 = .ok (.iload_n 3, 1) := dk_29 (dk_at dksX0_wrongAt_1 13 rfl rfl)
theorem dX0_wrongAt_38 : decode cX0_wrongAt 38 = .ok (.ifCond .eq 22, 3) := dk_153 0 22 (dk_at dksX0_wrongAt_1 14 rfl rfl)
theorem dX0_wrongAt_41 : decode cX0_wrongAt 41 = .ok (.aload_n 0, 1) := dk_42 (dk_at dksX0_wrongAt_1 17 rfl rfl)
theorem dX0_wrongAt_42 : decode cX0_wrongAt 42 = .ok (.iload_n 1, 1) := dk_27 (dk_at dksX0_wrongAt_1 18 rfl rfl)
theorem dX0_wrongAt_43 : decode cX0_wrongAt 43 = .ok (.putfield 36, 3) := dk_181 0 36 (dk_at dksX0_wrongAt_1 19 rfl rfl)
theorem dX0_wrongAt_46 : decode cX0_wrongAt 46 = .ok (.aload_n 0, 1) := dk_42 (dk_at dksX0_wrongAt_1 22 rfl rfl)
theorem dX0_wrongAt_47 : decode cX0_wrongAt 47 = .ok (.iload_n 2, 1) := dk_28 (dk_at dksX0_wrongAt_1 23 rfl rfl)
theorem dX0_wrongAt_48 : decode cX0_wrongAt 48 = .ok (.putfield 30, 3) := dk_181 0 30 (dk_at dksX0_wrongAt_2 0 rfl rfl)
theorem dX0_wrongAt_51 : decode cX0_wrongAt 51 = .ok (.aload_n 0, 1) := dk_42 (dk_at dksX0_wrongAt_2 3 rfl rfl)
theorem dX0_wrongAt_52 : decode cX0_wrongAt 52 = .ok (.aload_n 0, 1) := dk_42 (dk_at dksX0_wrongAt_2 4 rfl rfl)
theorem dX0_wrongAt_53 : decode cX0_wrongAt 53 = .ok (.iload_n 2, 1) := dk_28 (dk_at dksX0_wrongAt_2 5 rfl rfl)
theorem dX0_wrongAt_54 : decode cX0_wrongAt 54 = .ok (.invokevirtual 128, 3) := dk_182 0 128 (dk_at dksX0_wrongAt_2 6 rfl rfl)
theorem dX0_wrongAt_57 : decode cX0_wrongAt 57 = .ok (.putfield 33, 3) := dk_181 0 33 (dk_at dksX0_wrongAt_2 9 rfl rfl)
theorem dX0_wrongAt_60 : decode cX0_wrongAt 60 = .ok (.iconst 0, 1) := dk_3 (dk_at dksX0_wrongAt_2 12 rfl rfl)
theorem dX0_wrongAt_61 : decode cX0_wrongAt 61 = .ok (.ireturn, 1) := dk_172 (dk_at dksX0_wrongAt_2 13 rfl rfl)
abbrev cX0_lineOf : ByteArray := prog_1_method_13_code
def yX0_lineOf : MethodName := ⟨RX0, "lineOf", "(I)I"⟩
def dkwX0_lineOf_1 : List UInt8 := [16, 10, 160, 0, 7, 4, 167, 0, 4, 3, 96, 61, 132, 3, 1, 167, 255, 221, 28, 172]
abbrev dktX0_lineOf_1 : List UInt8 := dkwX0_lineOf_1 ++ []
def dkwX0_lineOf_0 : List UInt8 := [4, 61, 3, 62, 29, 27, 162, 0, 36, 29, 42, 180, 0, 24, 162, 0, 28, 28, 42, 180, 0, 27, 29, 51]
abbrev dktX0_lineOf_0 : List UInt8 := dkwX0_lineOf_0 ++ dktX0_lineOf_1
theorem dksX0_lineOf_0 : cX0_lineOf.data.toList.drop 0 = dktX0_lineOf_0 := by decide +kernel
theorem dksX0_lineOf_1 : cX0_lineOf.data.toList.drop 24 = dktX0_lineOf_1 := dk_seg dksX0_lineOf_0 24 rfl rfl
theorem dX0_lineOf_0 : decode cX0_lineOf 0 = .ok (.iconst 1, 1) := dk_4 (dk_at dksX0_lineOf_0 0 rfl rfl)
theorem dX0_lineOf_1 : decode cX0_lineOf 1 = .ok (.istore_n 2, 1) := dk_61 (dk_at dksX0_lineOf_0 1 rfl rfl)
theorem dX0_lineOf_2 : decode cX0_lineOf 2 = .ok (.iconst 0, 1) := dk_3 (dk_at dksX0_lineOf_0 2 rfl rfl)
theorem dX0_lineOf_3 : decode cX0_lineOf 3 = .ok (.istore_n 3, 1) := dk_62 (dk_at dksX0_lineOf_0 3 rfl rfl)
theorem dX0_lineOf_4 : decode cX0_lineOf 4 = .ok (.iload_n 3, 1) := dk_29 (dk_at dksX0_lineOf_0 4 rfl rfl)
theorem dX0_lineOf_5 : decode cX0_lineOf 5 = .ok (.iload_n 1, 1) := dk_27 (dk_at dksX0_lineOf_0 5 rfl rfl)
theorem dX0_lineOf_6 : decode cX0_lineOf 6 = .ok (.if_icmp .ge 36, 3) := dk_162 0 36 (dk_at dksX0_lineOf_0 6 rfl rfl)
theorem dX0_lineOf_9 : decode cX0_lineOf 9 = .ok (.iload_n 3, 1) := dk_29 (dk_at dksX0_lineOf_0 9 rfl rfl)
theorem dX0_lineOf_10 : decode cX0_lineOf 10 = .ok (.aload_n 0, 1) := dk_42 (dk_at dksX0_lineOf_0 10 rfl rfl)
theorem dX0_lineOf_11 : decode cX0_lineOf 11 = .ok (.getfield 24, 3) := dk_180 0 24 (dk_at dksX0_lineOf_0 11 rfl rfl)
theorem dX0_lineOf_14 : decode cX0_lineOf 14 = .ok (.if_icmp .ge 28, 3) := dk_162 0 28 (dk_at dksX0_lineOf_0 14 rfl rfl)
theorem dX0_lineOf_17 : decode cX0_lineOf 17 = .ok (.iload_n 2, 1) := dk_28 (dk_at dksX0_lineOf_0 17 rfl rfl)
theorem dX0_lineOf_18 : decode cX0_lineOf 18 = .ok (.aload_n 0, 1) := dk_42 (dk_at dksX0_lineOf_0 18 rfl rfl)
theorem dX0_lineOf_19 : decode cX0_lineOf 19 = .ok (.getfield 27, 3) := dk_180 0 27 (dk_at dksX0_lineOf_0 19 rfl rfl)
theorem dX0_lineOf_22 : decode cX0_lineOf 22 = .ok (.iload_n 3, 1) := dk_29 (dk_at dksX0_lineOf_0 22 rfl rfl)
theorem dX0_lineOf_23 : decode cX0_lineOf 23 = .ok (.baload, 1) := dk_51 (dk_at dksX0_lineOf_0 23 rfl rfl)
theorem dX0_lineOf_24 : decode cX0_lineOf 24 = .ok (.bipush 10, 2) := dk_16 10 (dk_at dksX0_lineOf_1 0 rfl rfl)
theorem dX0_lineOf_26 : decode cX0_lineOf 26 = .ok (.if_icmp .ne 7, 3) := dk_160 0 7 (dk_at dksX0_lineOf_1 2 rfl rfl)
theorem dX0_lineOf_29 : decode cX0_lineOf 29 = .ok (.iconst 1, 1) := dk_4 (dk_at dksX0_lineOf_1 5 rfl rfl)
theorem dX0_lineOf_30 : decode cX0_lineOf 30 = .ok (.goto 4, 3) := dk_167 0 4 (dk_at dksX0_lineOf_1 6 rfl rfl)
theorem dX0_lineOf_33 : decode cX0_lineOf 33 = .ok (.iconst 0, 1) := dk_3 (dk_at dksX0_lineOf_1 9 rfl rfl)
theorem dX0_lineOf_34 : decode cX0_lineOf 34 = .ok (.iadd, 1) := dk_96 (dk_at dksX0_lineOf_1 10 rfl rfl)
theorem dX0_lineOf_35 : decode cX0_lineOf 35 = .ok (.istore_n 2, 1) := dk_61 (dk_at dksX0_lineOf_1 11 rfl rfl)
theorem dX0_lineOf_36 : decode cX0_lineOf 36 = .ok (.iinc 3 1, 3) := dk_132 3 1 (dk_at dksX0_lineOf_1 12 rfl rfl)
theorem dX0_lineOf_39 : decode cX0_lineOf 39 = .ok (.goto (-35), 3) := dk_167 255 221 (dk_at dksX0_lineOf_1 15 rfl rfl)
theorem dX0_lineOf_42 : decode cX0_lineOf 42 = .ok (.iload_n 2, 1) := dk_28 (dk_at dksX0_lineOf_1 18 rfl rfl)
theorem dX0_lineOf_43 : decode cX0_lineOf 43 = .ok (.ireturn, 1) := dk_172 (dk_at dksX0_lineOf_1 19 rfl rfl)
abbrev cX0_readSorts : ByteArray := prog_1_method_26_code
def yX0_readSorts : MethodName := ⟨RX0, "readSorts", "()Z"⟩
def dkwX0_readSorts_3 : List UInt8 := [154, 255, 187, 42, 3, 182, 1, 2, 172]
abbrev dktX0_readSorts_3 : List UInt8 := dkwX0_readSorts_3 ++ []
def dkwX0_readSorts_2 : List UInt8 := [180, 0, 145, 90, 4, 96, 181, 0, 145, 27, 79, 42, 3, 182, 0, 135, 154, 0, 10, 42, 182, 0, 142]
abbrev dktX0_readSorts_2 : List UInt8 := dkwX0_readSorts_2 ++ dktX0_readSorts_3
def dkwX0_readSorts_1 : List UInt8 := [182, 0, 132, 172, 42, 180, 0, 39, 60, 42, 182, 0, 252, 154, 0, 5, 3, 172, 42, 180, 0, 255, 42, 89]
abbrev dktX0_readSorts_1 : List UInt8 := dkwX0_readSorts_1 ++ dktX0_readSorts_2
def dkwX0_readSorts_0 : List UInt8 := [42, 182, 0, 142, 153, 0, 22, 42, 180, 0, 145, 16, 20, 160, 0, 13, 42, 5, 42, 180, 0, 39]
abbrev dktX0_readSorts_0 : List UInt8 := dkwX0_readSorts_0 ++ dktX0_readSorts_1
theorem dksX0_readSorts_0 : cX0_readSorts.data.toList.drop 0 = dktX0_readSorts_0 := by decide +kernel
theorem dksX0_readSorts_1 : cX0_readSorts.data.toList.drop 22 = dktX0_readSorts_1 := dk_seg dksX0_readSorts_0 22 rfl rfl
theorem dksX0_readSorts_2 : cX0_readSorts.data.toList.drop 46 = dktX0_readSorts_2 := dk_seg dksX0_readSorts_1 24 rfl rfl
theorem dksX0_readSorts_3 : cX0_readSorts.data.toList.drop 69 = dktX0_readSorts_3 := dk_seg dksX0_readSorts_2 23 rfl rfl
theorem dX0_readSorts_0 : decode cX0_readSorts 0 = .ok (.aload_n 0, 1) := dk_42 (dk_at dksX0_readSorts_0 0 rfl rfl)
theorem dX0_readSorts_1 : decode cX0_readSorts 1 = .ok (.invokevirtual 142, 3) := dk_182 0 142 (dk_at dksX0_readSorts_0 1 rfl rfl)
theorem dX0_readSorts_4 : decode cX0_readSorts 4 = .ok (.ifCond .eq 22, 3) := dk_153 0 22 (dk_at dksX0_readSorts_0 4 rfl rfl)
theorem dX0_readSorts_7 : decode cX0_readSorts 7 = .ok (.aload_n 0, 1) := dk_42 (dk_at dksX0_readSorts_0 7 rfl rfl)
theorem dX0_readSorts_8 : decode cX0_readSorts 8 = .ok (.getfield 145, 3) := dk_180 0 145 (dk_at dksX0_readSorts_0 8 rfl rfl)
theorem dX0_readSorts_11 : decode cX0_readSorts 11 = .ok (.bipush 20, 2) := dk_16 20 (dk_at dksX0_readSorts_0 11 rfl rfl)
theorem dX0_readSorts_13 : decode cX0_readSorts 13 = .ok (.if_icmp .ne 13, 3) := dk_160 0 13 (dk_at dksX0_readSorts_0 13 rfl rfl)
theorem dX0_readSorts_16 : decode cX0_readSorts 16 = .ok (.aload_n 0, 1) := dk_42 (dk_at dksX0_readSorts_0 16 rfl rfl)
theorem dX0_readSorts_17 : decode cX0_readSorts 17 = .ok (.iconst 2, 1) := dk_5 (dk_at dksX0_readSorts_0 17 rfl rfl)
theorem dX0_readSorts_18 : decode cX0_readSorts 18 = .ok (.aload_n 0, 1) := dk_42 (dk_at dksX0_readSorts_0 18 rfl rfl)
theorem dX0_readSorts_19 : decode cX0_readSorts 19 = .ok (.getfield 39, 3) := dk_180 0 39 (dk_at dksX0_readSorts_0 19 rfl rfl)
theorem dX0_readSorts_22 : decode cX0_readSorts 22 = .ok (.invokevirtual 132, 3) := dk_182 0 132 (dk_at dksX0_readSorts_1 0 rfl rfl)
theorem dX0_readSorts_25 : decode cX0_readSorts 25 = .ok (.ireturn, 1) := dk_172 (dk_at dksX0_readSorts_1 3 rfl rfl)
theorem dX0_readSorts_26 : decode cX0_readSorts 26 = .ok (.aload_n 0, 1) := dk_42 (dk_at dksX0_readSorts_1 4 rfl rfl)
theorem dX0_readSorts_27 : decode cX0_readSorts 27 = .ok (.getfield 39, 3) := dk_180 0 39 (dk_at dksX0_readSorts_1 5 rfl rfl)
theorem dX0_readSorts_30 : decode cX0_readSorts 30 = .ok (.istore_n 1, 1) := dk_60 (dk_at dksX0_readSorts_1 8 rfl rfl)
theorem dX0_readSorts_31 : decode cX0_readSorts 31 = .ok (.aload_n 0, 1) := dk_42 (dk_at dksX0_readSorts_1 9 rfl rfl)
theorem dX0_readSorts_32 : decode cX0_readSorts 32 = .ok (.invokevirtual 252, 3) := dk_182 0 252 (dk_at dksX0_readSorts_1 10 rfl rfl)
theorem dX0_readSorts_35 : decode cX0_readSorts 35 = .ok (.ifCond .ne 5, 3) := dk_154 0 5 (dk_at dksX0_readSorts_1 13 rfl rfl)
theorem dX0_readSorts_38 : decode cX0_readSorts 38 = .ok (.iconst 0, 1) := dk_3 (dk_at dksX0_readSorts_1 16 rfl rfl)
theorem dX0_readSorts_39 : decode cX0_readSorts 39 = .ok (.ireturn, 1) := dk_172 (dk_at dksX0_readSorts_1 17 rfl rfl)
theorem dX0_readSorts_40 : decode cX0_readSorts 40 = .ok (.aload_n 0, 1) := dk_42 (dk_at dksX0_readSorts_1 18 rfl rfl)
theorem dX0_readSorts_41 : decode cX0_readSorts 41 = .ok (.getfield 255, 3) := dk_180 0 255 (dk_at dksX0_readSorts_1 19 rfl rfl)
theorem dX0_readSorts_44 : decode cX0_readSorts 44 = .ok (.aload_n 0, 1) := dk_42 (dk_at dksX0_readSorts_1 22 rfl rfl)
theorem dX0_readSorts_45 : decode cX0_readSorts 45 = .ok (.dup, 1) := dk_89 (dk_at dksX0_readSorts_1 23 rfl rfl)
theorem dX0_readSorts_46 : decode cX0_readSorts 46 = .ok (.getfield 145, 3) := dk_180 0 145 (dk_at dksX0_readSorts_2 0 rfl rfl)
theorem dX0_readSorts_49 : decode cX0_readSorts 49 = .ok (.dup_x1, 1) := dk_90 (dk_at dksX0_readSorts_2 3 rfl rfl)
theorem dX0_readSorts_50 : decode cX0_readSorts 50 = .ok (.iconst 1, 1) := dk_4 (dk_at dksX0_readSorts_2 4 rfl rfl)
theorem dX0_readSorts_51 : decode cX0_readSorts 51 = .ok (.iadd, 1) := dk_96 (dk_at dksX0_readSorts_2 5 rfl rfl)
theorem dX0_readSorts_52 : decode cX0_readSorts 52 = .ok (.putfield 145, 3) := dk_181 0 145 (dk_at dksX0_readSorts_2 6 rfl rfl)
theorem dX0_readSorts_55 : decode cX0_readSorts 55 = .ok (.iload_n 1, 1) := dk_27 (dk_at dksX0_readSorts_2 9 rfl rfl)
theorem dX0_readSorts_56 : decode cX0_readSorts 56 = .ok (.iastore, 1) := dk_79 (dk_at dksX0_readSorts_2 10 rfl rfl)
theorem dX0_readSorts_57 : decode cX0_readSorts 57 = .ok (.aload_n 0, 1) := dk_42 (dk_at dksX0_readSorts_2 11 rfl rfl)
theorem dX0_readSorts_58 : decode cX0_readSorts 58 = .ok (.iconst 0, 1) := dk_3 (dk_at dksX0_readSorts_2 12 rfl rfl)
theorem dX0_readSorts_59 : decode cX0_readSorts 59 = .ok (.invokevirtual 135, 3) := dk_182 0 135 (dk_at dksX0_readSorts_2 13 rfl rfl)
theorem dX0_readSorts_62 : decode cX0_readSorts 62 = .ok (.ifCond .ne 10, 3) := dk_154 0 10 (dk_at dksX0_readSorts_2 16 rfl rfl)
theorem dX0_readSorts_65 : decode cX0_readSorts 65 = .ok (.aload_n 0, 1) := dk_42 (dk_at dksX0_readSorts_2 19 rfl rfl)
theorem dX0_readSorts_66 : decode cX0_readSorts 66 = .ok (.invokevirtual 142, 3) := dk_182 0 142 (dk_at dksX0_readSorts_2 20 rfl rfl)
theorem dX0_readSorts_69 : decode cX0_readSorts 69 = .ok (.ifCond .ne (-69), 3) := dk_154 255 187 (dk_at dksX0_readSorts_3 0 rfl rfl)
theorem dX0_readSorts_72 : decode cX0_readSorts 72 = .ok (.aload_n 0, 1) := dk_42 (dk_at dksX0_readSorts_3 3 rfl rfl)
theorem dX0_readSorts_73 : decode cX0_readSorts 73 = .ok (.iconst 0, 1) := dk_3 (dk_at dksX0_readSorts_3 4 rfl rfl)
theorem dX0_readSorts_74 : decode cX0_readSorts 74 = .ok (.invokevirtual 258, 3) := dk_182 1 2 (dk_at dksX0_readSorts_3 5 rfl rfl)
theorem dX0_readSorts_77 : decode cX0_readSorts 77 = .ok (.ireturn, 1) := dk_172 (dk_at dksX0_readSorts_3 8 rfl rfl)
abbrev cX0_expect : ByteArray := prog_1_method_22_code
def yX0_expect : MethodName := ⟨RX0, "expect", "()Z"⟩
def dkwX0_expect_0 : List UInt8 := [42, 182, 0, 142, 153, 0, 10, 42, 182, 0, 138, 167, 0, 12, 42, 4, 42, 180, 0, 39, 182, 0, 132, 172]
abbrev dktX0_expect_0 : List UInt8 := dkwX0_expect_0 ++ []
theorem dksX0_expect_0 : cX0_expect.data.toList.drop 0 = dktX0_expect_0 := by decide +kernel
theorem dX0_expect_0 : decode cX0_expect 0 = .ok (.aload_n 0, 1) := dk_42 (dk_at dksX0_expect_0 0 rfl rfl)
theorem dX0_expect_1 : decode cX0_expect 1 = .ok (.invokevirtual 142, 3) := dk_182 0 142 (dk_at dksX0_expect_0 1 rfl rfl)
theorem dX0_expect_4 : decode cX0_expect 4 = .ok (.ifCond .eq 10, 3) := dk_153 0 10 (dk_at dksX0_expect_0 4 rfl rfl)
theorem dX0_expect_7 : decode cX0_expect 7 = .ok (.aload_n 0, 1) := dk_42 (dk_at dksX0_expect_0 7 rfl rfl)
theorem dX0_expect_8 : decode cX0_expect 8 = .ok (.invokevirtual 138, 3) := dk_182 0 138 (dk_at dksX0_expect_0 8 rfl rfl)
theorem dX0_expect_11 : decode cX0_expect 11 = .ok (.goto 12, 3) := dk_167 0 12 (dk_at dksX0_expect_0 11 rfl rfl)
theorem dX0_expect_14 : decode cX0_expect 14 = .ok (.aload_n 0, 1) := dk_42 (dk_at dksX0_expect_0 14 rfl rfl)
theorem dX0_expect_15 : decode cX0_expect 15 = .ok (.iconst 1, 1) := dk_4 (dk_at dksX0_expect_0 15 rfl rfl)
theorem dX0_expect_16 : decode cX0_expect 16 = .ok (.aload_n 0, 1) := dk_42 (dk_at dksX0_expect_0 16 rfl rfl)
theorem dX0_expect_17 : decode cX0_expect 17 = .ok (.getfield 39, 3) := dk_180 0 39 (dk_at dksX0_expect_0 17 rfl rfl)
theorem dX0_expect_20 : decode cX0_expect 20 = .ok (.invokevirtual 132, 3) := dk_182 0 132 (dk_at dksX0_expect_0 20 rfl rfl)
theorem dX0_expect_23 : decode cX0_expect 23 = .ok (.ireturn, 1) := dk_172 (dk_at dksX0_expect_0 23 rfl rfl)
abbrev cX0_isReserved : ByteArray := prog_1_method_16_code
def yX0_isReserved : MethodName := ⟨RX0, "isReserved", "(I)Z"⟩
def dkwX0_isReserved_1 : List UInt8 := [160, 0, 7, 4, 167, 0, 4, 3, 172]
abbrev dktX0_isReserved_1 : List UInt8 := dkwX0_isReserved_1 ++ []
def dkwX0_isReserved_0 : List UInt8 := [42, 180, 0, 108, 42, 180, 0, 39, 46, 5, 160, 0, 20, 42, 180, 0, 117, 42, 180, 0, 39, 46, 27]
abbrev dktX0_isReserved_0 : List UInt8 := dkwX0_isReserved_0 ++ dktX0_isReserved_1
theorem dksX0_isReserved_0 : cX0_isReserved.data.toList.drop 0 = dktX0_isReserved_0 := by decide +kernel
theorem dksX0_isReserved_1 : cX0_isReserved.data.toList.drop 23 = dktX0_isReserved_1 := dk_seg dksX0_isReserved_0 23 rfl rfl
theorem dX0_isReserved_0 : decode cX0_isReserved 0 = .ok (.aload_n 0, 1) := dk_42 (dk_at dksX0_isReserved_0 0 rfl rfl)
theorem dX0_isReserved_1 : decode cX0_isReserved 1 = .ok (.getfield 108, 3) := dk_180 0 108 (dk_at dksX0_isReserved_0 1 rfl rfl)
theorem dX0_isReserved_4 : decode cX0_isReserved 4 = .ok (.aload_n 0, 1) := dk_42 (dk_at dksX0_isReserved_0 4 rfl rfl)
theorem dX0_isReserved_5 : decode cX0_isReserved 5 = .ok (.getfield 39, 3) := dk_180 0 39 (dk_at dksX0_isReserved_0 5 rfl rfl)
theorem dX0_isReserved_8 : decode cX0_isReserved 8 = .ok (.iaload, 1) := dk_46 (dk_at dksX0_isReserved_0 8 rfl rfl)
theorem dX0_isReserved_9 : decode cX0_isReserved 9 = .ok (.iconst 2, 1) := dk_5 (dk_at dksX0_isReserved_0 9 rfl rfl)
theorem dX0_isReserved_10 : decode cX0_isReserved 10 = .ok (.if_icmp .ne 20, 3) := dk_160 0 20 (dk_at dksX0_isReserved_0 10 rfl rfl)
theorem dX0_isReserved_13 : decode cX0_isReserved 13 = .ok (.aload_n 0, 1) := dk_42 (dk_at dksX0_isReserved_0 13 rfl rfl)
theorem dX0_isReserved_14 : decode cX0_isReserved 14 = .ok (.getfield 117, 3) := dk_180 0 117 (dk_at dksX0_isReserved_0 14 rfl rfl)
theorem dX0_isReserved_17 : decode cX0_isReserved 17 = .ok (.aload_n 0, 1) := dk_42 (dk_at dksX0_isReserved_0 17 rfl rfl)
theorem dX0_isReserved_18 : decode cX0_isReserved 18 = .ok (.getfield 39, 3) := dk_180 0 39 (dk_at dksX0_isReserved_0 18 rfl rfl)
theorem dX0_isReserved_21 : decode cX0_isReserved 21 = .ok (.iaload, 1) := dk_46 (dk_at dksX0_isReserved_0 21 rfl rfl)
theorem dX0_isReserved_22 : decode cX0_isReserved 22 = .ok (.iload_n 1, 1) := dk_27 (dk_at dksX0_isReserved_0 22 rfl rfl)
theorem dX0_isReserved_23 : decode cX0_isReserved 23 = .ok (.if_icmp .ne 7, 3) := dk_160 0 7 (dk_at dksX0_isReserved_1 0 rfl rfl)
theorem dX0_isReserved_26 : decode cX0_isReserved 26 = .ok (.iconst 1, 1) := dk_4 (dk_at dksX0_isReserved_1 3 rfl rfl)
theorem dX0_isReserved_27 : decode cX0_isReserved 27 = .ok (.goto 4, 3) := dk_167 0 4 (dk_at dksX0_isReserved_1 4 rfl rfl)
theorem dX0_isReserved_30 : decode cX0_isReserved 30 = .ok (.iconst 0, 1) := dk_3 (dk_at dksX0_isReserved_1 7 rfl rfl)
theorem dX0_isReserved_31 : decode cX0_isReserved 31 = .ok (.ireturn, 1) := dk_172 (dk_at dksX0_isReserved_1 8 rfl rfl)
abbrev cX0_take : ByteArray := prog_1_method_18_code
def yX0_take : MethodName := ⟨RX0, "take", "(I)Z"⟩
def dkwX0_take_1 : List UInt8 := [172]
abbrev dktX0_take_1 : List UInt8 := dkwX0_take_1 ++ []
def dkwX0_take_0 : List UInt8 := [42, 27, 182, 0, 135, 153, 0, 10, 42, 182, 0, 138, 167, 0, 12, 42, 4, 42, 180, 0, 39, 182, 0, 132]
abbrev dktX0_take_0 : List UInt8 := dkwX0_take_0 ++ dktX0_take_1
theorem dksX0_take_0 : cX0_take.data.toList.drop 0 = dktX0_take_0 := by decide +kernel
theorem dksX0_take_1 : cX0_take.data.toList.drop 24 = dktX0_take_1 := dk_seg dksX0_take_0 24 rfl rfl
theorem dX0_take_0 : decode cX0_take 0 = .ok (.aload_n 0, 1) := dk_42 (dk_at dksX0_take_0 0 rfl rfl)
theorem dX0_take_1 : decode cX0_take 1 = .ok (.iload_n 1, 1) := dk_27 (dk_at dksX0_take_0 1 rfl rfl)
theorem dX0_take_2 : decode cX0_take 2 = .ok (.invokevirtual 135, 3) := dk_182 0 135 (dk_at dksX0_take_0 2 rfl rfl)
theorem dX0_take_5 : decode cX0_take 5 = .ok (.ifCond .eq 10, 3) := dk_153 0 10 (dk_at dksX0_take_0 5 rfl rfl)
theorem dX0_take_8 : decode cX0_take 8 = .ok (.aload_n 0, 1) := dk_42 (dk_at dksX0_take_0 8 rfl rfl)
theorem dX0_take_9 : decode cX0_take 9 = .ok (.invokevirtual 138, 3) := dk_182 0 138 (dk_at dksX0_take_0 9 rfl rfl)
theorem dX0_take_12 : decode cX0_take 12 = .ok (.goto 12, 3) := dk_167 0 12 (dk_at dksX0_take_0 12 rfl rfl)
theorem dX0_take_15 : decode cX0_take 15 = .ok (.aload_n 0, 1) := dk_42 (dk_at dksX0_take_0 15 rfl rfl)
theorem dX0_take_16 : decode cX0_take 16 = .ok (.iconst 1, 1) := dk_4 (dk_at dksX0_take_0 16 rfl rfl)
theorem dX0_take_17 : decode cX0_take 17 = .ok (.aload_n 0, 1) := dk_42 (dk_at dksX0_take_0 17 rfl rfl)
theorem dX0_take_18 : decode cX0_take 18 = .ok (.getfield 39, 3) := dk_180 0 39 (dk_at dksX0_take_0 18 rfl rfl)
theorem dX0_take_21 : decode cX0_take 21 = .ok (.invokevirtual 132, 3) := dk_182 0 132 (dk_at dksX0_take_0 21 rfl rfl)
theorem dX0_take_24 : decode cX0_take 24 = .ok (.ireturn, 1) := dk_172 (dk_at dksX0_take_1 0 rfl rfl)
abbrev cX0_readLess : ByteArray := prog_1_method_29_code
def yX0_readLess : MethodName := ⟨RX0, "readLess", "()Z"⟩
def dkwX0_readLess_5 : List UInt8 := [167, 255, 172, 42, 3, 182, 1, 2, 172]
abbrev dktX0_readLess_5 : List UInt8 := dkwX0_readLess_5 ++ []
def dkwX0_readLess_4 : List UInt8 := [180, 1, 22, 42, 89, 180, 0, 148, 90, 4, 96, 181, 0, 148, 42, 180, 0, 39, 79, 28, 4, 96, 60]
abbrev dktX0_readLess_4 : List UInt8 := dkwX0_readLess_4 ++ dktX0_readLess_5
def dkwX0_readLess_3 : List UInt8 := [180, 1, 16, 42, 180, 0, 148, 27, 79, 42, 180, 1, 19, 42, 180, 0, 148, 28, 4, 96, 79, 42]
abbrev dktX0_readLess_3 : List UInt8 := dkwX0_readLess_3 ++ dktX0_readLess_4
def dkwX0_readLess_2 : List UInt8 := [153, 0, 10, 42, 182, 1, 10, 154, 0, 5, 3, 172, 42, 180, 1, 13, 42, 180, 0, 148, 28, 79, 42]
abbrev dktX0_readLess_2 : List UInt8 := dkwX0_readLess_2 ++ dktX0_readLess_3
def dkwX0_readLess_1 : List UInt8 := [180, 0, 39, 182, 0, 132, 172, 42, 182, 1, 7, 153, 0, 83, 42, 180, 0, 39, 61, 42, 182, 0, 138]
abbrev dktX0_readLess_1 : List UInt8 := dkwX0_readLess_1 ++ dktX0_readLess_2
def dkwX0_readLess_0 : List UInt8 := [42, 180, 0, 39, 60, 42, 182, 1, 10, 154, 0, 5, 3, 172, 42, 182, 1, 7, 154, 0, 13, 42, 4, 42]
abbrev dktX0_readLess_0 : List UInt8 := dkwX0_readLess_0 ++ dktX0_readLess_1
theorem dksX0_readLess_0 : cX0_readLess.data.toList.drop 0 = dktX0_readLess_0 := by decide +kernel
theorem dksX0_readLess_1 : cX0_readLess.data.toList.drop 24 = dktX0_readLess_1 := dk_seg dksX0_readLess_0 24 rfl rfl
theorem dksX0_readLess_2 : cX0_readLess.data.toList.drop 47 = dktX0_readLess_2 := dk_seg dksX0_readLess_1 23 rfl rfl
theorem dksX0_readLess_3 : cX0_readLess.data.toList.drop 70 = dktX0_readLess_3 := dk_seg dksX0_readLess_2 23 rfl rfl
theorem dksX0_readLess_4 : cX0_readLess.data.toList.drop 92 = dktX0_readLess_4 := dk_seg dksX0_readLess_3 22 rfl rfl
theorem dksX0_readLess_5 : cX0_readLess.data.toList.drop 115 = dktX0_readLess_5 := dk_seg dksX0_readLess_4 23 rfl rfl
theorem dX0_readLess_0 : decode cX0_readLess 0 = .ok (.aload_n 0, 1) := dk_42 (dk_at dksX0_readLess_0 0 rfl rfl)
theorem dX0_readLess_1 : decode cX0_readLess 1 = .ok (.getfield 39, 3) := dk_180 0 39 (dk_at dksX0_readLess_0 1 rfl rfl)
theorem dX0_readLess_4 : decode cX0_readLess 4 = .ok (.istore_n 1, 1) := dk_60 (dk_at dksX0_readLess_0 4 rfl rfl)
theorem dX0_readLess_5 : decode cX0_readLess 5 = .ok (.aload_n 0, 1) := dk_42 (dk_at dksX0_readLess_0 5 rfl rfl)
theorem dX0_readLess_6 : decode cX0_readLess 6 = .ok (.invokevirtual 266, 3) := dk_182 1 10 (dk_at dksX0_readLess_0 6 rfl rfl)
theorem dX0_readLess_9 : decode cX0_readLess 9 = .ok (.ifCond .ne 5, 3) := dk_154 0 5 (dk_at dksX0_readLess_0 9 rfl rfl)
theorem dX0_readLess_12 : decode cX0_readLess 12 = .ok (.iconst 0, 1) := dk_3 (dk_at dksX0_readLess_0 12 rfl rfl)
theorem dX0_readLess_13 : decode cX0_readLess 13 = .ok (.ireturn, 1) := dk_172 (dk_at dksX0_readLess_0 13 rfl rfl)
theorem dX0_readLess_14 : decode cX0_readLess 14 = .ok (.aload_n 0, 1) := dk_42 (dk_at dksX0_readLess_0 14 rfl rfl)
theorem dX0_readLess_15 : decode cX0_readLess 15 = .ok (.invokevirtual 263, 3) := dk_182 1 7 (dk_at dksX0_readLess_0 15 rfl rfl)
theorem dX0_readLess_18 : decode cX0_readLess 18 = .ok (.ifCond .ne 13, 3) := dk_154 0 13 (dk_at dksX0_readLess_0 18 rfl rfl)
theorem dX0_readLess_21 : decode cX0_readLess 21 = .ok (.aload_n 0, 1) := dk_42 (dk_at dksX0_readLess_0 21 rfl rfl)
theorem dX0_readLess_22 : decode cX0_readLess 22 = .ok (.iconst 1, 1) := dk_4 (dk_at dksX0_readLess_0 22 rfl rfl)
theorem dX0_readLess_23 : decode cX0_readLess 23 = .ok (.aload_n 0, 1) := dk_42 (dk_at dksX0_readLess_0 23 rfl rfl)
theorem dX0_readLess_24 : decode cX0_readLess 24 = .ok (.getfield 39, 3) := dk_180 0 39 (dk_at dksX0_readLess_1 0 rfl rfl)
theorem dX0_readLess_27 : decode cX0_readLess 27 = .ok (.invokevirtual 132, 3) := dk_182 0 132 (dk_at dksX0_readLess_1 3 rfl rfl)
theorem dX0_readLess_30 : decode cX0_readLess 30 = .ok (.ireturn, 1) := dk_172 (dk_at dksX0_readLess_1 6 rfl rfl)
theorem dX0_readLess_31 : decode cX0_readLess 31 = .ok (.aload_n 0, 1) := dk_42 (dk_at dksX0_readLess_1 7 rfl rfl)
theorem dX0_readLess_32 : decode cX0_readLess 32 = .ok (.invokevirtual 263, 3) := dk_182 1 7 (dk_at dksX0_readLess_1 8 rfl rfl)
theorem dX0_readLess_35 : decode cX0_readLess 35 = .ok (.ifCond .eq 83, 3) := dk_153 0 83 (dk_at dksX0_readLess_1 11 rfl rfl)
theorem dX0_readLess_38 : decode cX0_readLess 38 = .ok (.aload_n 0, 1) := dk_42 (dk_at dksX0_readLess_1 14 rfl rfl)
theorem dX0_readLess_39 : decode cX0_readLess 39 = .ok (.getfield 39, 3) := dk_180 0 39 (dk_at dksX0_readLess_1 15 rfl rfl)
theorem dX0_readLess_42 : decode cX0_readLess 42 = .ok (.istore_n 2, 1) := dk_61 (dk_at dksX0_readLess_1 18 rfl rfl)
theorem dX0_readLess_43 : decode cX0_readLess 43 = .ok (.aload_n 0, 1) := dk_42 (dk_at dksX0_readLess_1 19 rfl rfl)
theorem dX0_readLess_44 : decode cX0_readLess 44 = .ok (.invokevirtual 138, 3) := dk_182 0 138 (dk_at dksX0_readLess_1 20 rfl rfl)
theorem dX0_readLess_47 : decode cX0_readLess 47 = .ok (.ifCond .eq 10, 3) := dk_153 0 10 (dk_at dksX0_readLess_2 0 rfl rfl)
theorem dX0_readLess_50 : decode cX0_readLess 50 = .ok (.aload_n 0, 1) := dk_42 (dk_at dksX0_readLess_2 3 rfl rfl)
theorem dX0_readLess_51 : decode cX0_readLess 51 = .ok (.invokevirtual 266, 3) := dk_182 1 10 (dk_at dksX0_readLess_2 4 rfl rfl)
theorem dX0_readLess_54 : decode cX0_readLess 54 = .ok (.ifCond .ne 5, 3) := dk_154 0 5 (dk_at dksX0_readLess_2 7 rfl rfl)
theorem dX0_readLess_57 : decode cX0_readLess 57 = .ok (.iconst 0, 1) := dk_3 (dk_at dksX0_readLess_2 10 rfl rfl)
theorem dX0_readLess_58 : decode cX0_readLess 58 = .ok (.ireturn, 1) := dk_172 (dk_at dksX0_readLess_2 11 rfl rfl)
theorem dX0_readLess_59 : decode cX0_readLess 59 = .ok (.aload_n 0, 1) := dk_42 (dk_at dksX0_readLess_2 12 rfl rfl)
theorem dX0_readLess_60 : decode cX0_readLess 60 = .ok (.getfield 269, 3) := dk_180 1 13 (dk_at dksX0_readLess_2 13 rfl rfl)
theorem dX0_readLess_63 : decode cX0_readLess 63 = .ok (.aload_n 0, 1) := dk_42 (dk_at dksX0_readLess_2 16 rfl rfl)
theorem dX0_readLess_64 : decode cX0_readLess 64 = .ok (.getfield 148, 3) := dk_180 0 148 (dk_at dksX0_readLess_2 17 rfl rfl)
theorem dX0_readLess_67 : decode cX0_readLess 67 = .ok (.iload_n 2, 1) := dk_28 (dk_at dksX0_readLess_2 20 rfl rfl)
theorem dX0_readLess_68 : decode cX0_readLess 68 = .ok (.iastore, 1) := dk_79 (dk_at dksX0_readLess_2 21 rfl rfl)
theorem dX0_readLess_69 : decode cX0_readLess 69 = .ok (.aload_n 0, 1) := dk_42 (dk_at dksX0_readLess_2 22 rfl rfl)
theorem dX0_readLess_70 : decode cX0_readLess 70 = .ok (.getfield 272, 3) := dk_180 1 16 (dk_at dksX0_readLess_3 0 rfl rfl)
theorem dX0_readLess_73 : decode cX0_readLess 73 = .ok (.aload_n 0, 1) := dk_42 (dk_at dksX0_readLess_3 3 rfl rfl)
theorem dX0_readLess_74 : decode cX0_readLess 74 = .ok (.getfield 148, 3) := dk_180 0 148 (dk_at dksX0_readLess_3 4 rfl rfl)
theorem dX0_readLess_77 : decode cX0_readLess 77 = .ok (.iload_n 1, 1) := dk_27 (dk_at dksX0_readLess_3 7 rfl rfl)
theorem dX0_readLess_78 : decode cX0_readLess 78 = .ok (.iastore, 1) := dk_79 (dk_at dksX0_readLess_3 8 rfl rfl)
theorem dX0_readLess_79 : decode cX0_readLess 79 = .ok (.aload_n 0, 1) := dk_42 (dk_at dksX0_readLess_3 9 rfl rfl)
theorem dX0_readLess_80 : decode cX0_readLess 80 = .ok (.getfield 275, 3) := dk_180 1 19 (dk_at dksX0_readLess_3 10 rfl rfl)
theorem dX0_readLess_83 : decode cX0_readLess 83 = .ok (.aload_n 0, 1) := dk_42 (dk_at dksX0_readLess_3 13 rfl rfl)
theorem dX0_readLess_84 : decode cX0_readLess 84 = .ok (.getfield 148, 3) := dk_180 0 148 (dk_at dksX0_readLess_3 14 rfl rfl)
theorem dX0_readLess_87 : decode cX0_readLess 87 = .ok (.iload_n 2, 1) := dk_28 (dk_at dksX0_readLess_3 17 rfl rfl)
theorem dX0_readLess_88 : decode cX0_readLess 88 = .ok (.iconst 1, 1) := dk_4 (dk_at dksX0_readLess_3 18 rfl rfl)
theorem dX0_readLess_89 : decode cX0_readLess 89 = .ok (.iadd, 1) := dk_96 (dk_at dksX0_readLess_3 19 rfl rfl)
theorem dX0_readLess_90 : decode cX0_readLess 90 = .ok (.iastore, 1) := dk_79 (dk_at dksX0_readLess_3 20 rfl rfl)
theorem dX0_readLess_91 : decode cX0_readLess 91 = .ok (.aload_n 0, 1) := dk_42 (dk_at dksX0_readLess_3 21 rfl rfl)
theorem dX0_readLess_92 : decode cX0_readLess 92 = .ok (.getfield 278, 3) := dk_180 1 22 (dk_at dksX0_readLess_4 0 rfl rfl)
theorem dX0_readLess_95 : decode cX0_readLess 95 = .ok (.aload_n 0, 1) := dk_42 (dk_at dksX0_readLess_4 3 rfl rfl)
theorem dX0_readLess_96 : decode cX0_readLess 96 = .ok (.dup, 1) := dk_89 (dk_at dksX0_readLess_4 4 rfl rfl)
theorem dX0_readLess_97 : decode cX0_readLess 97 = .ok (.getfield 148, 3) := dk_180 0 148 (dk_at dksX0_readLess_4 5 rfl rfl)
theorem dX0_readLess_100 : decode cX0_readLess 100 = .ok (.dup_x1, 1) := dk_90 (dk_at dksX0_readLess_4 8 rfl rfl)
theorem dX0_readLess_101 : decode cX0_readLess 101 = .ok (.iconst 1, 1) := dk_4 (dk_at dksX0_readLess_4 9 rfl rfl)
theorem dX0_readLess_102 : decode cX0_readLess 102 = .ok (.iadd, 1) := dk_96 (dk_at dksX0_readLess_4 10 rfl rfl)
theorem dX0_readLess_103 : decode cX0_readLess 103 = .ok (.putfield 148, 3) := dk_181 0 148 (dk_at dksX0_readLess_4 11 rfl rfl)
theorem dX0_readLess_106 : decode cX0_readLess 106 = .ok (.aload_n 0, 1) := dk_42 (dk_at dksX0_readLess_4 14 rfl rfl)
theorem dX0_readLess_107 : decode cX0_readLess 107 = .ok (.getfield 39, 3) := dk_180 0 39 (dk_at dksX0_readLess_4 15 rfl rfl)
theorem dX0_readLess_110 : decode cX0_readLess 110 = .ok (.iastore, 1) := dk_79 (dk_at dksX0_readLess_4 18 rfl rfl)
theorem dX0_readLess_111 : decode cX0_readLess 111 = .ok (.iload_n 2, 1) := dk_28 (dk_at dksX0_readLess_4 19 rfl rfl)
theorem dX0_readLess_112 : decode cX0_readLess 112 = .ok (.iconst 1, 1) := dk_4 (dk_at dksX0_readLess_4 20 rfl rfl)
theorem dX0_readLess_113 : decode cX0_readLess 113 = .ok (.iadd, 1) := dk_96 (dk_at dksX0_readLess_4 21 rfl rfl)
theorem dX0_readLess_114 : decode cX0_readLess 114 = .ok (.istore_n 1, 1) := dk_60 (dk_at dksX0_readLess_4 22 rfl rfl)
theorem dX0_readLess_115 : decode cX0_readLess 115 = .ok (.goto (-84), 3) := dk_167 255 172 (dk_at dksX0_readLess_5 0 rfl rfl)
theorem dX0_readLess_118 : decode cX0_readLess 118 = .ok (.aload_n 0, 1) := dk_42 (dk_at dksX0_readLess_5 3 rfl rfl)
theorem dX0_readLess_119 : decode cX0_readLess 119 = .ok (.iconst 0, 1) := dk_3 (dk_at dksX0_readLess_5 4 rfl rfl)
theorem dX0_readLess_120 : decode cX0_readLess 120 = .ok (.invokevirtual 258, 3) := dk_182 1 2 (dk_at dksX0_readLess_5 5 rfl rfl)
theorem dX0_readLess_123 : decode cX0_readLess 123 = .ok (.ireturn, 1) := dk_172 (dk_at dksX0_readLess_5 8 rfl rfl)
abbrev cX0_readNames : ByteArray := prog_1_method_28_code
def yX0_readNames : MethodName := ⟨RX0, "readNames", "()Z"⟩
def dkwX0_readNames_1 : List UInt8 := [3, 172, 42, 182, 0, 142, 153, 0, 10, 42, 182, 1, 7, 153, 255, 219, 4, 172]
abbrev dktX0_readNames_1 : List UInt8 := dkwX0_readNames_1 ++ []
def dkwX0_readNames_0 : List UInt8 := [42, 182, 1, 7, 153, 0, 13, 42, 4, 42, 180, 0, 39, 182, 0, 132, 172, 42, 182, 0, 252, 154, 0, 5]
abbrev dktX0_readNames_0 : List UInt8 := dkwX0_readNames_0 ++ dktX0_readNames_1
theorem dksX0_readNames_0 : cX0_readNames.data.toList.drop 0 = dktX0_readNames_0 := by decide +kernel
theorem dksX0_readNames_1 : cX0_readNames.data.toList.drop 24 = dktX0_readNames_1 := dk_seg dksX0_readNames_0 24 rfl rfl
theorem dX0_readNames_0 : decode cX0_readNames 0 = .ok (.aload_n 0, 1) := dk_42 (dk_at dksX0_readNames_0 0 rfl rfl)
theorem dX0_readNames_1 : decode cX0_readNames 1 = .ok (.invokevirtual 263, 3) := dk_182 1 7 (dk_at dksX0_readNames_0 1 rfl rfl)
theorem dX0_readNames_4 : decode cX0_readNames 4 = .ok (.ifCond .eq 13, 3) := dk_153 0 13 (dk_at dksX0_readNames_0 4 rfl rfl)
theorem dX0_readNames_7 : decode cX0_readNames 7 = .ok (.aload_n 0, 1) := dk_42 (dk_at dksX0_readNames_0 7 rfl rfl)
theorem dX0_readNames_8 : decode cX0_readNames 8 = .ok (.iconst 1, 1) := dk_4 (dk_at dksX0_readNames_0 8 rfl rfl)
theorem dX0_readNames_9 : decode cX0_readNames 9 = .ok (.aload_n 0, 1) := dk_42 (dk_at dksX0_readNames_0 9 rfl rfl)
theorem dX0_readNames_10 : decode cX0_readNames 10 = .ok (.getfield 39, 3) := dk_180 0 39 (dk_at dksX0_readNames_0 10 rfl rfl)
theorem dX0_readNames_13 : decode cX0_readNames 13 = .ok (.invokevirtual 132, 3) := dk_182 0 132 (dk_at dksX0_readNames_0 13 rfl rfl)
theorem dX0_readNames_16 : decode cX0_readNames 16 = .ok (.ireturn, 1) := dk_172 (dk_at dksX0_readNames_0 16 rfl rfl)
theorem dX0_readNames_17 : decode cX0_readNames 17 = .ok (.aload_n 0, 1) := dk_42 (dk_at dksX0_readNames_0 17 rfl rfl)
theorem dX0_readNames_18 : decode cX0_readNames 18 = .ok (.invokevirtual 252, 3) := dk_182 0 252 (dk_at dksX0_readNames_0 18 rfl rfl)
theorem dX0_readNames_21 : decode cX0_readNames 21 = .ok (.ifCond .ne 5, 3) := dk_154 0 5 (dk_at dksX0_readNames_0 21 rfl rfl)
theorem dX0_readNames_24 : decode cX0_readNames 24 = .ok (.iconst 0, 1) := dk_3 (dk_at dksX0_readNames_1 0 rfl rfl)
theorem dX0_readNames_25 : decode cX0_readNames 25 = .ok (.ireturn, 1) := dk_172 (dk_at dksX0_readNames_1 1 rfl rfl)
theorem dX0_readNames_26 : decode cX0_readNames 26 = .ok (.aload_n 0, 1) := dk_42 (dk_at dksX0_readNames_1 2 rfl rfl)
theorem dX0_readNames_27 : decode cX0_readNames 27 = .ok (.invokevirtual 142, 3) := dk_182 0 142 (dk_at dksX0_readNames_1 3 rfl rfl)
theorem dX0_readNames_30 : decode cX0_readNames 30 = .ok (.ifCond .eq 10, 3) := dk_153 0 10 (dk_at dksX0_readNames_1 6 rfl rfl)
theorem dX0_readNames_33 : decode cX0_readNames 33 = .ok (.aload_n 0, 1) := dk_42 (dk_at dksX0_readNames_1 9 rfl rfl)
theorem dX0_readNames_34 : decode cX0_readNames 34 = .ok (.invokevirtual 263, 3) := dk_182 1 7 (dk_at dksX0_readNames_1 10 rfl rfl)
theorem dX0_readNames_37 : decode cX0_readNames 37 = .ok (.ifCond .eq (-37), 3) := dk_153 255 219 (dk_at dksX0_readNames_1 13 rfl rfl)
theorem dX0_readNames_40 : decode cX0_readNames 40 = .ok (.iconst 1, 1) := dk_4 (dk_at dksX0_readNames_1 16 rfl rfl)
theorem dX0_readNames_41 : decode cX0_readNames 41 = .ok (.ireturn, 1) := dk_172 (dk_at dksX0_readNames_1 17 rfl rfl)
abbrev cX0_isLess : ByteArray := prog_1_method_27_code
def yX0_isLess : MethodName := ⟨RX0, "isLess", "()Z"⟩
def dkwX0_isLess_0 : List UInt8 := [42, 19, 1, 5, 182, 0, 218, 172]
abbrev dktX0_isLess_0 : List UInt8 := dkwX0_isLess_0 ++ []
theorem dksX0_isLess_0 : cX0_isLess.data.toList.drop 0 = dktX0_isLess_0 := by decide +kernel
theorem dX0_isLess_0 : decode cX0_isLess 0 = .ok (.aload_n 0, 1) := dk_42 (dk_at dksX0_isLess_0 0 rfl rfl)
theorem dX0_isLess_1 : decode cX0_isLess 1 = .ok (.ldc_w 261, 3) := dk_19 1 5 (dk_at dksX0_isLess_0 1 rfl rfl)
theorem dX0_isLess_4 : decode cX0_isLess 4 = .ok (.invokevirtual 218, 3) := dk_182 0 218 (dk_at dksX0_isLess_0 4 rfl rfl)
theorem dX0_isLess_7 : decode cX0_isLess 7 = .ok (.ireturn, 1) := dk_172 (dk_at dksX0_isLess_0 7 rfl rfl)
abbrev cX0_readRow : ByteArray := prog_1_method_30_code
def yX0_readRow : MethodName := ⟨RX0, "readRow", "()Z"⟩
def dkwX0_readRow_10 : List UInt8 := [3, 182, 1, 2, 172]
abbrev dktX0_readRow_10 : List UInt8 := dkwX0_readRow_10 ++ []
def dkwX0_readRow_9 : List UInt8 := [154, 0, 5, 3, 172, 42, 16, 93, 182, 1, 40, 153, 255, 240, 42, 182, 0, 138, 154, 0, 5, 3, 172, 42]
abbrev dktX0_readRow_9 : List UInt8 := dkwX0_readRow_9 ++ dktX0_readRow_10
def dkwX0_readRow_8 : List UInt8 := [16, 91, 182, 1, 40, 153, 0, 40, 42, 182, 0, 138, 154, 0, 5, 3, 172, 42, 27, 182, 1, 43]
abbrev dktX0_readRow_8 : List UInt8 := dkwX0_readRow_8 ++ dktX0_readRow_9
def dkwX0_readRow_7 : List UInt8 := [154, 0, 5, 3, 172, 42, 180, 1, 37, 27, 3, 79, 42, 89, 180, 0, 151, 4, 96, 181, 0, 151, 42]
abbrev dktX0_readRow_7 : List UInt8 := dkwX0_readRow_7 ++ dktX0_readRow_8
def dkwX0_readRow_6 : List UInt8 := [42, 180, 1, 34, 27, 42, 180, 0, 39, 79, 42, 5, 182, 1, 2, 153, 0, 10, 42, 182, 0, 252]
abbrev dktX0_readRow_6 : List UInt8 := dkwX0_readRow_6 ++ dktX0_readRow_7
def dkwX0_readRow_5 : List UInt8 := [182, 1, 2, 154, 0, 5, 3, 172, 42, 182, 0, 142, 153, 0, 12, 42, 182, 0, 138, 154, 255, 245, 3, 172]
abbrev dktX0_readRow_5 : List UInt8 := dkwX0_readRow_5 ++ dktX0_readRow_6
def dkwX0_readRow_4 : List UInt8 := [180, 0, 39, 42, 180, 1, 28, 27, 46, 160, 0, 13, 42, 4, 42, 180, 0, 39, 182, 0, 132, 172, 42, 4]
abbrev dktX0_readRow_4 : List UInt8 := dkwX0_readRow_4 ++ dktX0_readRow_5
def dkwX0_readRow_3 : List UInt8 := [160, 0, 12, 42, 182, 0, 138, 154, 255, 232, 3, 172, 42, 180, 1, 31, 27, 42, 180, 0, 39, 79, 42]
abbrev dktX0_readRow_3 : List UInt8 := dkwX0_readRow_3 ++ dktX0_readRow_4
def dkwX0_readRow_2 : List UInt8 := [42, 180, 0, 39, 79, 42, 182, 0, 142, 154, 0, 16, 42, 180, 0, 108, 42, 180, 0, 39, 46, 4]
abbrev dktX0_readRow_2 : List UInt8 := dkwX0_readRow_2 ++ dktX0_readRow_3
def dkwX0_readRow_1 : List UInt8 := [42, 180, 1, 25, 27, 42, 180, 0, 39, 79, 42, 182, 0, 138, 154, 0, 5, 3, 172, 42, 180, 1, 28, 27]
abbrev dktX0_readRow_1 : List UInt8 := dkwX0_readRow_1 ++ dktX0_readRow_2
def dkwX0_readRow_0 : List UInt8 := [42, 180, 0, 151, 16, 50, 160, 0, 13, 42, 5, 42, 180, 0, 39, 182, 0, 132, 172, 42, 180, 0, 151, 60]
abbrev dktX0_readRow_0 : List UInt8 := dkwX0_readRow_0 ++ dktX0_readRow_1
theorem dksX0_readRow_0 : cX0_readRow.data.toList.drop 0 = dktX0_readRow_0 := by decide +kernel
theorem dksX0_readRow_1 : cX0_readRow.data.toList.drop 24 = dktX0_readRow_1 := dk_seg dksX0_readRow_0 24 rfl rfl
theorem dksX0_readRow_2 : cX0_readRow.data.toList.drop 48 = dktX0_readRow_2 := dk_seg dksX0_readRow_1 24 rfl rfl
theorem dksX0_readRow_3 : cX0_readRow.data.toList.drop 70 = dktX0_readRow_3 := dk_seg dksX0_readRow_2 22 rfl rfl
theorem dksX0_readRow_4 : cX0_readRow.data.toList.drop 93 = dktX0_readRow_4 := dk_seg dksX0_readRow_3 23 rfl rfl
theorem dksX0_readRow_5 : cX0_readRow.data.toList.drop 117 = dktX0_readRow_5 := dk_seg dksX0_readRow_4 24 rfl rfl
theorem dksX0_readRow_6 : cX0_readRow.data.toList.drop 141 = dktX0_readRow_6 := dk_seg dksX0_readRow_5 24 rfl rfl
theorem dksX0_readRow_7 : cX0_readRow.data.toList.drop 163 = dktX0_readRow_7 := dk_seg dksX0_readRow_6 22 rfl rfl
theorem dksX0_readRow_8 : cX0_readRow.data.toList.drop 186 = dktX0_readRow_8 := dk_seg dksX0_readRow_7 23 rfl rfl
theorem dksX0_readRow_9 : cX0_readRow.data.toList.drop 208 = dktX0_readRow_9 := dk_seg dksX0_readRow_8 22 rfl rfl
theorem dksX0_readRow_10 : cX0_readRow.data.toList.drop 232 = dktX0_readRow_10 := dk_seg dksX0_readRow_9 24 rfl rfl
theorem dX0_readRow_0 : decode cX0_readRow 0 = .ok (.aload_n 0, 1) := dk_42 (dk_at dksX0_readRow_0 0 rfl rfl)
theorem dX0_readRow_1 : decode cX0_readRow 1 = .ok (.getfield 151, 3) := dk_180 0 151 (dk_at dksX0_readRow_0 1 rfl rfl)
theorem dX0_readRow_4 : decode cX0_readRow 4 = .ok (.bipush 50, 2) := dk_16 50 (dk_at dksX0_readRow_0 4 rfl rfl)
theorem dX0_readRow_6 : decode cX0_readRow 6 = .ok (.if_icmp .ne 13, 3) := dk_160 0 13 (dk_at dksX0_readRow_0 6 rfl rfl)
theorem dX0_readRow_9 : decode cX0_readRow 9 = .ok (.aload_n 0, 1) := dk_42 (dk_at dksX0_readRow_0 9 rfl rfl)
theorem dX0_readRow_10 : decode cX0_readRow 10 = .ok (.iconst 2, 1) := dk_5 (dk_at dksX0_readRow_0 10 rfl rfl)
theorem dX0_readRow_11 : decode cX0_readRow 11 = .ok (.aload_n 0, 1) := dk_42 (dk_at dksX0_readRow_0 11 rfl rfl)
theorem dX0_readRow_12 : decode cX0_readRow 12 = .ok (.getfield 39, 3) := dk_180 0 39 (dk_at dksX0_readRow_0 12 rfl rfl)
theorem dX0_readRow_15 : decode cX0_readRow 15 = .ok (.invokevirtual 132, 3) := dk_182 0 132 (dk_at dksX0_readRow_0 15 rfl rfl)
theorem dX0_readRow_18 : decode cX0_readRow 18 = .ok (.ireturn, 1) := dk_172 (dk_at dksX0_readRow_0 18 rfl rfl)
theorem dX0_readRow_19 : decode cX0_readRow 19 = .ok (.aload_n 0, 1) := dk_42 (dk_at dksX0_readRow_0 19 rfl rfl)
theorem dX0_readRow_20 : decode cX0_readRow 20 = .ok (.getfield 151, 3) := dk_180 0 151 (dk_at dksX0_readRow_0 20 rfl rfl)
theorem dX0_readRow_23 : decode cX0_readRow 23 = .ok (.istore_n 1, 1) := dk_60 (dk_at dksX0_readRow_0 23 rfl rfl)
theorem dX0_readRow_24 : decode cX0_readRow 24 = .ok (.aload_n 0, 1) := dk_42 (dk_at dksX0_readRow_1 0 rfl rfl)
theorem dX0_readRow_25 : decode cX0_readRow 25 = .ok (.getfield 281, 3) := dk_180 1 25 (dk_at dksX0_readRow_1 1 rfl rfl)
theorem dX0_readRow_28 : decode cX0_readRow 28 = .ok (.iload_n 1, 1) := dk_27 (dk_at dksX0_readRow_1 4 rfl rfl)
theorem dX0_readRow_29 : decode cX0_readRow 29 = .ok (.aload_n 0, 1) := dk_42 (dk_at dksX0_readRow_1 5 rfl rfl)
theorem dX0_readRow_30 : decode cX0_readRow 30 = .ok (.getfield 39, 3) := dk_180 0 39 (dk_at dksX0_readRow_1 6 rfl rfl)
theorem dX0_readRow_33 : decode cX0_readRow 33 = .ok (.iastore, 1) := dk_79 (dk_at dksX0_readRow_1 9 rfl rfl)
theorem dX0_readRow_34 : decode cX0_readRow 34 = .ok (.aload_n 0, 1) := dk_42 (dk_at dksX0_readRow_1 10 rfl rfl)
theorem dX0_readRow_35 : decode cX0_readRow 35 = .ok (.invokevirtual 138, 3) := dk_182 0 138 (dk_at dksX0_readRow_1 11 rfl rfl)
theorem dX0_readRow_38 : decode cX0_readRow 38 = .ok (.ifCond .ne 5, 3) := dk_154 0 5 (dk_at dksX0_readRow_1 14 rfl rfl)
theorem dX0_readRow_41 : decode cX0_readRow 41 = .ok (.iconst 0, 1) := dk_3 (dk_at dksX0_readRow_1 17 rfl rfl)
theorem dX0_readRow_42 : decode cX0_readRow 42 = .ok (.ireturn, 1) := dk_172 (dk_at dksX0_readRow_1 18 rfl rfl)
theorem dX0_readRow_43 : decode cX0_readRow 43 = .ok (.aload_n 0, 1) := dk_42 (dk_at dksX0_readRow_1 19 rfl rfl)
theorem dX0_readRow_44 : decode cX0_readRow 44 = .ok (.getfield 284, 3) := dk_180 1 28 (dk_at dksX0_readRow_1 20 rfl rfl)
theorem dX0_readRow_47 : decode cX0_readRow 47 = .ok (.iload_n 1, 1) := dk_27 (dk_at dksX0_readRow_1 23 rfl rfl)
theorem dX0_readRow_48 : decode cX0_readRow 48 = .ok (.aload_n 0, 1) := dk_42 (dk_at dksX0_readRow_2 0 rfl rfl)
theorem dX0_readRow_49 : decode cX0_readRow 49 = .ok (.getfield 39, 3) := dk_180 0 39 (dk_at dksX0_readRow_2 1 rfl rfl)
theorem dX0_readRow_52 : decode cX0_readRow 52 = .ok (.iastore, 1) := dk_79 (dk_at dksX0_readRow_2 4 rfl rfl)
theorem dX0_readRow_53 : decode cX0_readRow 53 = .ok (.aload_n 0, 1) := dk_42 (dk_at dksX0_readRow_2 5 rfl rfl)
theorem dX0_readRow_54 : decode cX0_readRow 54 = .ok (.invokevirtual 142, 3) := dk_182 0 142 (dk_at dksX0_readRow_2 6 rfl rfl)
theorem dX0_readRow_57 : decode cX0_readRow 57 = .ok (.ifCond .ne 16, 3) := dk_154 0 16 (dk_at dksX0_readRow_2 9 rfl rfl)
theorem dX0_readRow_60 : decode cX0_readRow 60 = .ok (.aload_n 0, 1) := dk_42 (dk_at dksX0_readRow_2 12 rfl rfl)
theorem dX0_readRow_61 : decode cX0_readRow 61 = .ok (.getfield 108, 3) := dk_180 0 108 (dk_at dksX0_readRow_2 13 rfl rfl)
theorem dX0_readRow_64 : decode cX0_readRow 64 = .ok (.aload_n 0, 1) := dk_42 (dk_at dksX0_readRow_2 16 rfl rfl)
theorem dX0_readRow_65 : decode cX0_readRow 65 = .ok (.getfield 39, 3) := dk_180 0 39 (dk_at dksX0_readRow_2 17 rfl rfl)
theorem dX0_readRow_68 : decode cX0_readRow 68 = .ok (.iaload, 1) := dk_46 (dk_at dksX0_readRow_2 20 rfl rfl)
theorem dX0_readRow_69 : decode cX0_readRow 69 = .ok (.iconst 1, 1) := dk_4 (dk_at dksX0_readRow_2 21 rfl rfl)
theorem dX0_readRow_70 : decode cX0_readRow 70 = .ok (.if_icmp .ne 12, 3) := dk_160 0 12 (dk_at dksX0_readRow_3 0 rfl rfl)
theorem dX0_readRow_73 : decode cX0_readRow 73 = .ok (.aload_n 0, 1) := dk_42 (dk_at dksX0_readRow_3 3 rfl rfl)
theorem dX0_readRow_74 : decode cX0_readRow 74 = .ok (.invokevirtual 138, 3) := dk_182 0 138 (dk_at dksX0_readRow_3 4 rfl rfl)
theorem dX0_readRow_77 : decode cX0_readRow 77 = .ok (.ifCond .ne (-24), 3) := dk_154 255 232 (dk_at dksX0_readRow_3 7 rfl rfl)
theorem dX0_readRow_80 : decode cX0_readRow 80 = .ok (.iconst 0, 1) := dk_3 (dk_at dksX0_readRow_3 10 rfl rfl)
theorem dX0_readRow_81 : decode cX0_readRow 81 = .ok (.ireturn, 1) := dk_172 (dk_at dksX0_readRow_3 11 rfl rfl)
theorem dX0_readRow_82 : decode cX0_readRow 82 = .ok (.aload_n 0, 1) := dk_42 (dk_at dksX0_readRow_3 12 rfl rfl)
theorem dX0_readRow_83 : decode cX0_readRow 83 = .ok (.getfield 287, 3) := dk_180 1 31 (dk_at dksX0_readRow_3 13 rfl rfl)
theorem dX0_readRow_86 : decode cX0_readRow 86 = .ok (.iload_n 1, 1) := dk_27 (dk_at dksX0_readRow_3 16 rfl rfl)
theorem dX0_readRow_87 : decode cX0_readRow 87 = .ok (.aload_n 0, 1) := dk_42 (dk_at dksX0_readRow_3 17 rfl rfl)
theorem dX0_readRow_88 : decode cX0_readRow 88 = .ok (.getfield 39, 3) := dk_180 0 39 (dk_at dksX0_readRow_3 18 rfl rfl)
theorem dX0_readRow_91 : decode cX0_readRow 91 = .ok (.iastore, 1) := dk_79 (dk_at dksX0_readRow_3 21 rfl rfl)
theorem dX0_readRow_92 : decode cX0_readRow 92 = .ok (.aload_n 0, 1) := dk_42 (dk_at dksX0_readRow_3 22 rfl rfl)
theorem dX0_readRow_93 : decode cX0_readRow 93 = .ok (.getfield 39, 3) := dk_180 0 39 (dk_at dksX0_readRow_4 0 rfl rfl)
theorem dX0_readRow_96 : decode cX0_readRow 96 = .ok (.aload_n 0, 1) := dk_42 (dk_at dksX0_readRow_4 3 rfl rfl)
theorem dX0_readRow_97 : decode cX0_readRow 97 = .ok (.getfield 284, 3) := dk_180 1 28 (dk_at dksX0_readRow_4 4 rfl rfl)
theorem dX0_readRow_100 : decode cX0_readRow 100 = .ok (.iload_n 1, 1) := dk_27 (dk_at dksX0_readRow_4 7 rfl rfl)
theorem dX0_readRow_101 : decode cX0_readRow 101 = .ok (.iaload, 1) := dk_46 (dk_at dksX0_readRow_4 8 rfl rfl)
theorem dX0_readRow_102 : decode cX0_readRow 102 = .ok (.if_icmp .ne 13, 3) := dk_160 0 13 (dk_at dksX0_readRow_4 9 rfl rfl)
theorem dX0_readRow_105 : decode cX0_readRow 105 = .ok (.aload_n 0, 1) := dk_42 (dk_at dksX0_readRow_4 12 rfl rfl)
theorem dX0_readRow_106 : decode cX0_readRow 106 = .ok (.iconst 1, 1) := dk_4 (dk_at dksX0_readRow_4 13 rfl rfl)
theorem dX0_readRow_107 : decode cX0_readRow 107 = .ok (.aload_n 0, 1) := dk_42 (dk_at dksX0_readRow_4 14 rfl rfl)
theorem dX0_readRow_108 : decode cX0_readRow 108 = .ok (.getfield 39, 3) := dk_180 0 39 (dk_at dksX0_readRow_4 15 rfl rfl)
theorem dX0_readRow_111 : decode cX0_readRow 111 = .ok (.invokevirtual 132, 3) := dk_182 0 132 (dk_at dksX0_readRow_4 18 rfl rfl)
theorem dX0_readRow_114 : decode cX0_readRow 114 = .ok (.ireturn, 1) := dk_172 (dk_at dksX0_readRow_4 21 rfl rfl)
theorem dX0_readRow_115 : decode cX0_readRow 115 = .ok (.aload_n 0, 1) := dk_42 (dk_at dksX0_readRow_4 22 rfl rfl)
theorem dX0_readRow_116 : decode cX0_readRow 116 = .ok (.iconst 1, 1) := dk_4 (dk_at dksX0_readRow_4 23 rfl rfl)
theorem dX0_readRow_117 : decode cX0_readRow 117 = .ok (.invokevirtual 258, 3) := dk_182 1 2 (dk_at dksX0_readRow_5 0 rfl rfl)
theorem dX0_readRow_120 : decode cX0_readRow 120 = .ok (.ifCond .ne 5, 3) := dk_154 0 5 (dk_at dksX0_readRow_5 3 rfl rfl)
theorem dX0_readRow_123 : decode cX0_readRow 123 = .ok (.iconst 0, 1) := dk_3 (dk_at dksX0_readRow_5 6 rfl rfl)
theorem dX0_readRow_124 : decode cX0_readRow 124 = .ok (.ireturn, 1) := dk_172 (dk_at dksX0_readRow_5 7 rfl rfl)
theorem dX0_readRow_125 : decode cX0_readRow 125 = .ok (.aload_n 0, 1) := dk_42 (dk_at dksX0_readRow_5 8 rfl rfl)
theorem dX0_readRow_126 : decode cX0_readRow 126 = .ok (.invokevirtual 142, 3) := dk_182 0 142 (dk_at dksX0_readRow_5 9 rfl rfl)
theorem dX0_readRow_129 : decode cX0_readRow 129 = .ok (.ifCond .eq 12, 3) := dk_153 0 12 (dk_at dksX0_readRow_5 12 rfl rfl)
theorem dX0_readRow_132 : decode cX0_readRow 132 = .ok (.aload_n 0, 1) := dk_42 (dk_at dksX0_readRow_5 15 rfl rfl)
theorem dX0_readRow_133 : decode cX0_readRow 133 = .ok (.invokevirtual 138, 3) := dk_182 0 138 (dk_at dksX0_readRow_5 16 rfl rfl)
theorem dX0_readRow_136 : decode cX0_readRow 136 = .ok (.ifCond .ne (-11), 3) := dk_154 255 245 (dk_at dksX0_readRow_5 19 rfl rfl)
theorem dX0_readRow_139 : decode cX0_readRow 139 = .ok (.iconst 0, 1) := dk_3 (dk_at dksX0_readRow_5 22 rfl rfl)
theorem dX0_readRow_140 : decode cX0_readRow 140 = .ok (.ireturn, 1) := dk_172 (dk_at dksX0_readRow_5 23 rfl rfl)
theorem dX0_readRow_141 : decode cX0_readRow 141 = .ok (.aload_n 0, 1) := dk_42 (dk_at dksX0_readRow_6 0 rfl rfl)
theorem dX0_readRow_142 : decode cX0_readRow 142 = .ok (.getfield 290, 3) := dk_180 1 34 (dk_at dksX0_readRow_6 1 rfl rfl)
theorem dX0_readRow_145 : decode cX0_readRow 145 = .ok (.iload_n 1, 1) := dk_27 (dk_at dksX0_readRow_6 4 rfl rfl)
theorem dX0_readRow_146 : decode cX0_readRow 146 = .ok (.aload_n 0, 1) := dk_42 (dk_at dksX0_readRow_6 5 rfl rfl)
theorem dX0_readRow_147 : decode cX0_readRow 147 = .ok (.getfield 39, 3) := dk_180 0 39 (dk_at dksX0_readRow_6 6 rfl rfl)
theorem dX0_readRow_150 : decode cX0_readRow 150 = .ok (.iastore, 1) := dk_79 (dk_at dksX0_readRow_6 9 rfl rfl)
theorem dX0_readRow_151 : decode cX0_readRow 151 = .ok (.aload_n 0, 1) := dk_42 (dk_at dksX0_readRow_6 10 rfl rfl)
theorem dX0_readRow_152 : decode cX0_readRow 152 = .ok (.iconst 2, 1) := dk_5 (dk_at dksX0_readRow_6 11 rfl rfl)
theorem dX0_readRow_153 : decode cX0_readRow 153 = .ok (.invokevirtual 258, 3) := dk_182 1 2 (dk_at dksX0_readRow_6 12 rfl rfl)
theorem dX0_readRow_156 : decode cX0_readRow 156 = .ok (.ifCond .eq 10, 3) := dk_153 0 10 (dk_at dksX0_readRow_6 15 rfl rfl)
theorem dX0_readRow_159 : decode cX0_readRow 159 = .ok (.aload_n 0, 1) := dk_42 (dk_at dksX0_readRow_6 18 rfl rfl)
theorem dX0_readRow_160 : decode cX0_readRow 160 = .ok (.invokevirtual 252, 3) := dk_182 0 252 (dk_at dksX0_readRow_6 19 rfl rfl)
theorem dX0_readRow_163 : decode cX0_readRow 163 = .ok (.ifCond .ne 5, 3) := dk_154 0 5 (dk_at dksX0_readRow_7 0 rfl rfl)
theorem dX0_readRow_166 : decode cX0_readRow 166 = .ok (.iconst 0, 1) := dk_3 (dk_at dksX0_readRow_7 3 rfl rfl)
theorem dX0_readRow_167 : decode cX0_readRow 167 = .ok (.ireturn, 1) := dk_172 (dk_at dksX0_readRow_7 4 rfl rfl)
theorem dX0_readRow_168 : decode cX0_readRow 168 = .ok (.aload_n 0, 1) := dk_42 (dk_at dksX0_readRow_7 5 rfl rfl)
theorem dX0_readRow_169 : decode cX0_readRow 169 = .ok (.getfield 293, 3) := dk_180 1 37 (dk_at dksX0_readRow_7 6 rfl rfl)
theorem dX0_readRow_172 : decode cX0_readRow 172 = .ok (.iload_n 1, 1) := dk_27 (dk_at dksX0_readRow_7 9 rfl rfl)
theorem dX0_readRow_173 : decode cX0_readRow 173 = .ok (.iconst 0, 1) := dk_3 (dk_at dksX0_readRow_7 10 rfl rfl)
theorem dX0_readRow_174 : decode cX0_readRow 174 = .ok (.iastore, 1) := dk_79 (dk_at dksX0_readRow_7 11 rfl rfl)
theorem dX0_readRow_175 : decode cX0_readRow 175 = .ok (.aload_n 0, 1) := dk_42 (dk_at dksX0_readRow_7 12 rfl rfl)
theorem dX0_readRow_176 : decode cX0_readRow 176 = .ok (.dup, 1) := dk_89 (dk_at dksX0_readRow_7 13 rfl rfl)
theorem dX0_readRow_177 : decode cX0_readRow 177 = .ok (.getfield 151, 3) := dk_180 0 151 (dk_at dksX0_readRow_7 14 rfl rfl)
theorem dX0_readRow_180 : decode cX0_readRow 180 = .ok (.iconst 1, 1) := dk_4 (dk_at dksX0_readRow_7 17 rfl rfl)
theorem dX0_readRow_181 : decode cX0_readRow 181 = .ok (.iadd, 1) := dk_96 (dk_at dksX0_readRow_7 18 rfl rfl)
theorem dX0_readRow_182 : decode cX0_readRow 182 = .ok (.putfield 151, 3) := dk_181 0 151 (dk_at dksX0_readRow_7 19 rfl rfl)
theorem dX0_readRow_185 : decode cX0_readRow 185 = .ok (.aload_n 0, 1) := dk_42 (dk_at dksX0_readRow_7 22 rfl rfl)
theorem dX0_readRow_186 : decode cX0_readRow 186 = .ok (.bipush 91, 2) := dk_16 91 (dk_at dksX0_readRow_8 0 rfl rfl)
theorem dX0_readRow_188 : decode cX0_readRow 188 = .ok (.invokevirtual 296, 3) := dk_182 1 40 (dk_at dksX0_readRow_8 2 rfl rfl)
theorem dX0_readRow_191 : decode cX0_readRow 191 = .ok (.ifCond .eq 40, 3) := dk_153 0 40 (dk_at dksX0_readRow_8 5 rfl rfl)
theorem dX0_readRow_194 : decode cX0_readRow 194 = .ok (.aload_n 0, 1) := dk_42 (dk_at dksX0_readRow_8 8 rfl rfl)
theorem dX0_readRow_195 : decode cX0_readRow 195 = .ok (.invokevirtual 138, 3) := dk_182 0 138 (dk_at dksX0_readRow_8 9 rfl rfl)
theorem dX0_readRow_198 : decode cX0_readRow 198 = .ok (.ifCond .ne 5, 3) := dk_154 0 5 (dk_at dksX0_readRow_8 12 rfl rfl)
theorem dX0_readRow_201 : decode cX0_readRow 201 = .ok (.iconst 0, 1) := dk_3 (dk_at dksX0_readRow_8 15 rfl rfl)
theorem dX0_readRow_202 : decode cX0_readRow 202 = .ok (.ireturn, 1) := dk_172 (dk_at dksX0_readRow_8 16 rfl rfl)
theorem dX0_readRow_203 : decode cX0_readRow 203 = .ok (.aload_n 0, 1) := dk_42 (dk_at dksX0_readRow_8 17 rfl rfl)
theorem dX0_readRow_204 : decode cX0_readRow 204 = .ok (.iload_n 1, 1) := dk_27 (dk_at dksX0_readRow_8 18 rfl rfl)
theorem dX0_readRow_205 : decode cX0_readRow 205 = .ok (.invokevirtual 299, 3) := dk_182 1 43 (dk_at dksX0_readRow_8 19 rfl rfl)
theorem dX0_readRow_208 : decode cX0_readRow 208 = .ok (.ifCond .ne 5, 3) := dk_154 0 5 (dk_at dksX0_readRow_9 0 rfl rfl)
theorem dX0_readRow_211 : decode cX0_readRow 211 = .ok (.iconst 0, 1) := dk_3 (dk_at dksX0_readRow_9 3 rfl rfl)
theorem dX0_readRow_212 : decode cX0_readRow 212 = .ok (.ireturn, 1) := dk_172 (dk_at dksX0_readRow_9 4 rfl rfl)
theorem dX0_readRow_213 : decode cX0_readRow 213 = .ok (.aload_n 0, 1) := dk_42 (dk_at dksX0_readRow_9 5 rfl rfl)
theorem dX0_readRow_214 : decode cX0_readRow 214 = .ok (.bipush 93, 2) := dk_16 93 (dk_at dksX0_readRow_9 6 rfl rfl)
theorem dX0_readRow_216 : decode cX0_readRow 216 = .ok (.invokevirtual 296, 3) := dk_182 1 40 (dk_at dksX0_readRow_9 8 rfl rfl)
theorem dX0_readRow_219 : decode cX0_readRow 219 = .ok (.ifCond .eq (-16), 3) := dk_153 255 240 (dk_at dksX0_readRow_9 11 rfl rfl)
theorem dX0_readRow_222 : decode cX0_readRow 222 = .ok (.aload_n 0, 1) := dk_42 (dk_at dksX0_readRow_9 14 rfl rfl)
theorem dX0_readRow_223 : decode cX0_readRow 223 = .ok (.invokevirtual 138, 3) := dk_182 0 138 (dk_at dksX0_readRow_9 15 rfl rfl)
theorem dX0_readRow_226 : decode cX0_readRow 226 = .ok (.ifCond .ne 5, 3) := dk_154 0 5 (dk_at dksX0_readRow_9 18 rfl rfl)
theorem dX0_readRow_229 : decode cX0_readRow 229 = .ok (.iconst 0, 1) := dk_3 (dk_at dksX0_readRow_9 21 rfl rfl)
theorem dX0_readRow_230 : decode cX0_readRow 230 = .ok (.ireturn, 1) := dk_172 (dk_at dksX0_readRow_9 22 rfl rfl)
theorem dX0_readRow_231 : decode cX0_readRow 231 = .ok (.aload_n 0, 1) := dk_42 (dk_at dksX0_readRow_9 23 rfl rfl)
theorem dX0_readRow_232 : decode cX0_readRow 232 = .ok (.iconst 0, 1) := dk_3 (dk_at dksX0_readRow_10 0 rfl rfl)
theorem dX0_readRow_233 : decode cX0_readRow 233 = .ok (.invokevirtual 258, 3) := dk_182 1 2 (dk_at dksX0_readRow_10 1 rfl rfl)
theorem dX0_readRow_236 : decode cX0_readRow 236 = .ok (.ireturn, 1) := dk_172 (dk_at dksX0_readRow_10 4 rfl rfl)
abbrev cX0_isSign : ByteArray := prog_1_method_21_code
def yX0_isSign : MethodName := ⟨RX0, "isSign", "(I)Z"⟩
def dkwX0_isSign_1 : List UInt8 := [180, 0, 39, 46, 51, 27, 160, 0, 7, 4, 167, 0, 4, 3, 172]
abbrev dktX0_isSign_1 : List UInt8 := dkwX0_isSign_1 ++ []
def dkwX0_isSign_0 : List UInt8 := [42, 180, 0, 108, 42, 180, 0, 39, 46, 4, 160, 0, 25, 42, 180, 0, 27, 42, 180, 0, 111, 42]
abbrev dktX0_isSign_0 : List UInt8 := dkwX0_isSign_0 ++ dktX0_isSign_1
theorem dksX0_isSign_0 : cX0_isSign.data.toList.drop 0 = dktX0_isSign_0 := by decide +kernel
theorem dksX0_isSign_1 : cX0_isSign.data.toList.drop 22 = dktX0_isSign_1 := dk_seg dksX0_isSign_0 22 rfl rfl
theorem dX0_isSign_0 : decode cX0_isSign 0 = .ok (.aload_n 0, 1) := dk_42 (dk_at dksX0_isSign_0 0 rfl rfl)
theorem dX0_isSign_1 : decode cX0_isSign 1 = .ok (.getfield 108, 3) := dk_180 0 108 (dk_at dksX0_isSign_0 1 rfl rfl)
theorem dX0_isSign_4 : decode cX0_isSign 4 = .ok (.aload_n 0, 1) := dk_42 (dk_at dksX0_isSign_0 4 rfl rfl)
theorem dX0_isSign_5 : decode cX0_isSign 5 = .ok (.getfield 39, 3) := dk_180 0 39 (dk_at dksX0_isSign_0 5 rfl rfl)
theorem dX0_isSign_8 : decode cX0_isSign 8 = .ok (.iaload, 1) := dk_46 (dk_at dksX0_isSign_0 8 rfl rfl)
theorem dX0_isSign_9 : decode cX0_isSign 9 = .ok (.iconst 1, 1) := dk_4 (dk_at dksX0_isSign_0 9 rfl rfl)
theorem dX0_isSign_10 : decode cX0_isSign 10 = .ok (.if_icmp .ne 25, 3) := dk_160 0 25 (dk_at dksX0_isSign_0 10 rfl rfl)
theorem dX0_isSign_13 : decode cX0_isSign 13 = .ok (.aload_n 0, 1) := dk_42 (dk_at dksX0_isSign_0 13 rfl rfl)
theorem dX0_isSign_14 : decode cX0_isSign 14 = .ok (.getfield 27, 3) := dk_180 0 27 (dk_at dksX0_isSign_0 14 rfl rfl)
theorem dX0_isSign_17 : decode cX0_isSign 17 = .ok (.aload_n 0, 1) := dk_42 (dk_at dksX0_isSign_0 17 rfl rfl)
theorem dX0_isSign_18 : decode cX0_isSign 18 = .ok (.getfield 111, 3) := dk_180 0 111 (dk_at dksX0_isSign_0 18 rfl rfl)
theorem dX0_isSign_21 : decode cX0_isSign 21 = .ok (.aload_n 0, 1) := dk_42 (dk_at dksX0_isSign_0 21 rfl rfl)
theorem dX0_isSign_22 : decode cX0_isSign 22 = .ok (.getfield 39, 3) := dk_180 0 39 (dk_at dksX0_isSign_1 0 rfl rfl)
theorem dX0_isSign_25 : decode cX0_isSign 25 = .ok (.iaload, 1) := dk_46 (dk_at dksX0_isSign_1 3 rfl rfl)
theorem dX0_isSign_26 : decode cX0_isSign 26 = .ok (.baload, 1) := dk_51 (dk_at dksX0_isSign_1 4 rfl rfl)
theorem dX0_isSign_27 : decode cX0_isSign 27 = .ok (.iload_n 1, 1) := dk_27 (dk_at dksX0_isSign_1 5 rfl rfl)
theorem dX0_isSign_28 : decode cX0_isSign 28 = .ok (.if_icmp .ne 7, 3) := dk_160 0 7 (dk_at dksX0_isSign_1 6 rfl rfl)
theorem dX0_isSign_31 : decode cX0_isSign 31 = .ok (.iconst 1, 1) := dk_4 (dk_at dksX0_isSign_1 9 rfl rfl)
theorem dX0_isSign_32 : decode cX0_isSign 32 = .ok (.goto 4, 3) := dk_167 0 4 (dk_at dksX0_isSign_1 10 rfl rfl)
theorem dX0_isSign_35 : decode cX0_isSign 35 = .ok (.iconst 0, 1) := dk_3 (dk_at dksX0_isSign_1 13 rfl rfl)
theorem dX0_isSign_36 : decode cX0_isSign 36 = .ok (.ireturn, 1) := dk_172 (dk_at dksX0_isSign_1 14 rfl rfl)
abbrev cX0_readAttribute : ByteArray := prog_1_method_33_code
def yX0_readAttribute : MethodName := ⟨RX0, "readAttribute", "(I)Z"⟩
def dkwX0_readAttribute_14 : List UInt8 := [42, 180, 1, 69, 27, 46, 100, 79, 4, 172]
abbrev dktX0_readAttribute_14 : List UInt8 := dkwX0_readAttribute_14 ++ []
def dkwX0_readAttribute_13 : List UInt8 := [182, 0, 218, 153, 0, 12, 42, 182, 0, 138, 154, 255, 222, 3, 172, 42, 180, 1, 78, 27, 42, 180, 0, 39]
abbrev dktX0_readAttribute_13 : List UInt8 := dkwX0_readAttribute_13 ++ dktX0_readAttribute_14
def dkwX0_readAttribute_12 : List UInt8 := [19, 1, 72, 182, 0, 218, 154, 0, 23, 42, 19, 1, 74, 182, 0, 218, 154, 0, 13, 42, 19, 1, 76]
abbrev dktX0_readAttribute_12 : List UInt8 := dkwX0_readAttribute_12 ++ dktX0_readAttribute_13
def dkwX0_readAttribute_11 : List UInt8 := [182, 1, 50, 42, 182, 0, 138, 154, 0, 5, 3, 172, 42, 180, 1, 69, 27, 42, 180, 0, 39, 79, 42]
abbrev dktX0_readAttribute_11 : List UInt8 := dkwX0_readAttribute_11 ++ dktX0_readAttribute_12
def dkwX0_readAttribute_10 : List UInt8 := [19, 1, 67, 182, 0, 218, 154, 0, 13, 42, 4, 42, 180, 0, 39, 182, 0, 132, 172, 42, 27, 16, 16]
abbrev dktX0_readAttribute_10 : List UInt8 := dkwX0_readAttribute_10 ++ dktX0_readAttribute_11
def dkwX0_readAttribute_9 : List UInt8 := [51, 16, 48, 100, 104, 42, 180, 0, 27, 28, 4, 96, 51, 96, 16, 48, 100, 79, 42, 182, 0, 138, 172, 42]
abbrev dktX0_readAttribute_9 : List UInt8 := dkwX0_readAttribute_9 ++ dktX0_readAttribute_10
def dkwX0_readAttribute_8 : List UInt8 := [29, 4, 160, 0, 15, 42, 180, 0, 27, 28, 51, 16, 48, 100, 167, 0, 27, 16, 10, 42, 180, 0, 27, 28]
abbrev dktX0_readAttribute_8 : List UInt8 := dkwX0_readAttribute_8 ++ dktX0_readAttribute_9
def dkwX0_readAttribute_7 : List UInt8 := [4, 100, 51, 184, 1, 61, 154, 0, 13, 42, 4, 42, 180, 0, 39, 182, 0, 132, 172, 42, 180, 1, 64, 27]
abbrev dktX0_readAttribute_7 : List UInt8 := dkwX0_readAttribute_7 ++ dktX0_readAttribute_8
def dkwX0_readAttribute_6 : List UInt8 := [29, 5, 163, 0, 31, 42, 180, 0, 27, 28, 51, 184, 1, 61, 153, 0, 19, 42, 180, 0, 27, 28, 29, 96]
abbrev dktX0_readAttribute_6 : List UInt8 := dkwX0_readAttribute_6 ++ dktX0_readAttribute_7
def dkwX0_readAttribute_5 : List UInt8 := [180, 0, 39, 46, 61, 42, 180, 0, 114, 42, 180, 0, 39, 46, 28, 100, 62, 42, 182, 0, 142, 153, 0, 36]
abbrev dktX0_readAttribute_5 : List UInt8 := dkwX0_readAttribute_5 ++ dktX0_readAttribute_6
def dkwX0_readAttribute_4 : List UInt8 := [153, 0, 143, 42, 27, 16, 8, 182, 1, 50, 42, 182, 0, 138, 154, 0, 5, 3, 172, 42, 180, 0, 111, 42]
abbrev dktX0_readAttribute_4 : List UInt8 := dkwX0_readAttribute_4 ++ dktX0_readAttribute_5
def dkwX0_readAttribute_3 : List UInt8 := [42, 180, 1, 56, 27, 42, 180, 0, 39, 79, 42, 182, 0, 252, 172, 42, 19, 1, 59, 182, 0, 218]
abbrev dktX0_readAttribute_3 : List UInt8 := dkwX0_readAttribute_3 ++ dktX0_readAttribute_4
def dkwX0_readAttribute_2 : List UInt8 := [19, 1, 54, 182, 0, 218, 153, 0, 33, 42, 27, 7, 182, 1, 50, 42, 182, 0, 138, 154, 0, 5, 3, 172]
abbrev dktX0_readAttribute_2 : List UInt8 := dkwX0_readAttribute_2 ++ dktX0_readAttribute_3
def dkwX0_readAttribute_1 : List UInt8 := [19, 1, 46, 182, 0, 218, 153, 0, 7, 4, 167, 0, 4, 5, 182, 1, 50, 42, 182, 0, 138, 172, 42]
abbrev dktX0_readAttribute_1 : List UInt8 := dkwX0_readAttribute_1 ++ dktX0_readAttribute_2
def dkwX0_readAttribute_0 : List UInt8 := [42, 19, 1, 46, 182, 0, 218, 154, 0, 13, 42, 19, 1, 48, 182, 0, 218, 153, 0, 28, 42, 27, 42]
abbrev dktX0_readAttribute_0 : List UInt8 := dkwX0_readAttribute_0 ++ dktX0_readAttribute_1
theorem dksX0_readAttribute_0 : cX0_readAttribute.data.toList.drop 0 = dktX0_readAttribute_0 := by decide +kernel
theorem dksX0_readAttribute_1 : cX0_readAttribute.data.toList.drop 23 = dktX0_readAttribute_1 := dk_seg dksX0_readAttribute_0 23 rfl rfl
theorem dksX0_readAttribute_2 : cX0_readAttribute.data.toList.drop 46 = dktX0_readAttribute_2 := dk_seg dksX0_readAttribute_1 23 rfl rfl
theorem dksX0_readAttribute_3 : cX0_readAttribute.data.toList.drop 70 = dktX0_readAttribute_3 := dk_seg dksX0_readAttribute_2 24 rfl rfl
theorem dksX0_readAttribute_4 : cX0_readAttribute.data.toList.drop 92 = dktX0_readAttribute_4 := dk_seg dksX0_readAttribute_3 22 rfl rfl
theorem dksX0_readAttribute_5 : cX0_readAttribute.data.toList.drop 116 = dktX0_readAttribute_5 := dk_seg dksX0_readAttribute_4 24 rfl rfl
theorem dksX0_readAttribute_6 : cX0_readAttribute.data.toList.drop 140 = dktX0_readAttribute_6 := dk_seg dksX0_readAttribute_5 24 rfl rfl
theorem dksX0_readAttribute_7 : cX0_readAttribute.data.toList.drop 164 = dktX0_readAttribute_7 := dk_seg dksX0_readAttribute_6 24 rfl rfl
theorem dksX0_readAttribute_8 : cX0_readAttribute.data.toList.drop 188 = dktX0_readAttribute_8 := dk_seg dksX0_readAttribute_7 24 rfl rfl
theorem dksX0_readAttribute_9 : cX0_readAttribute.data.toList.drop 212 = dktX0_readAttribute_9 := dk_seg dksX0_readAttribute_8 24 rfl rfl
theorem dksX0_readAttribute_10 : cX0_readAttribute.data.toList.drop 236 = dktX0_readAttribute_10 := dk_seg dksX0_readAttribute_9 24 rfl rfl
theorem dksX0_readAttribute_11 : cX0_readAttribute.data.toList.drop 259 = dktX0_readAttribute_11 := dk_seg dksX0_readAttribute_10 23 rfl rfl
theorem dksX0_readAttribute_12 : cX0_readAttribute.data.toList.drop 282 = dktX0_readAttribute_12 := dk_seg dksX0_readAttribute_11 23 rfl rfl
theorem dksX0_readAttribute_13 : cX0_readAttribute.data.toList.drop 305 = dktX0_readAttribute_13 := dk_seg dksX0_readAttribute_12 23 rfl rfl
theorem dksX0_readAttribute_14 : cX0_readAttribute.data.toList.drop 329 = dktX0_readAttribute_14 := dk_seg dksX0_readAttribute_13 24 rfl rfl
theorem dX0_readAttribute_0 : decode cX0_readAttribute 0 = .ok (.aload_n 0, 1) := dk_42 (dk_at dksX0_readAttribute_0 0 rfl rfl)
theorem dX0_readAttribute_1 : decode cX0_readAttribute 1 = .ok (.ldc_w 302, 3) := dk_19 1 46 (dk_at dksX0_readAttribute_0 1 rfl rfl)
theorem dX0_readAttribute_4 : decode cX0_readAttribute 4 = .ok (.invokevirtual 218, 3) := dk_182 0 218 (dk_at dksX0_readAttribute_0 4 rfl rfl)
theorem dX0_readAttribute_7 : decode cX0_readAttribute 7 = .ok (.ifCond .ne 13, 3) := dk_154 0 13 (dk_at dksX0_readAttribute_0 7 rfl rfl)
theorem dX0_readAttribute_10 : decode cX0_readAttribute 10 = .ok (.aload_n 0, 1) := dk_42 (dk_at dksX0_readAttribute_0 10 rfl rfl)
theorem dX0_readAttribute_11 : decode cX0_readAttribute 11 = .ok (.ldc_w 304, 3) := dk_19 1 48 (dk_at dksX0_readAttribute_0 11 rfl rfl)
theorem dX0_readAttribute_14 : decode cX0_readAttribute 14 = .ok (.invokevirtual 218, 3) := dk_182 0 218 (dk_at dksX0_readAttribute_0 14 rfl rfl)
theorem dX0_readAttribute_17 : decode cX0_readAttribute 17 = .ok (.ifCond .eq 28, 3) := dk_153 0 28 (dk_at dksX0_readAttribute_0 17 rfl rfl)
theorem dX0_readAttribute_20 : decode cX0_readAttribute 20 = .ok (.aload_n 0, 1) := dk_42 (dk_at dksX0_readAttribute_0 20 rfl rfl)
theorem dX0_readAttribute_21 : decode cX0_readAttribute 21 = .ok (.iload_n 1, 1) := dk_27 (dk_at dksX0_readAttribute_0 21 rfl rfl)
theorem dX0_readAttribute_22 : decode cX0_readAttribute 22 = .ok (.aload_n 0, 1) := dk_42 (dk_at dksX0_readAttribute_0 22 rfl rfl)
theorem dX0_readAttribute_23 : decode cX0_readAttribute 23 = .ok (.ldc_w 302, 3) := dk_19 1 46 (dk_at dksX0_readAttribute_1 0 rfl rfl)
theorem dX0_readAttribute_26 : decode cX0_readAttribute 26 = .ok (.invokevirtual 218, 3) := dk_182 0 218 (dk_at dksX0_readAttribute_1 3 rfl rfl)
theorem dX0_readAttribute_29 : decode cX0_readAttribute 29 = .ok (.ifCond .eq 7, 3) := dk_153 0 7 (dk_at dksX0_readAttribute_1 6 rfl rfl)
theorem dX0_readAttribute_32 : decode cX0_readAttribute 32 = .ok (.iconst 1, 1) := dk_4 (dk_at dksX0_readAttribute_1 9 rfl rfl)
theorem dX0_readAttribute_33 : decode cX0_readAttribute 33 = .ok (.goto 4, 3) := dk_167 0 4 (dk_at dksX0_readAttribute_1 10 rfl rfl)
theorem dX0_readAttribute_36 : decode cX0_readAttribute 36 = .ok (.iconst 2, 1) := dk_5 (dk_at dksX0_readAttribute_1 13 rfl rfl)
theorem dX0_readAttribute_37 : decode cX0_readAttribute 37 = .ok (.invokevirtual 306, 3) := dk_182 1 50 (dk_at dksX0_readAttribute_1 14 rfl rfl)
theorem dX0_readAttribute_40 : decode cX0_readAttribute 40 = .ok (.aload_n 0, 1) := dk_42 (dk_at dksX0_readAttribute_1 17 rfl rfl)
theorem dX0_readAttribute_41 : decode cX0_readAttribute 41 = .ok (.invokevirtual 138, 3) := dk_182 0 138 (dk_at dksX0_readAttribute_1 18 rfl rfl)
theorem dX0_readAttribute_44 : decode cX0_readAttribute 44 = .ok (.ireturn, 1) := dk_172 (dk_at dksX0_readAttribute_1 21 rfl rfl)
theorem dX0_readAttribute_45 : decode cX0_readAttribute 45 = .ok (.aload_n 0, 1) := dk_42 (dk_at dksX0_readAttribute_1 22 rfl rfl)
theorem dX0_readAttribute_46 : decode cX0_readAttribute 46 = .ok (.ldc_w 310, 3) := dk_19 1 54 (dk_at dksX0_readAttribute_2 0 rfl rfl)
theorem dX0_readAttribute_49 : decode cX0_readAttribute 49 = .ok (.invokevirtual 218, 3) := dk_182 0 218 (dk_at dksX0_readAttribute_2 3 rfl rfl)
theorem dX0_readAttribute_52 : decode cX0_readAttribute 52 = .ok (.ifCond .eq 33, 3) := dk_153 0 33 (dk_at dksX0_readAttribute_2 6 rfl rfl)
theorem dX0_readAttribute_55 : decode cX0_readAttribute 55 = .ok (.aload_n 0, 1) := dk_42 (dk_at dksX0_readAttribute_2 9 rfl rfl)
theorem dX0_readAttribute_56 : decode cX0_readAttribute 56 = .ok (.iload_n 1, 1) := dk_27 (dk_at dksX0_readAttribute_2 10 rfl rfl)
theorem dX0_readAttribute_57 : decode cX0_readAttribute 57 = .ok (.iconst 4, 1) := dk_7 (dk_at dksX0_readAttribute_2 11 rfl rfl)
theorem dX0_readAttribute_58 : decode cX0_readAttribute 58 = .ok (.invokevirtual 306, 3) := dk_182 1 50 (dk_at dksX0_readAttribute_2 12 rfl rfl)
theorem dX0_readAttribute_61 : decode cX0_readAttribute 61 = .ok (.aload_n 0, 1) := dk_42 (dk_at dksX0_readAttribute_2 15 rfl rfl)
theorem dX0_readAttribute_62 : decode cX0_readAttribute 62 = .ok (.invokevirtual 138, 3) := dk_182 0 138 (dk_at dksX0_readAttribute_2 16 rfl rfl)
theorem dX0_readAttribute_65 : decode cX0_readAttribute 65 = .ok (.ifCond .ne 5, 3) := dk_154 0 5 (dk_at dksX0_readAttribute_2 19 rfl rfl)
theorem dX0_readAttribute_68 : decode cX0_readAttribute 68 = .ok (.iconst 0, 1) := dk_3 (dk_at dksX0_readAttribute_2 22 rfl rfl)
theorem dX0_readAttribute_69 : decode cX0_readAttribute 69 = .ok (.ireturn, 1) := dk_172 (dk_at dksX0_readAttribute_2 23 rfl rfl)
theorem dX0_readAttribute_70 : decode cX0_readAttribute 70 = .ok (.aload_n 0, 1) := dk_42 (dk_at dksX0_readAttribute_3 0 rfl rfl)
theorem dX0_readAttribute_71 : decode cX0_readAttribute 71 = .ok (.getfield 312, 3) := dk_180 1 56 (dk_at dksX0_readAttribute_3 1 rfl rfl)
theorem dX0_readAttribute_74 : decode cX0_readAttribute 74 = .ok (.iload_n 1, 1) := dk_27 (dk_at dksX0_readAttribute_3 4 rfl rfl)
theorem dX0_readAttribute_75 : decode cX0_readAttribute 75 = .ok (.aload_n 0, 1) := dk_42 (dk_at dksX0_readAttribute_3 5 rfl rfl)
theorem dX0_readAttribute_76 : decode cX0_readAttribute 76 = .ok (.getfield 39, 3) := dk_180 0 39 (dk_at dksX0_readAttribute_3 6 rfl rfl)
theorem dX0_readAttribute_79 : decode cX0_readAttribute 79 = .ok (.iastore, 1) := dk_79 (dk_at dksX0_readAttribute_3 9 rfl rfl)
theorem dX0_readAttribute_80 : decode cX0_readAttribute 80 = .ok (.aload_n 0, 1) := dk_42 (dk_at dksX0_readAttribute_3 10 rfl rfl)
theorem dX0_readAttribute_81 : decode cX0_readAttribute 81 = .ok (.invokevirtual 252, 3) := dk_182 0 252 (dk_at dksX0_readAttribute_3 11 rfl rfl)
theorem dX0_readAttribute_84 : decode cX0_readAttribute 84 = .ok (.ireturn, 1) := dk_172 (dk_at dksX0_readAttribute_3 14 rfl rfl)
theorem dX0_readAttribute_85 : decode cX0_readAttribute 85 = .ok (.aload_n 0, 1) := dk_42 (dk_at dksX0_readAttribute_3 15 rfl rfl)
theorem dX0_readAttribute_86 : decode cX0_readAttribute 86 = .ok (.ldc_w 315, 3) := dk_19 1 59 (dk_at dksX0_readAttribute_3 16 rfl rfl)
theorem dX0_readAttribute_89 : decode cX0_readAttribute 89 = .ok (.invokevirtual 218, 3) := dk_182 0 218 (dk_at dksX0_readAttribute_3 19 rfl rfl)
theorem dX0_readAttribute_92 : decode cX0_readAttribute 92 = .ok (.ifCond .eq 143, 3) := dk_153 0 143 (dk_at dksX0_readAttribute_4 0 rfl rfl)
theorem dX0_readAttribute_95 : decode cX0_readAttribute 95 = .ok (.aload_n 0, 1) := dk_42 (dk_at dksX0_readAttribute_4 3 rfl rfl)
theorem dX0_readAttribute_96 : decode cX0_readAttribute 96 = .ok (.iload_n 1, 1) := dk_27 (dk_at dksX0_readAttribute_4 4 rfl rfl)
theorem dX0_readAttribute_97 : decode cX0_readAttribute 97 = .ok (.bipush 8, 2) := dk_16 8 (dk_at dksX0_readAttribute_4 5 rfl rfl)
theorem dX0_readAttribute_99 : decode cX0_readAttribute 99 = .ok (.invokevirtual 306, 3) := dk_182 1 50 (dk_at dksX0_readAttribute_4 7 rfl rfl)
theorem dX0_readAttribute_102 : decode cX0_readAttribute 102 = .ok (.aload_n 0, 1) := dk_42 (dk_at dksX0_readAttribute_4 10 rfl rfl)
theorem dX0_readAttribute_103 : decode cX0_readAttribute 103 = .ok (.invokevirtual 138, 3) := dk_182 0 138 (dk_at dksX0_readAttribute_4 11 rfl rfl)
theorem dX0_readAttribute_106 : decode cX0_readAttribute 106 = .ok (.ifCond .ne 5, 3) := dk_154 0 5 (dk_at dksX0_readAttribute_4 14 rfl rfl)
theorem dX0_readAttribute_109 : decode cX0_readAttribute 109 = .ok (.iconst 0, 1) := dk_3 (dk_at dksX0_readAttribute_4 17 rfl rfl)
theorem dX0_readAttribute_110 : decode cX0_readAttribute 110 = .ok (.ireturn, 1) := dk_172 (dk_at dksX0_readAttribute_4 18 rfl rfl)
theorem dX0_readAttribute_111 : decode cX0_readAttribute 111 = .ok (.aload_n 0, 1) := dk_42 (dk_at dksX0_readAttribute_4 19 rfl rfl)
theorem dX0_readAttribute_112 : decode cX0_readAttribute 112 = .ok (.getfield 111, 3) := dk_180 0 111 (dk_at dksX0_readAttribute_4 20 rfl rfl)
theorem dX0_readAttribute_115 : decode cX0_readAttribute 115 = .ok (.aload_n 0, 1) := dk_42 (dk_at dksX0_readAttribute_4 23 rfl rfl)
theorem dX0_readAttribute_116 : decode cX0_readAttribute 116 = .ok (.getfield 39, 3) := dk_180 0 39 (dk_at dksX0_readAttribute_5 0 rfl rfl)
theorem dX0_readAttribute_119 : decode cX0_readAttribute 119 = .ok (.iaload, 1) := dk_46 (dk_at dksX0_readAttribute_5 3 rfl rfl)
theorem dX0_readAttribute_120 : decode cX0_readAttribute 120 = .ok (.istore_n 2, 1) := dk_61 (dk_at dksX0_readAttribute_5 4 rfl rfl)
theorem dX0_readAttribute_121 : decode cX0_readAttribute 121 = .ok (.aload_n 0, 1) := dk_42 (dk_at dksX0_readAttribute_5 5 rfl rfl)
theorem dX0_readAttribute_122 : decode cX0_readAttribute 122 = .ok (.getfield 114, 3) := dk_180 0 114 (dk_at dksX0_readAttribute_5 6 rfl rfl)
theorem dX0_readAttribute_125 : decode cX0_readAttribute 125 = .ok (.aload_n 0, 1) := dk_42 (dk_at dksX0_readAttribute_5 9 rfl rfl)
theorem dX0_readAttribute_126 : decode cX0_readAttribute 126 = .ok (.getfield 39, 3) := dk_180 0 39 (dk_at dksX0_readAttribute_5 10 rfl rfl)
theorem dX0_readAttribute_129 : decode cX0_readAttribute 129 = .ok (.iaload, 1) := dk_46 (dk_at dksX0_readAttribute_5 13 rfl rfl)
theorem dX0_readAttribute_130 : decode cX0_readAttribute 130 = .ok (.iload_n 2, 1) := dk_28 (dk_at dksX0_readAttribute_5 14 rfl rfl)
theorem dX0_readAttribute_131 : decode cX0_readAttribute 131 = .ok (.isub, 1) := dk_100 (dk_at dksX0_readAttribute_5 15 rfl rfl)
theorem dX0_readAttribute_132 : decode cX0_readAttribute 132 = .ok (.istore_n 3, 1) := dk_62 (dk_at dksX0_readAttribute_5 16 rfl rfl)
theorem dX0_readAttribute_133 : decode cX0_readAttribute 133 = .ok (.aload_n 0, 1) := dk_42 (dk_at dksX0_readAttribute_5 17 rfl rfl)
theorem dX0_readAttribute_134 : decode cX0_readAttribute 134 = .ok (.invokevirtual 142, 3) := dk_182 0 142 (dk_at dksX0_readAttribute_5 18 rfl rfl)
theorem dX0_readAttribute_137 : decode cX0_readAttribute 137 = .ok (.ifCond .eq 36, 3) := dk_153 0 36 (dk_at dksX0_readAttribute_5 21 rfl rfl)
theorem dX0_readAttribute_140 : decode cX0_readAttribute 140 = .ok (.iload_n 3, 1) := dk_29 (dk_at dksX0_readAttribute_6 0 rfl rfl)
theorem dX0_readAttribute_141 : decode cX0_readAttribute 141 = .ok (.iconst 2, 1) := dk_5 (dk_at dksX0_readAttribute_6 1 rfl rfl)
theorem dX0_readAttribute_142 : decode cX0_readAttribute 142 = .ok (.if_icmp .gt 31, 3) := dk_163 0 31 (dk_at dksX0_readAttribute_6 2 rfl rfl)
theorem dX0_readAttribute_145 : decode cX0_readAttribute 145 = .ok (.aload_n 0, 1) := dk_42 (dk_at dksX0_readAttribute_6 5 rfl rfl)
theorem dX0_readAttribute_146 : decode cX0_readAttribute 146 = .ok (.getfield 27, 3) := dk_180 0 27 (dk_at dksX0_readAttribute_6 6 rfl rfl)
theorem dX0_readAttribute_149 : decode cX0_readAttribute 149 = .ok (.iload_n 2, 1) := dk_28 (dk_at dksX0_readAttribute_6 9 rfl rfl)
theorem dX0_readAttribute_150 : decode cX0_readAttribute 150 = .ok (.baload, 1) := dk_51 (dk_at dksX0_readAttribute_6 10 rfl rfl)
theorem dX0_readAttribute_151 : decode cX0_readAttribute 151 = .ok (.invokestatic 317, 3) := dk_184 1 61 (dk_at dksX0_readAttribute_6 11 rfl rfl)
theorem dX0_readAttribute_154 : decode cX0_readAttribute 154 = .ok (.ifCond .eq 19, 3) := dk_153 0 19 (dk_at dksX0_readAttribute_6 14 rfl rfl)
theorem dX0_readAttribute_157 : decode cX0_readAttribute 157 = .ok (.aload_n 0, 1) := dk_42 (dk_at dksX0_readAttribute_6 17 rfl rfl)
theorem dX0_readAttribute_158 : decode cX0_readAttribute 158 = .ok (.getfield 27, 3) := dk_180 0 27 (dk_at dksX0_readAttribute_6 18 rfl rfl)
theorem dX0_readAttribute_161 : decode cX0_readAttribute 161 = .ok (.iload_n 2, 1) := dk_28 (dk_at dksX0_readAttribute_6 21 rfl rfl)
theorem dX0_readAttribute_162 : decode cX0_readAttribute 162 = .ok (.iload_n 3, 1) := dk_29 (dk_at dksX0_readAttribute_6 22 rfl rfl)
theorem dX0_readAttribute_163 : decode cX0_readAttribute 163 = .ok (.iadd, 1) := dk_96 (dk_at dksX0_readAttribute_6 23 rfl rfl)
theorem dX0_readAttribute_164 : decode cX0_readAttribute 164 = .ok (.iconst 1, 1) := dk_4 (dk_at dksX0_readAttribute_7 0 rfl rfl)
theorem dX0_readAttribute_165 : decode cX0_readAttribute 165 = .ok (.isub, 1) := dk_100 (dk_at dksX0_readAttribute_7 1 rfl rfl)
theorem dX0_readAttribute_166 : decode cX0_readAttribute 166 = .ok (.baload, 1) := dk_51 (dk_at dksX0_readAttribute_7 2 rfl rfl)
theorem dX0_readAttribute_167 : decode cX0_readAttribute 167 = .ok (.invokestatic 317, 3) := dk_184 1 61 (dk_at dksX0_readAttribute_7 3 rfl rfl)
theorem dX0_readAttribute_170 : decode cX0_readAttribute 170 = .ok (.ifCond .ne 13, 3) := dk_154 0 13 (dk_at dksX0_readAttribute_7 6 rfl rfl)
theorem dX0_readAttribute_173 : decode cX0_readAttribute 173 = .ok (.aload_n 0, 1) := dk_42 (dk_at dksX0_readAttribute_7 9 rfl rfl)
theorem dX0_readAttribute_174 : decode cX0_readAttribute 174 = .ok (.iconst 1, 1) := dk_4 (dk_at dksX0_readAttribute_7 10 rfl rfl)
theorem dX0_readAttribute_175 : decode cX0_readAttribute 175 = .ok (.aload_n 0, 1) := dk_42 (dk_at dksX0_readAttribute_7 11 rfl rfl)
theorem dX0_readAttribute_176 : decode cX0_readAttribute 176 = .ok (.getfield 39, 3) := dk_180 0 39 (dk_at dksX0_readAttribute_7 12 rfl rfl)
theorem dX0_readAttribute_179 : decode cX0_readAttribute 179 = .ok (.invokevirtual 132, 3) := dk_182 0 132 (dk_at dksX0_readAttribute_7 15 rfl rfl)
theorem dX0_readAttribute_182 : decode cX0_readAttribute 182 = .ok (.ireturn, 1) := dk_172 (dk_at dksX0_readAttribute_7 18 rfl rfl)
theorem dX0_readAttribute_183 : decode cX0_readAttribute 183 = .ok (.aload_n 0, 1) := dk_42 (dk_at dksX0_readAttribute_7 19 rfl rfl)
theorem dX0_readAttribute_184 : decode cX0_readAttribute 184 = .ok (.getfield 320, 3) := dk_180 1 64 (dk_at dksX0_readAttribute_7 20 rfl rfl)
theorem dX0_readAttribute_187 : decode cX0_readAttribute 187 = .ok (.iload_n 1, 1) := dk_27 (dk_at dksX0_readAttribute_7 23 rfl rfl)
theorem dX0_readAttribute_188 : decode cX0_readAttribute 188 = .ok (.iload_n 3, 1) := dk_29 (dk_at dksX0_readAttribute_8 0 rfl rfl)
theorem dX0_readAttribute_189 : decode cX0_readAttribute 189 = .ok (.iconst 1, 1) := dk_4 (dk_at dksX0_readAttribute_8 1 rfl rfl)
theorem dX0_readAttribute_190 : decode cX0_readAttribute 190 = .ok (.if_icmp .ne 15, 3) := dk_160 0 15 (dk_at dksX0_readAttribute_8 2 rfl rfl)
theorem dX0_readAttribute_193 : decode cX0_readAttribute 193 = .ok (.aload_n 0, 1) := dk_42 (dk_at dksX0_readAttribute_8 5 rfl rfl)
theorem dX0_readAttribute_194 : decode cX0_readAttribute 194 = .ok (.getfield 27, 3) := dk_180 0 27 (dk_at dksX0_readAttribute_8 6 rfl rfl)
theorem dX0_readAttribute_197 : decode cX0_readAttribute 197 = .ok (.iload_n 2, 1) := dk_28 (dk_at dksX0_readAttribute_8 9 rfl rfl)
theorem dX0_readAttribute_198 : decode cX0_readAttribute 198 = .ok (.baload, 1) := dk_51 (dk_at dksX0_readAttribute_8 10 rfl rfl)
theorem dX0_readAttribute_199 : decode cX0_readAttribute 199 = .ok (.bipush 48, 2) := dk_16 48 (dk_at dksX0_readAttribute_8 11 rfl rfl)
theorem dX0_readAttribute_201 : decode cX0_readAttribute 201 = .ok (.isub, 1) := dk_100 (dk_at dksX0_readAttribute_8 13 rfl rfl)
theorem dX0_readAttribute_202 : decode cX0_readAttribute 202 = .ok (.goto 27, 3) := dk_167 0 27 (dk_at dksX0_readAttribute_8 14 rfl rfl)
theorem dX0_readAttribute_205 : decode cX0_readAttribute 205 = .ok (.bipush 10, 2) := dk_16 10 (dk_at dksX0_readAttribute_8 17 rfl rfl)
theorem dX0_readAttribute_207 : decode cX0_readAttribute 207 = .ok (.aload_n 0, 1) := dk_42 (dk_at dksX0_readAttribute_8 19 rfl rfl)
theorem dX0_readAttribute_208 : decode cX0_readAttribute 208 = .ok (.getfield 27, 3) := dk_180 0 27 (dk_at dksX0_readAttribute_8 20 rfl rfl)
theorem dX0_readAttribute_211 : decode cX0_readAttribute 211 = .ok (.iload_n 2, 1) := dk_28 (dk_at dksX0_readAttribute_8 23 rfl rfl)
theorem dX0_readAttribute_212 : decode cX0_readAttribute 212 = .ok (.baload, 1) := dk_51 (dk_at dksX0_readAttribute_9 0 rfl rfl)
theorem dX0_readAttribute_213 : decode cX0_readAttribute 213 = .ok (.bipush 48, 2) := dk_16 48 (dk_at dksX0_readAttribute_9 1 rfl rfl)
theorem dX0_readAttribute_215 : decode cX0_readAttribute 215 = .ok (.isub, 1) := dk_100 (dk_at dksX0_readAttribute_9 3 rfl rfl)
theorem dX0_readAttribute_216 : decode cX0_readAttribute 216 = .ok (.imul, 1) := dk_104 (dk_at dksX0_readAttribute_9 4 rfl rfl)
theorem dX0_readAttribute_217 : decode cX0_readAttribute 217 = .ok (.aload_n 0, 1) := dk_42 (dk_at dksX0_readAttribute_9 5 rfl rfl)
theorem dX0_readAttribute_218 : decode cX0_readAttribute 218 = .ok (.getfield 27, 3) := dk_180 0 27 (dk_at dksX0_readAttribute_9 6 rfl rfl)
theorem dX0_readAttribute_221 : decode cX0_readAttribute 221 = .ok (.iload_n 2, 1) := dk_28 (dk_at dksX0_readAttribute_9 9 rfl rfl)
theorem dX0_readAttribute_222 : decode cX0_readAttribute 222 = .ok (.iconst 1, 1) := dk_4 (dk_at dksX0_readAttribute_9 10 rfl rfl)
theorem dX0_readAttribute_223 : decode cX0_readAttribute 223 = .ok (.iadd, 1) := dk_96 (dk_at dksX0_readAttribute_9 11 rfl rfl)
theorem dX0_readAttribute_224 : decode cX0_readAttribute 224 = .ok (.baload, 1) := dk_51 (dk_at dksX0_readAttribute_9 12 rfl rfl)
theorem dX0_readAttribute_225 : decode cX0_readAttribute 225 = .ok (.iadd, 1) := dk_96 (dk_at dksX0_readAttribute_9 13 rfl rfl)
theorem dX0_readAttribute_226 : decode cX0_readAttribute 226 = .ok (.bipush 48, 2) := dk_16 48 (dk_at dksX0_readAttribute_9 14 rfl rfl)
theorem dX0_readAttribute_228 : decode cX0_readAttribute 228 = .ok (.isub, 1) := dk_100 (dk_at dksX0_readAttribute_9 16 rfl rfl)
theorem dX0_readAttribute_229 : decode cX0_readAttribute 229 = .ok (.iastore, 1) := dk_79 (dk_at dksX0_readAttribute_9 17 rfl rfl)
theorem dX0_readAttribute_230 : decode cX0_readAttribute 230 = .ok (.aload_n 0, 1) := dk_42 (dk_at dksX0_readAttribute_9 18 rfl rfl)
theorem dX0_readAttribute_231 : decode cX0_readAttribute 231 = .ok (.invokevirtual 138, 3) := dk_182 0 138 (dk_at dksX0_readAttribute_9 19 rfl rfl)
theorem dX0_readAttribute_234 : decode cX0_readAttribute 234 = .ok (.ireturn, 1) := dk_172 (dk_at dksX0_readAttribute_9 22 rfl rfl)
theorem dX0_readAttribute_235 : decode cX0_readAttribute 235 = .ok (.aload_n 0, 1) := dk_42 (dk_at dksX0_readAttribute_9 23 rfl rfl)
theorem dX0_readAttribute_236 : decode cX0_readAttribute 236 = .ok (.ldc_w 323, 3) := dk_19 1 67 (dk_at dksX0_readAttribute_10 0 rfl rfl)
theorem dX0_readAttribute_239 : decode cX0_readAttribute 239 = .ok (.invokevirtual 218, 3) := dk_182 0 218 (dk_at dksX0_readAttribute_10 3 rfl rfl)
theorem dX0_readAttribute_242 : decode cX0_readAttribute 242 = .ok (.ifCond .ne 13, 3) := dk_154 0 13 (dk_at dksX0_readAttribute_10 6 rfl rfl)
theorem dX0_readAttribute_245 : decode cX0_readAttribute 245 = .ok (.aload_n 0, 1) := dk_42 (dk_at dksX0_readAttribute_10 9 rfl rfl)
theorem dX0_readAttribute_246 : decode cX0_readAttribute 246 = .ok (.iconst 1, 1) := dk_4 (dk_at dksX0_readAttribute_10 10 rfl rfl)
theorem dX0_readAttribute_247 : decode cX0_readAttribute 247 = .ok (.aload_n 0, 1) := dk_42 (dk_at dksX0_readAttribute_10 11 rfl rfl)
theorem dX0_readAttribute_248 : decode cX0_readAttribute 248 = .ok (.getfield 39, 3) := dk_180 0 39 (dk_at dksX0_readAttribute_10 12 rfl rfl)
theorem dX0_readAttribute_251 : decode cX0_readAttribute 251 = .ok (.invokevirtual 132, 3) := dk_182 0 132 (dk_at dksX0_readAttribute_10 15 rfl rfl)
theorem dX0_readAttribute_254 : decode cX0_readAttribute 254 = .ok (.ireturn, 1) := dk_172 (dk_at dksX0_readAttribute_10 18 rfl rfl)
theorem dX0_readAttribute_255 : decode cX0_readAttribute 255 = .ok (.aload_n 0, 1) := dk_42 (dk_at dksX0_readAttribute_10 19 rfl rfl)
theorem dX0_readAttribute_256 : decode cX0_readAttribute 256 = .ok (.iload_n 1, 1) := dk_27 (dk_at dksX0_readAttribute_10 20 rfl rfl)
theorem dX0_readAttribute_257 : decode cX0_readAttribute 257 = .ok (.bipush 16, 2) := dk_16 16 (dk_at dksX0_readAttribute_10 21 rfl rfl)
theorem dX0_readAttribute_259 : decode cX0_readAttribute 259 = .ok (.invokevirtual 306, 3) := dk_182 1 50 (dk_at dksX0_readAttribute_11 0 rfl rfl)
theorem dX0_readAttribute_262 : decode cX0_readAttribute 262 = .ok (.aload_n 0, 1) := dk_42 (dk_at dksX0_readAttribute_11 3 rfl rfl)
theorem dX0_readAttribute_263 : decode cX0_readAttribute 263 = .ok (.invokevirtual 138, 3) := dk_182 0 138 (dk_at dksX0_readAttribute_11 4 rfl rfl)
theorem dX0_readAttribute_266 : decode cX0_readAttribute 266 = .ok (.ifCond .ne 5, 3) := dk_154 0 5 (dk_at dksX0_readAttribute_11 7 rfl rfl)
theorem dX0_readAttribute_269 : decode cX0_readAttribute 269 = .ok (.iconst 0, 1) := dk_3 (dk_at dksX0_readAttribute_11 10 rfl rfl)
theorem dX0_readAttribute_270 : decode cX0_readAttribute 270 = .ok (.ireturn, 1) := dk_172 (dk_at dksX0_readAttribute_11 11 rfl rfl)
theorem dX0_readAttribute_271 : decode cX0_readAttribute 271 = .ok (.aload_n 0, 1) := dk_42 (dk_at dksX0_readAttribute_11 12 rfl rfl)
theorem dX0_readAttribute_272 : decode cX0_readAttribute 272 = .ok (.getfield 325, 3) := dk_180 1 69 (dk_at dksX0_readAttribute_11 13 rfl rfl)
theorem dX0_readAttribute_275 : decode cX0_readAttribute 275 = .ok (.iload_n 1, 1) := dk_27 (dk_at dksX0_readAttribute_11 16 rfl rfl)
theorem dX0_readAttribute_276 : decode cX0_readAttribute 276 = .ok (.aload_n 0, 1) := dk_42 (dk_at dksX0_readAttribute_11 17 rfl rfl)
theorem dX0_readAttribute_277 : decode cX0_readAttribute 277 = .ok (.getfield 39, 3) := dk_180 0 39 (dk_at dksX0_readAttribute_11 18 rfl rfl)
theorem dX0_readAttribute_280 : decode cX0_readAttribute 280 = .ok (.iastore, 1) := dk_79 (dk_at dksX0_readAttribute_11 21 rfl rfl)
theorem dX0_readAttribute_281 : decode cX0_readAttribute 281 = .ok (.aload_n 0, 1) := dk_42 (dk_at dksX0_readAttribute_11 22 rfl rfl)
theorem dX0_readAttribute_282 : decode cX0_readAttribute 282 = .ok (.ldc_w 328, 3) := dk_19 1 72 (dk_at dksX0_readAttribute_12 0 rfl rfl)
theorem dX0_readAttribute_285 : decode cX0_readAttribute 285 = .ok (.invokevirtual 218, 3) := dk_182 0 218 (dk_at dksX0_readAttribute_12 3 rfl rfl)
theorem dX0_readAttribute_288 : decode cX0_readAttribute 288 = .ok (.ifCond .ne 23, 3) := dk_154 0 23 (dk_at dksX0_readAttribute_12 6 rfl rfl)
theorem dX0_readAttribute_291 : decode cX0_readAttribute 291 = .ok (.aload_n 0, 1) := dk_42 (dk_at dksX0_readAttribute_12 9 rfl rfl)
theorem dX0_readAttribute_292 : decode cX0_readAttribute 292 = .ok (.ldc_w 330, 3) := dk_19 1 74 (dk_at dksX0_readAttribute_12 10 rfl rfl)
theorem dX0_readAttribute_295 : decode cX0_readAttribute 295 = .ok (.invokevirtual 218, 3) := dk_182 0 218 (dk_at dksX0_readAttribute_12 13 rfl rfl)
theorem dX0_readAttribute_298 : decode cX0_readAttribute 298 = .ok (.ifCond .ne 13, 3) := dk_154 0 13 (dk_at dksX0_readAttribute_12 16 rfl rfl)
theorem dX0_readAttribute_301 : decode cX0_readAttribute 301 = .ok (.aload_n 0, 1) := dk_42 (dk_at dksX0_readAttribute_12 19 rfl rfl)
theorem dX0_readAttribute_302 : decode cX0_readAttribute 302 = .ok (.ldc_w 332, 3) := dk_19 1 76 (dk_at dksX0_readAttribute_12 20 rfl rfl)
theorem dX0_readAttribute_305 : decode cX0_readAttribute 305 = .ok (.invokevirtual 218, 3) := dk_182 0 218 (dk_at dksX0_readAttribute_13 0 rfl rfl)
theorem dX0_readAttribute_308 : decode cX0_readAttribute 308 = .ok (.ifCond .eq 12, 3) := dk_153 0 12 (dk_at dksX0_readAttribute_13 3 rfl rfl)
theorem dX0_readAttribute_311 : decode cX0_readAttribute 311 = .ok (.aload_n 0, 1) := dk_42 (dk_at dksX0_readAttribute_13 6 rfl rfl)
theorem dX0_readAttribute_312 : decode cX0_readAttribute 312 = .ok (.invokevirtual 138, 3) := dk_182 0 138 (dk_at dksX0_readAttribute_13 7 rfl rfl)
theorem dX0_readAttribute_315 : decode cX0_readAttribute 315 = .ok (.ifCond .ne (-34), 3) := dk_154 255 222 (dk_at dksX0_readAttribute_13 10 rfl rfl)
theorem dX0_readAttribute_318 : decode cX0_readAttribute 318 = .ok (.iconst 0, 1) := dk_3 (dk_at dksX0_readAttribute_13 13 rfl rfl)
theorem dX0_readAttribute_319 : decode cX0_readAttribute 319 = .ok (.ireturn, 1) := dk_172 (dk_at dksX0_readAttribute_13 14 rfl rfl)
theorem dX0_readAttribute_320 : decode cX0_readAttribute 320 = .ok (.aload_n 0, 1) := dk_42 (dk_at dksX0_readAttribute_13 15 rfl rfl)
theorem dX0_readAttribute_321 : decode cX0_readAttribute 321 = .ok (.getfield 334, 3) := dk_180 1 78 (dk_at dksX0_readAttribute_13 16 rfl rfl)
theorem dX0_readAttribute_324 : decode cX0_readAttribute 324 = .ok (.iload_n 1, 1) := dk_27 (dk_at dksX0_readAttribute_13 19 rfl rfl)
theorem dX0_readAttribute_325 : decode cX0_readAttribute 325 = .ok (.aload_n 0, 1) := dk_42 (dk_at dksX0_readAttribute_13 20 rfl rfl)
theorem dX0_readAttribute_326 : decode cX0_readAttribute 326 = .ok (.getfield 39, 3) := dk_180 0 39 (dk_at dksX0_readAttribute_13 21 rfl rfl)
theorem dX0_readAttribute_329 : decode cX0_readAttribute 329 = .ok (.aload_n 0, 1) := dk_42 (dk_at dksX0_readAttribute_14 0 rfl rfl)
theorem dX0_readAttribute_330 : decode cX0_readAttribute 330 = .ok (.getfield 325, 3) := dk_180 1 69 (dk_at dksX0_readAttribute_14 1 rfl rfl)
theorem dX0_readAttribute_333 : decode cX0_readAttribute 333 = .ok (.iload_n 1, 1) := dk_27 (dk_at dksX0_readAttribute_14 4 rfl rfl)
theorem dX0_readAttribute_334 : decode cX0_readAttribute 334 = .ok (.iaload, 1) := dk_46 (dk_at dksX0_readAttribute_14 5 rfl rfl)
theorem dX0_readAttribute_335 : decode cX0_readAttribute 335 = .ok (.isub, 1) := dk_100 (dk_at dksX0_readAttribute_14 6 rfl rfl)
theorem dX0_readAttribute_336 : decode cX0_readAttribute 336 = .ok (.iastore, 1) := dk_79 (dk_at dksX0_readAttribute_14 7 rfl rfl)
theorem dX0_readAttribute_337 : decode cX0_readAttribute 337 = .ok (.iconst 1, 1) := dk_4 (dk_at dksX0_readAttribute_14 8 rfl rfl)
theorem dX0_readAttribute_338 : decode cX0_readAttribute 338 = .ok (.ireturn, 1) := dk_172 (dk_at dksX0_readAttribute_14 9 rfl rfl)
abbrev cX0_mark : ByteArray := prog_1_method_31_code
def yX0_mark : MethodName := ⟨RX0, "mark", "(II)V"⟩
def dkwX0_mark_1 : List UInt8 := [128, 79, 177]
abbrev dktX0_mark_1 : List UInt8 := dkwX0_mark_1 ++ []
def dkwX0_mark_0 : List UInt8 := [42, 180, 1, 37, 27, 92, 46, 42, 180, 1, 37, 27, 46, 28, 126, 153, 0, 8, 16, 32, 167, 0, 4, 28]
abbrev dktX0_mark_0 : List UInt8 := dkwX0_mark_0 ++ dktX0_mark_1
theorem dksX0_mark_0 : cX0_mark.data.toList.drop 0 = dktX0_mark_0 := by decide +kernel
theorem dksX0_mark_1 : cX0_mark.data.toList.drop 24 = dktX0_mark_1 := dk_seg dksX0_mark_0 24 rfl rfl
theorem dX0_mark_0 : decode cX0_mark 0 = .ok (.aload_n 0, 1) := dk_42 (dk_at dksX0_mark_0 0 rfl rfl)
theorem dX0_mark_1 : decode cX0_mark 1 = .ok (.getfield 293, 3) := dk_180 1 37 (dk_at dksX0_mark_0 1 rfl rfl)
theorem dX0_mark_4 : decode cX0_mark 4 = .ok (.iload_n 1, 1) := dk_27 (dk_at dksX0_mark_0 4 rfl rfl)
theorem dX0_mark_5 : decode cX0_mark 5 = .ok (.dup2, 1) := dk_92 (dk_at dksX0_mark_0 5 rfl rfl)
theorem dX0_mark_6 : decode cX0_mark 6 = .ok (.iaload, 1) := dk_46 (dk_at dksX0_mark_0 6 rfl rfl)
theorem dX0_mark_7 : decode cX0_mark 7 = .ok (.aload_n 0, 1) := dk_42 (dk_at dksX0_mark_0 7 rfl rfl)
theorem dX0_mark_8 : decode cX0_mark 8 = .ok (.getfield 293, 3) := dk_180 1 37 (dk_at dksX0_mark_0 8 rfl rfl)
theorem dX0_mark_11 : decode cX0_mark 11 = .ok (.iload_n 1, 1) := dk_27 (dk_at dksX0_mark_0 11 rfl rfl)
theorem dX0_mark_12 : decode cX0_mark 12 = .ok (.iaload, 1) := dk_46 (dk_at dksX0_mark_0 12 rfl rfl)
theorem dX0_mark_13 : decode cX0_mark 13 = .ok (.iload_n 2, 1) := dk_28 (dk_at dksX0_mark_0 13 rfl rfl)
theorem dX0_mark_14 : decode cX0_mark 14 = .ok (.iand, 1) := dk_126 (dk_at dksX0_mark_0 14 rfl rfl)
theorem dX0_mark_15 : decode cX0_mark 15 = .ok (.ifCond .eq 8, 3) := dk_153 0 8 (dk_at dksX0_mark_0 15 rfl rfl)
theorem dX0_mark_18 : decode cX0_mark 18 = .ok (.bipush 32, 2) := dk_16 32 (dk_at dksX0_mark_0 18 rfl rfl)
theorem dX0_mark_20 : decode cX0_mark 20 = .ok (.goto 4, 3) := dk_167 0 4 (dk_at dksX0_mark_0 20 rfl rfl)
theorem dX0_mark_23 : decode cX0_mark 23 = .ok (.iload_n 2, 1) := dk_28 (dk_at dksX0_mark_0 23 rfl rfl)
theorem dX0_mark_24 : decode cX0_mark 24 = .ok (.ior, 1) := dk_128 (dk_at dksX0_mark_1 0 rfl rfl)
theorem dX0_mark_25 : decode cX0_mark 25 = .ok (.iastore, 1) := dk_79 (dk_at dksX0_mark_1 1 rfl rfl)
theorem dX0_mark_26 : decode cX0_mark 26 = .ok (.return_, 1) := dk_177 (dk_at dksX0_mark_1 2 rfl rfl)
abbrev cX0_isDigit : ByteArray := prog_1_method_32_code
def yX0_isDigit : MethodName := ⟨RX0, "isDigit", "(I)Z"⟩
def dkwX0_isDigit_0 : List UInt8 := [26, 16, 48, 161, 0, 13, 26, 16, 57, 163, 0, 7, 4, 167, 0, 4, 3, 172]
abbrev dktX0_isDigit_0 : List UInt8 := dkwX0_isDigit_0 ++ []
theorem dksX0_isDigit_0 : cX0_isDigit.data.toList.drop 0 = dktX0_isDigit_0 := by decide +kernel
theorem dX0_isDigit_0 : decode cX0_isDigit 0 = .ok (.iload_n 0, 1) := dk_26 (dk_at dksX0_isDigit_0 0 rfl rfl)
theorem dX0_isDigit_1 : decode cX0_isDigit 1 = .ok (.bipush 48, 2) := dk_16 48 (dk_at dksX0_isDigit_0 1 rfl rfl)
theorem dX0_isDigit_3 : decode cX0_isDigit 3 = .ok (.if_icmp .lt 13, 3) := dk_161 0 13 (dk_at dksX0_isDigit_0 3 rfl rfl)
theorem dX0_isDigit_6 : decode cX0_isDigit 6 = .ok (.iload_n 0, 1) := dk_26 (dk_at dksX0_isDigit_0 6 rfl rfl)
theorem dX0_isDigit_7 : decode cX0_isDigit 7 = .ok (.bipush 57, 2) := dk_16 57 (dk_at dksX0_isDigit_0 7 rfl rfl)
theorem dX0_isDigit_9 : decode cX0_isDigit 9 = .ok (.if_icmp .gt 7, 3) := dk_163 0 7 (dk_at dksX0_isDigit_0 9 rfl rfl)
theorem dX0_isDigit_12 : decode cX0_isDigit 12 = .ok (.iconst 1, 1) := dk_4 (dk_at dksX0_isDigit_0 12 rfl rfl)
theorem dX0_isDigit_13 : decode cX0_isDigit 13 = .ok (.goto 4, 3) := dk_167 0 4 (dk_at dksX0_isDigit_0 13 rfl rfl)
theorem dX0_isDigit_16 : decode cX0_isDigit 16 = .ok (.iconst 0, 1) := dk_3 (dk_at dksX0_isDigit_0 16 rfl rfl)
theorem dX0_isDigit_17 : decode cX0_isDigit 17 = .ok (.ireturn, 1) := dk_172 (dk_at dksX0_isDigit_0 17 rfl rfl)
abbrev cX0_readVariables : ByteArray := prog_1_method_34_code
def yX0_readVariables : MethodName := ⟨RX0, "readVariables", "()Z"⟩
def dkwX0_readVariables_5 : List UInt8 := [153, 0, 7, 4, 167, 0, 4, 3, 172]
abbrev dktX0_readVariables_5 : List UInt8 := dkwX0_readVariables_5 ++ []
def dkwX0_readVariables_4 : List UInt8 := [42, 180, 0, 39, 79, 132, 2, 1, 167, 255, 235, 42, 182, 0, 252, 153, 0, 15, 42, 3, 182, 1, 2]
abbrev dktX0_readVariables_4 : List UInt8 := dkwX0_readVariables_4 ++ dktX0_readVariables_5
def dkwX0_readVariables_3 : List UInt8 := [4, 182, 1, 2, 154, 0, 5, 3, 172, 27, 61, 28, 42, 180, 0, 154, 162, 0, 19, 42, 180, 1, 84, 28]
abbrev dktX0_readVariables_3 : List UInt8 := dkwX0_readVariables_3 ++ dktX0_readVariables_4
def dkwX0_readVariables_2 : List UInt8 := [180, 1, 81, 42, 89, 180, 0, 154, 90, 4, 96, 181, 0, 154, 28, 79, 42, 182, 0, 142, 154, 255, 195, 42]
abbrev dktX0_readVariables_2 : List UInt8 := dkwX0_readVariables_2 ++ dktX0_readVariables_3
def dkwX0_readVariables_1 : List UInt8 := [180, 0, 39, 182, 0, 132, 172, 42, 180, 0, 39, 61, 42, 182, 0, 252, 154, 0, 5, 3, 172, 42]
abbrev dktX0_readVariables_1 : List UInt8 := dkwX0_readVariables_1 ++ dktX0_readVariables_2
def dkwX0_readVariables_0 : List UInt8 := [42, 180, 0, 154, 60, 42, 182, 0, 142, 153, 0, 22, 42, 180, 0, 154, 16, 30, 160, 0, 13, 42, 5, 42]
abbrev dktX0_readVariables_0 : List UInt8 := dkwX0_readVariables_0 ++ dktX0_readVariables_1
theorem dksX0_readVariables_0 : cX0_readVariables.data.toList.drop 0 = dktX0_readVariables_0 := by decide +kernel
theorem dksX0_readVariables_1 : cX0_readVariables.data.toList.drop 24 = dktX0_readVariables_1 := dk_seg dksX0_readVariables_0 24 rfl rfl
theorem dksX0_readVariables_2 : cX0_readVariables.data.toList.drop 46 = dktX0_readVariables_2 := dk_seg dksX0_readVariables_1 22 rfl rfl
theorem dksX0_readVariables_3 : cX0_readVariables.data.toList.drop 70 = dktX0_readVariables_3 := dk_seg dksX0_readVariables_2 24 rfl rfl
theorem dksX0_readVariables_4 : cX0_readVariables.data.toList.drop 94 = dktX0_readVariables_4 := dk_seg dksX0_readVariables_3 24 rfl rfl
theorem dksX0_readVariables_5 : cX0_readVariables.data.toList.drop 117 = dktX0_readVariables_5 := dk_seg dksX0_readVariables_4 23 rfl rfl
theorem dX0_readVariables_0 : decode cX0_readVariables 0 = .ok (.aload_n 0, 1) := dk_42 (dk_at dksX0_readVariables_0 0 rfl rfl)
theorem dX0_readVariables_1 : decode cX0_readVariables 1 = .ok (.getfield 154, 3) := dk_180 0 154 (dk_at dksX0_readVariables_0 1 rfl rfl)
theorem dX0_readVariables_4 : decode cX0_readVariables 4 = .ok (.istore_n 1, 1) := dk_60 (dk_at dksX0_readVariables_0 4 rfl rfl)
theorem dX0_readVariables_5 : decode cX0_readVariables 5 = .ok (.aload_n 0, 1) := dk_42 (dk_at dksX0_readVariables_0 5 rfl rfl)
theorem dX0_readVariables_6 : decode cX0_readVariables 6 = .ok (.invokevirtual 142, 3) := dk_182 0 142 (dk_at dksX0_readVariables_0 6 rfl rfl)
theorem dX0_readVariables_9 : decode cX0_readVariables 9 = .ok (.ifCond .eq 22, 3) := dk_153 0 22 (dk_at dksX0_readVariables_0 9 rfl rfl)
theorem dX0_readVariables_12 : decode cX0_readVariables 12 = .ok (.aload_n 0, 1) := dk_42 (dk_at dksX0_readVariables_0 12 rfl rfl)
theorem dX0_readVariables_13 : decode cX0_readVariables 13 = .ok (.getfield 154, 3) := dk_180 0 154 (dk_at dksX0_readVariables_0 13 rfl rfl)
theorem dX0_readVariables_16 : decode cX0_readVariables 16 = .ok (.bipush 30, 2) := dk_16 30 (dk_at dksX0_readVariables_0 16 rfl rfl)
theorem dX0_readVariables_18 : decode cX0_readVariables 18 = .ok (.if_icmp .ne 13, 3) := dk_160 0 13 (dk_at dksX0_readVariables_0 18 rfl rfl)
theorem dX0_readVariables_21 : decode cX0_readVariables 21 = .ok (.aload_n 0, 1) := dk_42 (dk_at dksX0_readVariables_0 21 rfl rfl)
theorem dX0_readVariables_22 : decode cX0_readVariables 22 = .ok (.iconst 2, 1) := dk_5 (dk_at dksX0_readVariables_0 22 rfl rfl)
theorem dX0_readVariables_23 : decode cX0_readVariables 23 = .ok (.aload_n 0, 1) := dk_42 (dk_at dksX0_readVariables_0 23 rfl rfl)
theorem dX0_readVariables_24 : decode cX0_readVariables 24 = .ok (.getfield 39, 3) := dk_180 0 39 (dk_at dksX0_readVariables_1 0 rfl rfl)
theorem dX0_readVariables_27 : decode cX0_readVariables 27 = .ok (.invokevirtual 132, 3) := dk_182 0 132 (dk_at dksX0_readVariables_1 3 rfl rfl)
theorem dX0_readVariables_30 : decode cX0_readVariables 30 = .ok (.ireturn, 1) := dk_172 (dk_at dksX0_readVariables_1 6 rfl rfl)
theorem dX0_readVariables_31 : decode cX0_readVariables 31 = .ok (.aload_n 0, 1) := dk_42 (dk_at dksX0_readVariables_1 7 rfl rfl)
theorem dX0_readVariables_32 : decode cX0_readVariables 32 = .ok (.getfield 39, 3) := dk_180 0 39 (dk_at dksX0_readVariables_1 8 rfl rfl)
theorem dX0_readVariables_35 : decode cX0_readVariables 35 = .ok (.istore_n 2, 1) := dk_61 (dk_at dksX0_readVariables_1 11 rfl rfl)
theorem dX0_readVariables_36 : decode cX0_readVariables 36 = .ok (.aload_n 0, 1) := dk_42 (dk_at dksX0_readVariables_1 12 rfl rfl)
theorem dX0_readVariables_37 : decode cX0_readVariables 37 = .ok (.invokevirtual 252, 3) := dk_182 0 252 (dk_at dksX0_readVariables_1 13 rfl rfl)
theorem dX0_readVariables_40 : decode cX0_readVariables 40 = .ok (.ifCond .ne 5, 3) := dk_154 0 5 (dk_at dksX0_readVariables_1 16 rfl rfl)
theorem dX0_readVariables_43 : decode cX0_readVariables 43 = .ok (.iconst 0, 1) := dk_3 (dk_at dksX0_readVariables_1 19 rfl rfl)
theorem dX0_readVariables_44 : decode cX0_readVariables 44 = .ok (.ireturn, 1) := dk_172 (dk_at dksX0_readVariables_1 20 rfl rfl)
theorem dX0_readVariables_45 : decode cX0_readVariables 45 = .ok (.aload_n 0, 1) := dk_42 (dk_at dksX0_readVariables_1 21 rfl rfl)
theorem dX0_readVariables_46 : decode cX0_readVariables 46 = .ok (.getfield 337, 3) := dk_180 1 81 (dk_at dksX0_readVariables_2 0 rfl rfl)
theorem dX0_readVariables_49 : decode cX0_readVariables 49 = .ok (.aload_n 0, 1) := dk_42 (dk_at dksX0_readVariables_2 3 rfl rfl)
theorem dX0_readVariables_50 : decode cX0_readVariables 50 = .ok (.dup, 1) := dk_89 (dk_at dksX0_readVariables_2 4 rfl rfl)
theorem dX0_readVariables_51 : decode cX0_readVariables 51 = .ok (.getfield 154, 3) := dk_180 0 154 (dk_at dksX0_readVariables_2 5 rfl rfl)
theorem dX0_readVariables_54 : decode cX0_readVariables 54 = .ok (.dup_x1, 1) := dk_90 (dk_at dksX0_readVariables_2 8 rfl rfl)
theorem dX0_readVariables_55 : decode cX0_readVariables 55 = .ok (.iconst 1, 1) := dk_4 (dk_at dksX0_readVariables_2 9 rfl rfl)
theorem dX0_readVariables_56 : decode cX0_readVariables 56 = .ok (.iadd, 1) := dk_96 (dk_at dksX0_readVariables_2 10 rfl rfl)
theorem dX0_readVariables_57 : decode cX0_readVariables 57 = .ok (.putfield 154, 3) := dk_181 0 154 (dk_at dksX0_readVariables_2 11 rfl rfl)
theorem dX0_readVariables_60 : decode cX0_readVariables 60 = .ok (.iload_n 2, 1) := dk_28 (dk_at dksX0_readVariables_2 14 rfl rfl)
theorem dX0_readVariables_61 : decode cX0_readVariables 61 = .ok (.iastore, 1) := dk_79 (dk_at dksX0_readVariables_2 15 rfl rfl)
theorem dX0_readVariables_62 : decode cX0_readVariables 62 = .ok (.aload_n 0, 1) := dk_42 (dk_at dksX0_readVariables_2 16 rfl rfl)
theorem dX0_readVariables_63 : decode cX0_readVariables 63 = .ok (.invokevirtual 142, 3) := dk_182 0 142 (dk_at dksX0_readVariables_2 17 rfl rfl)
theorem dX0_readVariables_66 : decode cX0_readVariables 66 = .ok (.ifCond .ne (-61), 3) := dk_154 255 195 (dk_at dksX0_readVariables_2 20 rfl rfl)
theorem dX0_readVariables_69 : decode cX0_readVariables 69 = .ok (.aload_n 0, 1) := dk_42 (dk_at dksX0_readVariables_2 23 rfl rfl)
theorem dX0_readVariables_70 : decode cX0_readVariables 70 = .ok (.iconst 1, 1) := dk_4 (dk_at dksX0_readVariables_3 0 rfl rfl)
theorem dX0_readVariables_71 : decode cX0_readVariables 71 = .ok (.invokevirtual 258, 3) := dk_182 1 2 (dk_at dksX0_readVariables_3 1 rfl rfl)
theorem dX0_readVariables_74 : decode cX0_readVariables 74 = .ok (.ifCond .ne 5, 3) := dk_154 0 5 (dk_at dksX0_readVariables_3 4 rfl rfl)
theorem dX0_readVariables_77 : decode cX0_readVariables 77 = .ok (.iconst 0, 1) := dk_3 (dk_at dksX0_readVariables_3 7 rfl rfl)
theorem dX0_readVariables_78 : decode cX0_readVariables 78 = .ok (.ireturn, 1) := dk_172 (dk_at dksX0_readVariables_3 8 rfl rfl)
theorem dX0_readVariables_79 : decode cX0_readVariables 79 = .ok (.iload_n 1, 1) := dk_27 (dk_at dksX0_readVariables_3 9 rfl rfl)
theorem dX0_readVariables_80 : decode cX0_readVariables 80 = .ok (.istore_n 2, 1) := dk_61 (dk_at dksX0_readVariables_3 10 rfl rfl)
theorem dX0_readVariables_81 : decode cX0_readVariables 81 = .ok (.iload_n 2, 1) := dk_28 (dk_at dksX0_readVariables_3 11 rfl rfl)
theorem dX0_readVariables_82 : decode cX0_readVariables 82 = .ok (.aload_n 0, 1) := dk_42 (dk_at dksX0_readVariables_3 12 rfl rfl)
theorem dX0_readVariables_83 : decode cX0_readVariables 83 = .ok (.getfield 154, 3) := dk_180 0 154 (dk_at dksX0_readVariables_3 13 rfl rfl)
theorem dX0_readVariables_86 : decode cX0_readVariables 86 = .ok (.if_icmp .ge 19, 3) := dk_162 0 19 (dk_at dksX0_readVariables_3 16 rfl rfl)
theorem dX0_readVariables_89 : decode cX0_readVariables 89 = .ok (.aload_n 0, 1) := dk_42 (dk_at dksX0_readVariables_3 19 rfl rfl)
theorem dX0_readVariables_90 : decode cX0_readVariables 90 = .ok (.getfield 340, 3) := dk_180 1 84 (dk_at dksX0_readVariables_3 20 rfl rfl)
theorem dX0_readVariables_93 : decode cX0_readVariables 93 = .ok (.iload_n 2, 1) := dk_28 (dk_at dksX0_readVariables_3 23 rfl rfl)
theorem dX0_readVariables_94 : decode cX0_readVariables 94 = .ok (.aload_n 0, 1) := dk_42 (dk_at dksX0_readVariables_4 0 rfl rfl)
theorem dX0_readVariables_95 : decode cX0_readVariables 95 = .ok (.getfield 39, 3) := dk_180 0 39 (dk_at dksX0_readVariables_4 1 rfl rfl)
theorem dX0_readVariables_98 : decode cX0_readVariables 98 = .ok (.iastore, 1) := dk_79 (dk_at dksX0_readVariables_4 4 rfl rfl)
theorem dX0_readVariables_99 : decode cX0_readVariables 99 = .ok (.iinc 2 1, 3) := dk_132 2 1 (dk_at dksX0_readVariables_4 5 rfl rfl)
theorem dX0_readVariables_102 : decode cX0_readVariables 102 = .ok (.goto (-21), 3) := dk_167 255 235 (dk_at dksX0_readVariables_4 8 rfl rfl)
theorem dX0_readVariables_105 : decode cX0_readVariables 105 = .ok (.aload_n 0, 1) := dk_42 (dk_at dksX0_readVariables_4 11 rfl rfl)
theorem dX0_readVariables_106 : decode cX0_readVariables 106 = .ok (.invokevirtual 252, 3) := dk_182 0 252 (dk_at dksX0_readVariables_4 12 rfl rfl)
theorem dX0_readVariables_109 : decode cX0_readVariables 109 = .ok (.ifCond .eq 15, 3) := dk_153 0 15 (dk_at dksX0_readVariables_4 15 rfl rfl)
theorem dX0_readVariables_112 : decode cX0_readVariables 112 = .ok (.aload_n 0, 1) := dk_42 (dk_at dksX0_readVariables_4 18 rfl rfl)
theorem dX0_readVariables_113 : decode cX0_readVariables 113 = .ok (.iconst 0, 1) := dk_3 (dk_at dksX0_readVariables_4 19 rfl rfl)
theorem dX0_readVariables_114 : decode cX0_readVariables 114 = .ok (.invokevirtual 258, 3) := dk_182 1 2 (dk_at dksX0_readVariables_4 20 rfl rfl)
theorem dX0_readVariables_117 : decode cX0_readVariables 117 = .ok (.ifCond .eq 7, 3) := dk_153 0 7 (dk_at dksX0_readVariables_5 0 rfl rfl)
theorem dX0_readVariables_120 : decode cX0_readVariables 120 = .ok (.iconst 1, 1) := dk_4 (dk_at dksX0_readVariables_5 3 rfl rfl)
theorem dX0_readVariables_121 : decode cX0_readVariables 121 = .ok (.goto 4, 3) := dk_167 0 4 (dk_at dksX0_readVariables_5 4 rfl rfl)
theorem dX0_readVariables_124 : decode cX0_readVariables 124 = .ok (.iconst 0, 1) := dk_3 (dk_at dksX0_readVariables_5 7 rfl rfl)
theorem dX0_readVariables_125 : decode cX0_readVariables 125 = .ok (.ireturn, 1) := dk_172 (dk_at dksX0_readVariables_5 8 rfl rfl)
abbrev cX0_readEquation : ByteArray := prog_1_method_36_code
def yX0_readEquation : MethodName := ⟨RX0, "readEquation", "()Z"⟩
def dkwX0_readEquation_3 : List UInt8 := [90, 4, 96, 181, 0, 163, 27, 79, 42, 27, 6, 182, 1, 97, 172]
abbrev dktX0_readEquation_3 : List UInt8 := dkwX0_readEquation_3 ++ []
def dkwX0_readEquation_2 : List UInt8 := [154, 0, 5, 3, 172, 42, 89, 180, 0, 157, 4, 96, 181, 0, 157, 42, 180, 1, 94, 42, 89, 180, 0, 163]
abbrev dktX0_readEquation_2 : List UInt8 := dkwX0_readEquation_2 ++ dktX0_readEquation_3
def dkwX0_readEquation_1 : List UInt8 := [42, 180, 1, 87, 27, 42, 18, 242, 182, 0, 218, 84, 42, 180, 1, 91, 27, 16, 254, 79, 42, 182, 0, 138]
abbrev dktX0_readEquation_1 : List UInt8 := dkwX0_readEquation_1 ++ dktX0_readEquation_2
def dkwX0_readEquation_0 : List UInt8 := [42, 180, 0, 157, 16, 40, 160, 0, 13, 42, 5, 42, 180, 0, 39, 182, 0, 132, 172, 42, 180, 0, 157, 60]
abbrev dktX0_readEquation_0 : List UInt8 := dkwX0_readEquation_0 ++ dktX0_readEquation_1
theorem dksX0_readEquation_0 : cX0_readEquation.data.toList.drop 0 = dktX0_readEquation_0 := by decide +kernel
theorem dksX0_readEquation_1 : cX0_readEquation.data.toList.drop 24 = dktX0_readEquation_1 := dk_seg dksX0_readEquation_0 24 rfl rfl
theorem dksX0_readEquation_2 : cX0_readEquation.data.toList.drop 48 = dktX0_readEquation_2 := dk_seg dksX0_readEquation_1 24 rfl rfl
theorem dksX0_readEquation_3 : cX0_readEquation.data.toList.drop 72 = dktX0_readEquation_3 := dk_seg dksX0_readEquation_2 24 rfl rfl
theorem dX0_readEquation_0 : decode cX0_readEquation 0 = .ok (.aload_n 0, 1) := dk_42 (dk_at dksX0_readEquation_0 0 rfl rfl)
theorem dX0_readEquation_1 : decode cX0_readEquation 1 = .ok (.getfield 157, 3) := dk_180 0 157 (dk_at dksX0_readEquation_0 1 rfl rfl)
theorem dX0_readEquation_4 : decode cX0_readEquation 4 = .ok (.bipush 40, 2) := dk_16 40 (dk_at dksX0_readEquation_0 4 rfl rfl)
theorem dX0_readEquation_6 : decode cX0_readEquation 6 = .ok (.if_icmp .ne 13, 3) := dk_160 0 13 (dk_at dksX0_readEquation_0 6 rfl rfl)
theorem dX0_readEquation_9 : decode cX0_readEquation 9 = .ok (.aload_n 0, 1) := dk_42 (dk_at dksX0_readEquation_0 9 rfl rfl)
theorem dX0_readEquation_10 : decode cX0_readEquation 10 = .ok (.iconst 2, 1) := dk_5 (dk_at dksX0_readEquation_0 10 rfl rfl)
theorem dX0_readEquation_11 : decode cX0_readEquation 11 = .ok (.aload_n 0, 1) := dk_42 (dk_at dksX0_readEquation_0 11 rfl rfl)
theorem dX0_readEquation_12 : decode cX0_readEquation 12 = .ok (.getfield 39, 3) := dk_180 0 39 (dk_at dksX0_readEquation_0 12 rfl rfl)
theorem dX0_readEquation_15 : decode cX0_readEquation 15 = .ok (.invokevirtual 132, 3) := dk_182 0 132 (dk_at dksX0_readEquation_0 15 rfl rfl)
theorem dX0_readEquation_18 : decode cX0_readEquation 18 = .ok (.ireturn, 1) := dk_172 (dk_at dksX0_readEquation_0 18 rfl rfl)
theorem dX0_readEquation_19 : decode cX0_readEquation 19 = .ok (.aload_n 0, 1) := dk_42 (dk_at dksX0_readEquation_0 19 rfl rfl)
theorem dX0_readEquation_20 : decode cX0_readEquation 20 = .ok (.getfield 157, 3) := dk_180 0 157 (dk_at dksX0_readEquation_0 20 rfl rfl)
theorem dX0_readEquation_23 : decode cX0_readEquation 23 = .ok (.istore_n 1, 1) := dk_60 (dk_at dksX0_readEquation_0 23 rfl rfl)
theorem dX0_readEquation_24 : decode cX0_readEquation 24 = .ok (.aload_n 0, 1) := dk_42 (dk_at dksX0_readEquation_1 0 rfl rfl)
theorem dX0_readEquation_25 : decode cX0_readEquation 25 = .ok (.getfield 343, 3) := dk_180 1 87 (dk_at dksX0_readEquation_1 1 rfl rfl)
theorem dX0_readEquation_28 : decode cX0_readEquation 28 = .ok (.iload_n 1, 1) := dk_27 (dk_at dksX0_readEquation_1 4 rfl rfl)
theorem dX0_readEquation_29 : decode cX0_readEquation 29 = .ok (.aload_n 0, 1) := dk_42 (dk_at dksX0_readEquation_1 5 rfl rfl)
theorem dX0_readEquation_30 : decode cX0_readEquation 30 = .ok (.ldc 242, 2) := dk_18 242 (dk_at dksX0_readEquation_1 6 rfl rfl)
theorem dX0_readEquation_32 : decode cX0_readEquation 32 = .ok (.invokevirtual 218, 3) := dk_182 0 218 (dk_at dksX0_readEquation_1 8 rfl rfl)
theorem dX0_readEquation_35 : decode cX0_readEquation 35 = .ok (.bastore, 1) := dk_84 (dk_at dksX0_readEquation_1 11 rfl rfl)
theorem dX0_readEquation_36 : decode cX0_readEquation 36 = .ok (.aload_n 0, 1) := dk_42 (dk_at dksX0_readEquation_1 12 rfl rfl)
theorem dX0_readEquation_37 : decode cX0_readEquation 37 = .ok (.getfield 347, 3) := dk_180 1 91 (dk_at dksX0_readEquation_1 13 rfl rfl)
theorem dX0_readEquation_40 : decode cX0_readEquation 40 = .ok (.iload_n 1, 1) := dk_27 (dk_at dksX0_readEquation_1 16 rfl rfl)
theorem dX0_readEquation_41 : decode cX0_readEquation 41 = .ok (.bipush (-2), 2) := dk_16 254 (dk_at dksX0_readEquation_1 17 rfl rfl)
theorem dX0_readEquation_43 : decode cX0_readEquation 43 = .ok (.iastore, 1) := dk_79 (dk_at dksX0_readEquation_1 19 rfl rfl)
theorem dX0_readEquation_44 : decode cX0_readEquation 44 = .ok (.aload_n 0, 1) := dk_42 (dk_at dksX0_readEquation_1 20 rfl rfl)
theorem dX0_readEquation_45 : decode cX0_readEquation 45 = .ok (.invokevirtual 138, 3) := dk_182 0 138 (dk_at dksX0_readEquation_1 21 rfl rfl)
theorem dX0_readEquation_48 : decode cX0_readEquation 48 = .ok (.ifCond .ne 5, 3) := dk_154 0 5 (dk_at dksX0_readEquation_2 0 rfl rfl)
theorem dX0_readEquation_51 : decode cX0_readEquation 51 = .ok (.iconst 0, 1) := dk_3 (dk_at dksX0_readEquation_2 3 rfl rfl)
theorem dX0_readEquation_52 : decode cX0_readEquation 52 = .ok (.ireturn, 1) := dk_172 (dk_at dksX0_readEquation_2 4 rfl rfl)
theorem dX0_readEquation_53 : decode cX0_readEquation 53 = .ok (.aload_n 0, 1) := dk_42 (dk_at dksX0_readEquation_2 5 rfl rfl)
theorem dX0_readEquation_54 : decode cX0_readEquation 54 = .ok (.dup, 1) := dk_89 (dk_at dksX0_readEquation_2 6 rfl rfl)
theorem dX0_readEquation_55 : decode cX0_readEquation 55 = .ok (.getfield 157, 3) := dk_180 0 157 (dk_at dksX0_readEquation_2 7 rfl rfl)
theorem dX0_readEquation_58 : decode cX0_readEquation 58 = .ok (.iconst 1, 1) := dk_4 (dk_at dksX0_readEquation_2 10 rfl rfl)
theorem dX0_readEquation_59 : decode cX0_readEquation 59 = .ok (.iadd, 1) := dk_96 (dk_at dksX0_readEquation_2 11 rfl rfl)
theorem dX0_readEquation_60 : decode cX0_readEquation 60 = .ok (.putfield 157, 3) := dk_181 0 157 (dk_at dksX0_readEquation_2 12 rfl rfl)
theorem dX0_readEquation_63 : decode cX0_readEquation 63 = .ok (.aload_n 0, 1) := dk_42 (dk_at dksX0_readEquation_2 15 rfl rfl)
theorem dX0_readEquation_64 : decode cX0_readEquation 64 = .ok (.getfield 350, 3) := dk_180 1 94 (dk_at dksX0_readEquation_2 16 rfl rfl)
theorem dX0_readEquation_67 : decode cX0_readEquation 67 = .ok (.aload_n 0, 1) := dk_42 (dk_at dksX0_readEquation_2 19 rfl rfl)
theorem dX0_readEquation_68 : decode cX0_readEquation 68 = .ok (.dup, 1) := dk_89 (dk_at dksX0_readEquation_2 20 rfl rfl)
theorem dX0_readEquation_69 : decode cX0_readEquation 69 = .ok (.getfield 163, 3) := dk_180 0 163 (dk_at dksX0_readEquation_2 21 rfl rfl)
theorem dX0_readEquation_72 : decode cX0_readEquation 72 = .ok (.dup_x1, 1) := dk_90 (dk_at dksX0_readEquation_3 0 rfl rfl)
theorem dX0_readEquation_73 : decode cX0_readEquation 73 = .ok (.iconst 1, 1) := dk_4 (dk_at dksX0_readEquation_3 1 rfl rfl)
theorem dX0_readEquation_74 : decode cX0_readEquation 74 = .ok (.iadd, 1) := dk_96 (dk_at dksX0_readEquation_3 2 rfl rfl)
theorem dX0_readEquation_75 : decode cX0_readEquation 75 = .ok (.putfield 163, 3) := dk_181 0 163 (dk_at dksX0_readEquation_3 3 rfl rfl)
theorem dX0_readEquation_78 : decode cX0_readEquation 78 = .ok (.iload_n 1, 1) := dk_27 (dk_at dksX0_readEquation_3 6 rfl rfl)
theorem dX0_readEquation_79 : decode cX0_readEquation 79 = .ok (.iastore, 1) := dk_79 (dk_at dksX0_readEquation_3 7 rfl rfl)
theorem dX0_readEquation_80 : decode cX0_readEquation 80 = .ok (.aload_n 0, 1) := dk_42 (dk_at dksX0_readEquation_3 8 rfl rfl)
theorem dX0_readEquation_81 : decode cX0_readEquation 81 = .ok (.iload_n 1, 1) := dk_27 (dk_at dksX0_readEquation_3 9 rfl rfl)
theorem dX0_readEquation_82 : decode cX0_readEquation 82 = .ok (.iconst 3, 1) := dk_6 (dk_at dksX0_readEquation_3 10 rfl rfl)
theorem dX0_readEquation_83 : decode cX0_readEquation 83 = .ok (.invokevirtual 353, 3) := dk_182 1 97 (dk_at dksX0_readEquation_3 11 rfl rfl)
theorem dX0_readEquation_86 : decode cX0_readEquation 86 = .ok (.ireturn, 1) := dk_172 (dk_at dksX0_readEquation_3 14 rfl rfl)
abbrev cX0_readSides : ByteArray := prog_1_method_38_code
def yX0_readSides : MethodName := ⟨RX0, "readSides", "(II)Z"⟩
def dkwX0_readSides_4 : List UInt8 := [182, 1, 118, 154, 0, 5, 3, 172, 42, 16, 7, 182, 0, 135, 154, 255, 233, 42, 3, 182, 1, 2, 172]
abbrev dktX0_readSides_4 : List UInt8 := dkwX0_readSides_4 ++ []
def dkwX0_readSides_3 : List UInt8 := [180, 0, 39, 79, 42, 16, 6, 182, 0, 135, 153, 0, 29, 42, 182, 0, 138, 153, 0, 11, 42, 27]
abbrev dktX0_readSides_3 : List UInt8 := dkwX0_readSides_3 ++ dktX0_readSides_4
def dkwX0_readSides_2 : List UInt8 := [180, 1, 112, 27, 42, 180, 0, 39, 79, 42, 182, 1, 106, 154, 0, 5, 3, 172, 42, 180, 1, 115, 27, 42]
abbrev dktX0_readSides_2 : List UInt8 := dkwX0_readSides_2 ++ dktX0_readSides_3
def dkwX0_readSides_1 : List UInt8 := [3, 172, 42, 180, 1, 109, 27, 42, 180, 0, 39, 79, 42, 28, 182, 1, 2, 154, 0, 5, 3, 172, 42]
abbrev dktX0_readSides_1 : List UInt8 := dkwX0_readSides_1 ++ dktX0_readSides_2
def dkwX0_readSides_0 : List UInt8 := [42, 180, 1, 100, 27, 3, 79, 42, 180, 1, 103, 27, 42, 180, 0, 39, 79, 42, 182, 1, 106, 154, 0, 5]
abbrev dktX0_readSides_0 : List UInt8 := dkwX0_readSides_0 ++ dktX0_readSides_1
theorem dksX0_readSides_0 : cX0_readSides.data.toList.drop 0 = dktX0_readSides_0 := by decide +kernel
theorem dksX0_readSides_1 : cX0_readSides.data.toList.drop 24 = dktX0_readSides_1 := dk_seg dksX0_readSides_0 24 rfl rfl
theorem dksX0_readSides_2 : cX0_readSides.data.toList.drop 47 = dktX0_readSides_2 := dk_seg dksX0_readSides_1 23 rfl rfl
theorem dksX0_readSides_3 : cX0_readSides.data.toList.drop 71 = dktX0_readSides_3 := dk_seg dksX0_readSides_2 24 rfl rfl
theorem dksX0_readSides_4 : cX0_readSides.data.toList.drop 93 = dktX0_readSides_4 := dk_seg dksX0_readSides_3 22 rfl rfl
theorem dX0_readSides_0 : decode cX0_readSides 0 = .ok (.aload_n 0, 1) := dk_42 (dk_at dksX0_readSides_0 0 rfl rfl)
theorem dX0_readSides_1 : decode cX0_readSides 1 = .ok (.getfield 356, 3) := dk_180 1 100 (dk_at dksX0_readSides_0 1 rfl rfl)
theorem dX0_readSides_4 : decode cX0_readSides 4 = .ok (.iload_n 1, 1) := dk_27 (dk_at dksX0_readSides_0 4 rfl rfl)
theorem dX0_readSides_5 : decode cX0_readSides 5 = .ok (.iconst 0, 1) := dk_3 (dk_at dksX0_readSides_0 5 rfl rfl)
theorem dX0_readSides_6 : decode cX0_readSides 6 = .ok (.iastore, 1) := dk_79 (dk_at dksX0_readSides_0 6 rfl rfl)
theorem dX0_readSides_7 : decode cX0_readSides 7 = .ok (.aload_n 0, 1) := dk_42 (dk_at dksX0_readSides_0 7 rfl rfl)
theorem dX0_readSides_8 : decode cX0_readSides 8 = .ok (.getfield 359, 3) := dk_180 1 103 (dk_at dksX0_readSides_0 8 rfl rfl)
theorem dX0_readSides_11 : decode cX0_readSides 11 = .ok (.iload_n 1, 1) := dk_27 (dk_at dksX0_readSides_0 11 rfl rfl)
theorem dX0_readSides_12 : decode cX0_readSides 12 = .ok (.aload_n 0, 1) := dk_42 (dk_at dksX0_readSides_0 12 rfl rfl)
theorem dX0_readSides_13 : decode cX0_readSides 13 = .ok (.getfield 39, 3) := dk_180 0 39 (dk_at dksX0_readSides_0 13 rfl rfl)
theorem dX0_readSides_16 : decode cX0_readSides 16 = .ok (.iastore, 1) := dk_79 (dk_at dksX0_readSides_0 16 rfl rfl)
theorem dX0_readSides_17 : decode cX0_readSides 17 = .ok (.aload_n 0, 1) := dk_42 (dk_at dksX0_readSides_0 17 rfl rfl)
theorem dX0_readSides_18 : decode cX0_readSides 18 = .ok (.invokevirtual 362, 3) := dk_182 1 106 (dk_at dksX0_readSides_0 18 rfl rfl)
theorem dX0_readSides_21 : decode cX0_readSides 21 = .ok (.ifCond .ne 5, 3) := dk_154 0 5 (dk_at dksX0_readSides_0 21 rfl rfl)
theorem dX0_readSides_24 : decode cX0_readSides 24 = .ok (.iconst 0, 1) := dk_3 (dk_at dksX0_readSides_1 0 rfl rfl)
theorem dX0_readSides_25 : decode cX0_readSides 25 = .ok (.ireturn, 1) := dk_172 (dk_at dksX0_readSides_1 1 rfl rfl)
theorem dX0_readSides_26 : decode cX0_readSides 26 = .ok (.aload_n 0, 1) := dk_42 (dk_at dksX0_readSides_1 2 rfl rfl)
theorem dX0_readSides_27 : decode cX0_readSides 27 = .ok (.getfield 365, 3) := dk_180 1 109 (dk_at dksX0_readSides_1 3 rfl rfl)
theorem dX0_readSides_30 : decode cX0_readSides 30 = .ok (.iload_n 1, 1) := dk_27 (dk_at dksX0_readSides_1 6 rfl rfl)
theorem dX0_readSides_31 : decode cX0_readSides 31 = .ok (.aload_n 0, 1) := dk_42 (dk_at dksX0_readSides_1 7 rfl rfl)
theorem dX0_readSides_32 : decode cX0_readSides 32 = .ok (.getfield 39, 3) := dk_180 0 39 (dk_at dksX0_readSides_1 8 rfl rfl)
theorem dX0_readSides_35 : decode cX0_readSides 35 = .ok (.iastore, 1) := dk_79 (dk_at dksX0_readSides_1 11 rfl rfl)
theorem dX0_readSides_36 : decode cX0_readSides 36 = .ok (.aload_n 0, 1) := dk_42 (dk_at dksX0_readSides_1 12 rfl rfl)
theorem dX0_readSides_37 : decode cX0_readSides 37 = .ok (.iload_n 2, 1) := dk_28 (dk_at dksX0_readSides_1 13 rfl rfl)
theorem dX0_readSides_38 : decode cX0_readSides 38 = .ok (.invokevirtual 258, 3) := dk_182 1 2 (dk_at dksX0_readSides_1 14 rfl rfl)
theorem dX0_readSides_41 : decode cX0_readSides 41 = .ok (.ifCond .ne 5, 3) := dk_154 0 5 (dk_at dksX0_readSides_1 17 rfl rfl)
theorem dX0_readSides_44 : decode cX0_readSides 44 = .ok (.iconst 0, 1) := dk_3 (dk_at dksX0_readSides_1 20 rfl rfl)
theorem dX0_readSides_45 : decode cX0_readSides 45 = .ok (.ireturn, 1) := dk_172 (dk_at dksX0_readSides_1 21 rfl rfl)
theorem dX0_readSides_46 : decode cX0_readSides 46 = .ok (.aload_n 0, 1) := dk_42 (dk_at dksX0_readSides_1 22 rfl rfl)
theorem dX0_readSides_47 : decode cX0_readSides 47 = .ok (.getfield 368, 3) := dk_180 1 112 (dk_at dksX0_readSides_2 0 rfl rfl)
theorem dX0_readSides_50 : decode cX0_readSides 50 = .ok (.iload_n 1, 1) := dk_27 (dk_at dksX0_readSides_2 3 rfl rfl)
theorem dX0_readSides_51 : decode cX0_readSides 51 = .ok (.aload_n 0, 1) := dk_42 (dk_at dksX0_readSides_2 4 rfl rfl)
theorem dX0_readSides_52 : decode cX0_readSides 52 = .ok (.getfield 39, 3) := dk_180 0 39 (dk_at dksX0_readSides_2 5 rfl rfl)
theorem dX0_readSides_55 : decode cX0_readSides 55 = .ok (.iastore, 1) := dk_79 (dk_at dksX0_readSides_2 8 rfl rfl)
theorem dX0_readSides_56 : decode cX0_readSides 56 = .ok (.aload_n 0, 1) := dk_42 (dk_at dksX0_readSides_2 9 rfl rfl)
theorem dX0_readSides_57 : decode cX0_readSides 57 = .ok (.invokevirtual 362, 3) := dk_182 1 106 (dk_at dksX0_readSides_2 10 rfl rfl)
theorem dX0_readSides_60 : decode cX0_readSides 60 = .ok (.ifCond .ne 5, 3) := dk_154 0 5 (dk_at dksX0_readSides_2 13 rfl rfl)
theorem dX0_readSides_63 : decode cX0_readSides 63 = .ok (.iconst 0, 1) := dk_3 (dk_at dksX0_readSides_2 16 rfl rfl)
theorem dX0_readSides_64 : decode cX0_readSides 64 = .ok (.ireturn, 1) := dk_172 (dk_at dksX0_readSides_2 17 rfl rfl)
theorem dX0_readSides_65 : decode cX0_readSides 65 = .ok (.aload_n 0, 1) := dk_42 (dk_at dksX0_readSides_2 18 rfl rfl)
theorem dX0_readSides_66 : decode cX0_readSides 66 = .ok (.getfield 371, 3) := dk_180 1 115 (dk_at dksX0_readSides_2 19 rfl rfl)
theorem dX0_readSides_69 : decode cX0_readSides 69 = .ok (.iload_n 1, 1) := dk_27 (dk_at dksX0_readSides_2 22 rfl rfl)
theorem dX0_readSides_70 : decode cX0_readSides 70 = .ok (.aload_n 0, 1) := dk_42 (dk_at dksX0_readSides_2 23 rfl rfl)
theorem dX0_readSides_71 : decode cX0_readSides 71 = .ok (.getfield 39, 3) := dk_180 0 39 (dk_at dksX0_readSides_3 0 rfl rfl)
theorem dX0_readSides_74 : decode cX0_readSides 74 = .ok (.iastore, 1) := dk_79 (dk_at dksX0_readSides_3 3 rfl rfl)
theorem dX0_readSides_75 : decode cX0_readSides 75 = .ok (.aload_n 0, 1) := dk_42 (dk_at dksX0_readSides_3 4 rfl rfl)
theorem dX0_readSides_76 : decode cX0_readSides 76 = .ok (.bipush 6, 2) := dk_16 6 (dk_at dksX0_readSides_3 5 rfl rfl)
theorem dX0_readSides_78 : decode cX0_readSides 78 = .ok (.invokevirtual 135, 3) := dk_182 0 135 (dk_at dksX0_readSides_3 7 rfl rfl)
theorem dX0_readSides_81 : decode cX0_readSides 81 = .ok (.ifCond .eq 29, 3) := dk_153 0 29 (dk_at dksX0_readSides_3 10 rfl rfl)
theorem dX0_readSides_84 : decode cX0_readSides 84 = .ok (.aload_n 0, 1) := dk_42 (dk_at dksX0_readSides_3 13 rfl rfl)
theorem dX0_readSides_85 : decode cX0_readSides 85 = .ok (.invokevirtual 138, 3) := dk_182 0 138 (dk_at dksX0_readSides_3 14 rfl rfl)
theorem dX0_readSides_88 : decode cX0_readSides 88 = .ok (.ifCond .eq 11, 3) := dk_153 0 11 (dk_at dksX0_readSides_3 17 rfl rfl)
theorem dX0_readSides_91 : decode cX0_readSides 91 = .ok (.aload_n 0, 1) := dk_42 (dk_at dksX0_readSides_3 20 rfl rfl)
theorem dX0_readSides_92 : decode cX0_readSides 92 = .ok (.iload_n 1, 1) := dk_27 (dk_at dksX0_readSides_3 21 rfl rfl)
theorem dX0_readSides_93 : decode cX0_readSides 93 = .ok (.invokevirtual 374, 3) := dk_182 1 118 (dk_at dksX0_readSides_4 0 rfl rfl)
theorem dX0_readSides_96 : decode cX0_readSides 96 = .ok (.ifCond .ne 5, 3) := dk_154 0 5 (dk_at dksX0_readSides_4 3 rfl rfl)
theorem dX0_readSides_99 : decode cX0_readSides 99 = .ok (.iconst 0, 1) := dk_3 (dk_at dksX0_readSides_4 6 rfl rfl)
theorem dX0_readSides_100 : decode cX0_readSides 100 = .ok (.ireturn, 1) := dk_172 (dk_at dksX0_readSides_4 7 rfl rfl)
theorem dX0_readSides_101 : decode cX0_readSides 101 = .ok (.aload_n 0, 1) := dk_42 (dk_at dksX0_readSides_4 8 rfl rfl)
theorem dX0_readSides_102 : decode cX0_readSides 102 = .ok (.bipush 7, 2) := dk_16 7 (dk_at dksX0_readSides_4 9 rfl rfl)
theorem dX0_readSides_104 : decode cX0_readSides 104 = .ok (.invokevirtual 135, 3) := dk_182 0 135 (dk_at dksX0_readSides_4 11 rfl rfl)
theorem dX0_readSides_107 : decode cX0_readSides 107 = .ok (.ifCond .ne (-23), 3) := dk_154 255 233 (dk_at dksX0_readSides_4 14 rfl rfl)
theorem dX0_readSides_110 : decode cX0_readSides 110 = .ok (.aload_n 0, 1) := dk_42 (dk_at dksX0_readSides_4 17 rfl rfl)
theorem dX0_readSides_111 : decode cX0_readSides 111 = .ok (.iconst 0, 1) := dk_3 (dk_at dksX0_readSides_4 18 rfl rfl)
theorem dX0_readSides_112 : decode cX0_readSides 112 = .ok (.invokevirtual 258, 3) := dk_182 1 2 (dk_at dksX0_readSides_4 19 rfl rfl)
theorem dX0_readSides_115 : decode cX0_readSides 115 = .ok (.ireturn, 1) := dk_172 (dk_at dksX0_readSides_4 22 rfl rfl)
abbrev cX0_passTerm : ByteArray := prog_1_method_35_code
def yX0_passTerm : MethodName := ⟨RX0, "passTerm", "()Z"⟩
def dkwX0_passTerm_3 : List UInt8 := [182, 0, 132, 153, 0, 7, 4, 167, 0, 4, 3, 172]
abbrev dktX0_passTerm_3 : List UInt8 := dkwX0_passTerm_3 ++ []
def dkwX0_passTerm_2 : List UInt8 := [42, 182, 0, 138, 154, 255, 211, 3, 172, 42, 180, 0, 39, 27, 163, 0, 15, 42, 4, 42, 180, 0, 39]
abbrev dktX0_passTerm_2 : List UInt8 := dkwX0_passTerm_2 ++ dktX0_passTerm_3
def dkwX0_passTerm_1 : List UInt8 := [160, 0, 33, 42, 180, 0, 39, 27, 100, 16, 32, 160, 0, 13, 42, 5, 42, 180, 0, 39, 182, 0, 132, 172]
abbrev dktX0_passTerm_1 : List UInt8 := dkwX0_passTerm_1 ++ dktX0_passTerm_2
def dkwX0_passTerm_0 : List UInt8 := [42, 180, 0, 39, 60, 42, 182, 0, 142, 154, 0, 16, 42, 180, 0, 108, 42, 180, 0, 39, 46, 4]
abbrev dktX0_passTerm_0 : List UInt8 := dkwX0_passTerm_0 ++ dktX0_passTerm_1
theorem dksX0_passTerm_0 : cX0_passTerm.data.toList.drop 0 = dktX0_passTerm_0 := by decide +kernel
theorem dksX0_passTerm_1 : cX0_passTerm.data.toList.drop 22 = dktX0_passTerm_1 := dk_seg dksX0_passTerm_0 22 rfl rfl
theorem dksX0_passTerm_2 : cX0_passTerm.data.toList.drop 46 = dktX0_passTerm_2 := dk_seg dksX0_passTerm_1 24 rfl rfl
theorem dksX0_passTerm_3 : cX0_passTerm.data.toList.drop 69 = dktX0_passTerm_3 := dk_seg dksX0_passTerm_2 23 rfl rfl
theorem dX0_passTerm_0 : decode cX0_passTerm 0 = .ok (.aload_n 0, 1) := dk_42 (dk_at dksX0_passTerm_0 0 rfl rfl)
theorem dX0_passTerm_1 : decode cX0_passTerm 1 = .ok (.getfield 39, 3) := dk_180 0 39 (dk_at dksX0_passTerm_0 1 rfl rfl)
theorem dX0_passTerm_4 : decode cX0_passTerm 4 = .ok (.istore_n 1, 1) := dk_60 (dk_at dksX0_passTerm_0 4 rfl rfl)
theorem dX0_passTerm_5 : decode cX0_passTerm 5 = .ok (.aload_n 0, 1) := dk_42 (dk_at dksX0_passTerm_0 5 rfl rfl)
theorem dX0_passTerm_6 : decode cX0_passTerm 6 = .ok (.invokevirtual 142, 3) := dk_182 0 142 (dk_at dksX0_passTerm_0 6 rfl rfl)
theorem dX0_passTerm_9 : decode cX0_passTerm 9 = .ok (.ifCond .ne 16, 3) := dk_154 0 16 (dk_at dksX0_passTerm_0 9 rfl rfl)
theorem dX0_passTerm_12 : decode cX0_passTerm 12 = .ok (.aload_n 0, 1) := dk_42 (dk_at dksX0_passTerm_0 12 rfl rfl)
theorem dX0_passTerm_13 : decode cX0_passTerm 13 = .ok (.getfield 108, 3) := dk_180 0 108 (dk_at dksX0_passTerm_0 13 rfl rfl)
theorem dX0_passTerm_16 : decode cX0_passTerm 16 = .ok (.aload_n 0, 1) := dk_42 (dk_at dksX0_passTerm_0 16 rfl rfl)
theorem dX0_passTerm_17 : decode cX0_passTerm 17 = .ok (.getfield 39, 3) := dk_180 0 39 (dk_at dksX0_passTerm_0 17 rfl rfl)
theorem dX0_passTerm_20 : decode cX0_passTerm 20 = .ok (.iaload, 1) := dk_46 (dk_at dksX0_passTerm_0 20 rfl rfl)
theorem dX0_passTerm_21 : decode cX0_passTerm 21 = .ok (.iconst 1, 1) := dk_4 (dk_at dksX0_passTerm_0 21 rfl rfl)
theorem dX0_passTerm_22 : decode cX0_passTerm 22 = .ok (.if_icmp .ne 33, 3) := dk_160 0 33 (dk_at dksX0_passTerm_1 0 rfl rfl)
theorem dX0_passTerm_25 : decode cX0_passTerm 25 = .ok (.aload_n 0, 1) := dk_42 (dk_at dksX0_passTerm_1 3 rfl rfl)
theorem dX0_passTerm_26 : decode cX0_passTerm 26 = .ok (.getfield 39, 3) := dk_180 0 39 (dk_at dksX0_passTerm_1 4 rfl rfl)
theorem dX0_passTerm_29 : decode cX0_passTerm 29 = .ok (.iload_n 1, 1) := dk_27 (dk_at dksX0_passTerm_1 7 rfl rfl)
theorem dX0_passTerm_30 : decode cX0_passTerm 30 = .ok (.isub, 1) := dk_100 (dk_at dksX0_passTerm_1 8 rfl rfl)
theorem dX0_passTerm_31 : decode cX0_passTerm 31 = .ok (.bipush 32, 2) := dk_16 32 (dk_at dksX0_passTerm_1 9 rfl rfl)
theorem dX0_passTerm_33 : decode cX0_passTerm 33 = .ok (.if_icmp .ne 13, 3) := dk_160 0 13 (dk_at dksX0_passTerm_1 11 rfl rfl)
theorem dX0_passTerm_36 : decode cX0_passTerm 36 = .ok (.aload_n 0, 1) := dk_42 (dk_at dksX0_passTerm_1 14 rfl rfl)
theorem dX0_passTerm_37 : decode cX0_passTerm 37 = .ok (.iconst 2, 1) := dk_5 (dk_at dksX0_passTerm_1 15 rfl rfl)
theorem dX0_passTerm_38 : decode cX0_passTerm 38 = .ok (.aload_n 0, 1) := dk_42 (dk_at dksX0_passTerm_1 16 rfl rfl)
theorem dX0_passTerm_39 : decode cX0_passTerm 39 = .ok (.getfield 39, 3) := dk_180 0 39 (dk_at dksX0_passTerm_1 17 rfl rfl)
theorem dX0_passTerm_42 : decode cX0_passTerm 42 = .ok (.invokevirtual 132, 3) := dk_182 0 132 (dk_at dksX0_passTerm_1 20 rfl rfl)
theorem dX0_passTerm_45 : decode cX0_passTerm 45 = .ok (.ireturn, 1) := dk_172 (dk_at dksX0_passTerm_1 23 rfl rfl)
theorem dX0_passTerm_46 : decode cX0_passTerm 46 = .ok (.aload_n 0, 1) := dk_42 (dk_at dksX0_passTerm_2 0 rfl rfl)
theorem dX0_passTerm_47 : decode cX0_passTerm 47 = .ok (.invokevirtual 138, 3) := dk_182 0 138 (dk_at dksX0_passTerm_2 1 rfl rfl)
theorem dX0_passTerm_50 : decode cX0_passTerm 50 = .ok (.ifCond .ne (-45), 3) := dk_154 255 211 (dk_at dksX0_passTerm_2 4 rfl rfl)
theorem dX0_passTerm_53 : decode cX0_passTerm 53 = .ok (.iconst 0, 1) := dk_3 (dk_at dksX0_passTerm_2 7 rfl rfl)
theorem dX0_passTerm_54 : decode cX0_passTerm 54 = .ok (.ireturn, 1) := dk_172 (dk_at dksX0_passTerm_2 8 rfl rfl)
theorem dX0_passTerm_55 : decode cX0_passTerm 55 = .ok (.aload_n 0, 1) := dk_42 (dk_at dksX0_passTerm_2 9 rfl rfl)
theorem dX0_passTerm_56 : decode cX0_passTerm 56 = .ok (.getfield 39, 3) := dk_180 0 39 (dk_at dksX0_passTerm_2 10 rfl rfl)
theorem dX0_passTerm_59 : decode cX0_passTerm 59 = .ok (.iload_n 1, 1) := dk_27 (dk_at dksX0_passTerm_2 13 rfl rfl)
theorem dX0_passTerm_60 : decode cX0_passTerm 60 = .ok (.if_icmp .gt 15, 3) := dk_163 0 15 (dk_at dksX0_passTerm_2 14 rfl rfl)
theorem dX0_passTerm_63 : decode cX0_passTerm 63 = .ok (.aload_n 0, 1) := dk_42 (dk_at dksX0_passTerm_2 17 rfl rfl)
theorem dX0_passTerm_64 : decode cX0_passTerm 64 = .ok (.iconst 1, 1) := dk_4 (dk_at dksX0_passTerm_2 18 rfl rfl)
theorem dX0_passTerm_65 : decode cX0_passTerm 65 = .ok (.aload_n 0, 1) := dk_42 (dk_at dksX0_passTerm_2 19 rfl rfl)
theorem dX0_passTerm_66 : decode cX0_passTerm 66 = .ok (.getfield 39, 3) := dk_180 0 39 (dk_at dksX0_passTerm_2 20 rfl rfl)
theorem dX0_passTerm_69 : decode cX0_passTerm 69 = .ok (.invokevirtual 132, 3) := dk_182 0 132 (dk_at dksX0_passTerm_3 0 rfl rfl)
theorem dX0_passTerm_72 : decode cX0_passTerm 72 = .ok (.ifCond .eq 7, 3) := dk_153 0 7 (dk_at dksX0_passTerm_3 3 rfl rfl)
theorem dX0_passTerm_75 : decode cX0_passTerm 75 = .ok (.iconst 1, 1) := dk_4 (dk_at dksX0_passTerm_3 6 rfl rfl)
theorem dX0_passTerm_76 : decode cX0_passTerm 76 = .ok (.goto 4, 3) := dk_167 0 4 (dk_at dksX0_passTerm_3 7 rfl rfl)
theorem dX0_passTerm_79 : decode cX0_passTerm 79 = .ok (.iconst 0, 1) := dk_3 (dk_at dksX0_passTerm_3 10 rfl rfl)
theorem dX0_passTerm_80 : decode cX0_passTerm 80 = .ok (.ireturn, 1) := dk_172 (dk_at dksX0_passTerm_3 11 rfl rfl)
abbrev cX0_readCondition : ByteArray := prog_1_method_39_code
def yX0_readCondition : MethodName := ⟨RX0, "readCondition", "(I)Z"⟩
def dkwX0_readCondition_9 : List UInt8 := [180, 1, 100, 27, 92, 46, 4, 96, 79, 4, 172]
abbrev dktX0_readCondition_9 : List UInt8 := dkwX0_readCondition_9 ++ []
def dkwX0_readCondition_8 : List UInt8 := [167, 0, 10, 42, 182, 1, 106, 154, 0, 5, 3, 172, 42, 180, 1, 133, 28, 42, 180, 0, 39, 79, 42]
abbrev dktX0_readCondition_8 : List UInt8 := dkwX0_readCondition_8 ++ dktX0_readCondition_9
def dkwX0_readCondition_7 : List UInt8 := [42, 180, 0, 39, 79, 42, 180, 1, 127, 28, 46, 5, 160, 0, 13, 42, 182, 0, 252, 154, 0, 15]
abbrev dktX0_readCondition_7 : List UInt8 := dkwX0_readCondition_7 ++ dktX0_readCondition_8
def dkwX0_readCondition_6 : List UInt8 := [42, 4, 42, 180, 0, 39, 182, 0, 132, 172, 42, 182, 0, 138, 154, 0, 5, 3, 172, 42, 180, 1, 130, 28]
abbrev dktX0_readCondition_6 : List UInt8 := dkwX0_readCondition_6 ++ dktX0_readCondition_7
def dkwX0_readCondition_5 : List UInt8 := [182, 0, 135, 153, 0, 7, 5, 167, 0, 5, 16, 254, 79, 42, 180, 1, 127, 28, 46, 16, 254, 160, 0, 13]
abbrev dktX0_readCondition_5 : List UInt8 := dkwX0_readCondition_5 ++ dktX0_readCondition_6
def dkwX0_readCondition_4 : List UInt8 := [182, 0, 135, 153, 0, 7, 3, 167, 0, 29, 42, 8, 182, 0, 135, 153, 0, 7, 4, 167, 0, 17, 42, 4]
abbrev dktX0_readCondition_4 : List UInt8 := dkwX0_readCondition_4 ++ dktX0_readCondition_5
def dkwX0_readCondition_3 : List UInt8 := [154, 0, 5, 3, 172, 42, 180, 1, 124, 28, 42, 180, 0, 39, 79, 42, 180, 1, 127, 28, 42, 6]
abbrev dktX0_readCondition_3 : List UInt8 := dkwX0_readCondition_3 ++ dktX0_readCondition_4
def dkwX0_readCondition_2 : List UInt8 := [180, 1, 100, 27, 46, 16, 6, 112, 96, 61, 42, 180, 1, 121, 28, 42, 180, 0, 39, 79, 42, 182, 1, 106]
abbrev dktX0_readCondition_2 : List UInt8 := dkwX0_readCondition_2 ++ dktX0_readCondition_3
def dkwX0_readCondition_1 : List UInt8 := [180, 0, 39, 46, 4, 160, 0, 13, 42, 5, 42, 180, 0, 39, 182, 0, 132, 172, 16, 6, 27, 104, 42]
abbrev dktX0_readCondition_1 : List UInt8 := dkwX0_readCondition_1 ++ dktX0_readCondition_2
def dkwX0_readCondition_0 : List UInt8 := [42, 180, 1, 100, 27, 46, 16, 6, 160, 0, 33, 42, 182, 0, 142, 154, 0, 16, 42, 180, 0, 108, 42]
abbrev dktX0_readCondition_0 : List UInt8 := dkwX0_readCondition_0 ++ dktX0_readCondition_1
theorem dksX0_readCondition_0 : cX0_readCondition.data.toList.drop 0 = dktX0_readCondition_0 := by decide +kernel
theorem dksX0_readCondition_1 : cX0_readCondition.data.toList.drop 23 = dktX0_readCondition_1 := dk_seg dksX0_readCondition_0 23 rfl rfl
theorem dksX0_readCondition_2 : cX0_readCondition.data.toList.drop 46 = dktX0_readCondition_2 := dk_seg dksX0_readCondition_1 23 rfl rfl
theorem dksX0_readCondition_3 : cX0_readCondition.data.toList.drop 70 = dktX0_readCondition_3 := dk_seg dksX0_readCondition_2 24 rfl rfl
theorem dksX0_readCondition_4 : cX0_readCondition.data.toList.drop 92 = dktX0_readCondition_4 := dk_seg dksX0_readCondition_3 22 rfl rfl
theorem dksX0_readCondition_5 : cX0_readCondition.data.toList.drop 116 = dktX0_readCondition_5 := dk_seg dksX0_readCondition_4 24 rfl rfl
theorem dksX0_readCondition_6 : cX0_readCondition.data.toList.drop 140 = dktX0_readCondition_6 := dk_seg dksX0_readCondition_5 24 rfl rfl
theorem dksX0_readCondition_7 : cX0_readCondition.data.toList.drop 164 = dktX0_readCondition_7 := dk_seg dksX0_readCondition_6 24 rfl rfl
theorem dksX0_readCondition_8 : cX0_readCondition.data.toList.drop 186 = dktX0_readCondition_8 := dk_seg dksX0_readCondition_7 22 rfl rfl
theorem dksX0_readCondition_9 : cX0_readCondition.data.toList.drop 209 = dktX0_readCondition_9 := dk_seg dksX0_readCondition_8 23 rfl rfl
theorem dX0_readCondition_0 : decode cX0_readCondition 0 = .ok (.aload_n 0, 1) := dk_42 (dk_at dksX0_readCondition_0 0 rfl rfl)
theorem dX0_readCondition_1 : decode cX0_readCondition 1 = .ok (.getfield 356, 3) := dk_180 1 100 (dk_at dksX0_readCondition_0 1 rfl rfl)
theorem dX0_readCondition_4 : decode cX0_readCondition 4 = .ok (.iload_n 1, 1) := dk_27 (dk_at dksX0_readCondition_0 4 rfl rfl)
theorem dX0_readCondition_5 : decode cX0_readCondition 5 = .ok (.iaload, 1) := dk_46 (dk_at dksX0_readCondition_0 5 rfl rfl)
theorem dX0_readCondition_6 : decode cX0_readCondition 6 = .ok (.bipush 6, 2) := dk_16 6 (dk_at dksX0_readCondition_0 6 rfl rfl)
theorem dX0_readCondition_8 : decode cX0_readCondition 8 = .ok (.if_icmp .ne 33, 3) := dk_160 0 33 (dk_at dksX0_readCondition_0 8 rfl rfl)
theorem dX0_readCondition_11 : decode cX0_readCondition 11 = .ok (.aload_n 0, 1) := dk_42 (dk_at dksX0_readCondition_0 11 rfl rfl)
theorem dX0_readCondition_12 : decode cX0_readCondition 12 = .ok (.invokevirtual 142, 3) := dk_182 0 142 (dk_at dksX0_readCondition_0 12 rfl rfl)
theorem dX0_readCondition_15 : decode cX0_readCondition 15 = .ok (.ifCond .ne 16, 3) := dk_154 0 16 (dk_at dksX0_readCondition_0 15 rfl rfl)
theorem dX0_readCondition_18 : decode cX0_readCondition 18 = .ok (.aload_n 0, 1) := dk_42 (dk_at dksX0_readCondition_0 18 rfl rfl)
theorem dX0_readCondition_19 : decode cX0_readCondition 19 = .ok (.getfield 108, 3) := dk_180 0 108 (dk_at dksX0_readCondition_0 19 rfl rfl)
theorem dX0_readCondition_22 : decode cX0_readCondition 22 = .ok (.aload_n 0, 1) := dk_42 (dk_at dksX0_readCondition_0 22 rfl rfl)
theorem dX0_readCondition_23 : decode cX0_readCondition 23 = .ok (.getfield 39, 3) := dk_180 0 39 (dk_at dksX0_readCondition_1 0 rfl rfl)
theorem dX0_readCondition_26 : decode cX0_readCondition 26 = .ok (.iaload, 1) := dk_46 (dk_at dksX0_readCondition_1 3 rfl rfl)
theorem dX0_readCondition_27 : decode cX0_readCondition 27 = .ok (.iconst 1, 1) := dk_4 (dk_at dksX0_readCondition_1 4 rfl rfl)
theorem dX0_readCondition_28 : decode cX0_readCondition 28 = .ok (.if_icmp .ne 13, 3) := dk_160 0 13 (dk_at dksX0_readCondition_1 5 rfl rfl)
theorem dX0_readCondition_31 : decode cX0_readCondition 31 = .ok (.aload_n 0, 1) := dk_42 (dk_at dksX0_readCondition_1 8 rfl rfl)
theorem dX0_readCondition_32 : decode cX0_readCondition 32 = .ok (.iconst 2, 1) := dk_5 (dk_at dksX0_readCondition_1 9 rfl rfl)
theorem dX0_readCondition_33 : decode cX0_readCondition 33 = .ok (.aload_n 0, 1) := dk_42 (dk_at dksX0_readCondition_1 10 rfl rfl)
theorem dX0_readCondition_34 : decode cX0_readCondition 34 = .ok (.getfield 39, 3) := dk_180 0 39 (dk_at dksX0_readCondition_1 11 rfl rfl)
theorem dX0_readCondition_37 : decode cX0_readCondition 37 = .ok (.invokevirtual 132, 3) := dk_182 0 132 (dk_at dksX0_readCondition_1 14 rfl rfl)
theorem dX0_readCondition_40 : decode cX0_readCondition 40 = .ok (.ireturn, 1) := dk_172 (dk_at dksX0_readCondition_1 17 rfl rfl)
theorem dX0_readCondition_41 : decode cX0_readCondition 41 = .ok (.bipush 6, 2) := dk_16 6 (dk_at dksX0_readCondition_1 18 rfl rfl)
theorem dX0_readCondition_43 : decode cX0_readCondition 43 = .ok (.iload_n 1, 1) := dk_27 (dk_at dksX0_readCondition_1 20 rfl rfl)
theorem dX0_readCondition_44 : decode cX0_readCondition 44 = .ok (.imul, 1) := dk_104 (dk_at dksX0_readCondition_1 21 rfl rfl)
theorem dX0_readCondition_45 : decode cX0_readCondition 45 = .ok (.aload_n 0, 1) := dk_42 (dk_at dksX0_readCondition_1 22 rfl rfl)
theorem dX0_readCondition_46 : decode cX0_readCondition 46 = .ok (.getfield 356, 3) := dk_180 1 100 (dk_at dksX0_readCondition_2 0 rfl rfl)
theorem dX0_readCondition_49 : decode cX0_readCondition 49 = .ok (.iload_n 1, 1) := dk_27 (dk_at dksX0_readCondition_2 3 rfl rfl)
theorem dX0_readCondition_50 : decode cX0_readCondition 50 = .ok (.iaload, 1) := dk_46 (dk_at dksX0_readCondition_2 4 rfl rfl)
theorem dX0_readCondition_51 : decode cX0_readCondition 51 = .ok (.bipush 6, 2) := dk_16 6 (dk_at dksX0_readCondition_2 5 rfl rfl)
theorem dX0_readCondition_53 : decode cX0_readCondition 53 = .ok (.irem, 1) := dk_112 (dk_at dksX0_readCondition_2 7 rfl rfl)
theorem dX0_readCondition_54 : decode cX0_readCondition 54 = .ok (.iadd, 1) := dk_96 (dk_at dksX0_readCondition_2 8 rfl rfl)
theorem dX0_readCondition_55 : decode cX0_readCondition 55 = .ok (.istore_n 2, 1) := dk_61 (dk_at dksX0_readCondition_2 9 rfl rfl)
theorem dX0_readCondition_56 : decode cX0_readCondition 56 = .ok (.aload_n 0, 1) := dk_42 (dk_at dksX0_readCondition_2 10 rfl rfl)
theorem dX0_readCondition_57 : decode cX0_readCondition 57 = .ok (.getfield 377, 3) := dk_180 1 121 (dk_at dksX0_readCondition_2 11 rfl rfl)
theorem dX0_readCondition_60 : decode cX0_readCondition 60 = .ok (.iload_n 2, 1) := dk_28 (dk_at dksX0_readCondition_2 14 rfl rfl)
theorem dX0_readCondition_61 : decode cX0_readCondition 61 = .ok (.aload_n 0, 1) := dk_42 (dk_at dksX0_readCondition_2 15 rfl rfl)
theorem dX0_readCondition_62 : decode cX0_readCondition 62 = .ok (.getfield 39, 3) := dk_180 0 39 (dk_at dksX0_readCondition_2 16 rfl rfl)
theorem dX0_readCondition_65 : decode cX0_readCondition 65 = .ok (.iastore, 1) := dk_79 (dk_at dksX0_readCondition_2 19 rfl rfl)
theorem dX0_readCondition_66 : decode cX0_readCondition 66 = .ok (.aload_n 0, 1) := dk_42 (dk_at dksX0_readCondition_2 20 rfl rfl)
theorem dX0_readCondition_67 : decode cX0_readCondition 67 = .ok (.invokevirtual 362, 3) := dk_182 1 106 (dk_at dksX0_readCondition_2 21 rfl rfl)
theorem dX0_readCondition_70 : decode cX0_readCondition 70 = .ok (.ifCond .ne 5, 3) := dk_154 0 5 (dk_at dksX0_readCondition_3 0 rfl rfl)
theorem dX0_readCondition_73 : decode cX0_readCondition 73 = .ok (.iconst 0, 1) := dk_3 (dk_at dksX0_readCondition_3 3 rfl rfl)
theorem dX0_readCondition_74 : decode cX0_readCondition 74 = .ok (.ireturn, 1) := dk_172 (dk_at dksX0_readCondition_3 4 rfl rfl)
theorem dX0_readCondition_75 : decode cX0_readCondition 75 = .ok (.aload_n 0, 1) := dk_42 (dk_at dksX0_readCondition_3 5 rfl rfl)
theorem dX0_readCondition_76 : decode cX0_readCondition 76 = .ok (.getfield 380, 3) := dk_180 1 124 (dk_at dksX0_readCondition_3 6 rfl rfl)
theorem dX0_readCondition_79 : decode cX0_readCondition 79 = .ok (.iload_n 2, 1) := dk_28 (dk_at dksX0_readCondition_3 9 rfl rfl)
theorem dX0_readCondition_80 : decode cX0_readCondition 80 = .ok (.aload_n 0, 1) := dk_42 (dk_at dksX0_readCondition_3 10 rfl rfl)
theorem dX0_readCondition_81 : decode cX0_readCondition 81 = .ok (.getfield 39, 3) := dk_180 0 39 (dk_at dksX0_readCondition_3 11 rfl rfl)
theorem dX0_readCondition_84 : decode cX0_readCondition 84 = .ok (.iastore, 1) := dk_79 (dk_at dksX0_readCondition_3 14 rfl rfl)
theorem dX0_readCondition_85 : decode cX0_readCondition 85 = .ok (.aload_n 0, 1) := dk_42 (dk_at dksX0_readCondition_3 15 rfl rfl)
theorem dX0_readCondition_86 : decode cX0_readCondition 86 = .ok (.getfield 383, 3) := dk_180 1 127 (dk_at dksX0_readCondition_3 16 rfl rfl)
theorem dX0_readCondition_89 : decode cX0_readCondition 89 = .ok (.iload_n 2, 1) := dk_28 (dk_at dksX0_readCondition_3 19 rfl rfl)
theorem dX0_readCondition_90 : decode cX0_readCondition 90 = .ok (.aload_n 0, 1) := dk_42 (dk_at dksX0_readCondition_3 20 rfl rfl)
theorem dX0_readCondition_91 : decode cX0_readCondition 91 = .ok (.iconst 3, 1) := dk_6 (dk_at dksX0_readCondition_3 21 rfl rfl)
theorem dX0_readCondition_92 : decode cX0_readCondition 92 = .ok (.invokevirtual 135, 3) := dk_182 0 135 (dk_at dksX0_readCondition_4 0 rfl rfl)
theorem dX0_readCondition_95 : decode cX0_readCondition 95 = .ok (.ifCond .eq 7, 3) := dk_153 0 7 (dk_at dksX0_readCondition_4 3 rfl rfl)
theorem dX0_readCondition_98 : decode cX0_readCondition 98 = .ok (.iconst 0, 1) := dk_3 (dk_at dksX0_readCondition_4 6 rfl rfl)
theorem dX0_readCondition_99 : decode cX0_readCondition 99 = .ok (.goto 29, 3) := dk_167 0 29 (dk_at dksX0_readCondition_4 7 rfl rfl)
theorem dX0_readCondition_102 : decode cX0_readCondition 102 = .ok (.aload_n 0, 1) := dk_42 (dk_at dksX0_readCondition_4 10 rfl rfl)
theorem dX0_readCondition_103 : decode cX0_readCondition 103 = .ok (.iconst 5, 1) := dk_8 (dk_at dksX0_readCondition_4 11 rfl rfl)
theorem dX0_readCondition_104 : decode cX0_readCondition 104 = .ok (.invokevirtual 135, 3) := dk_182 0 135 (dk_at dksX0_readCondition_4 12 rfl rfl)
theorem dX0_readCondition_107 : decode cX0_readCondition 107 = .ok (.ifCond .eq 7, 3) := dk_153 0 7 (dk_at dksX0_readCondition_4 15 rfl rfl)
theorem dX0_readCondition_110 : decode cX0_readCondition 110 = .ok (.iconst 1, 1) := dk_4 (dk_at dksX0_readCondition_4 18 rfl rfl)
theorem dX0_readCondition_111 : decode cX0_readCondition 111 = .ok (.goto 17, 3) := dk_167 0 17 (dk_at dksX0_readCondition_4 19 rfl rfl)
theorem dX0_readCondition_114 : decode cX0_readCondition 114 = .ok (.aload_n 0, 1) := dk_42 (dk_at dksX0_readCondition_4 22 rfl rfl)
theorem dX0_readCondition_115 : decode cX0_readCondition 115 = .ok (.iconst 1, 1) := dk_4 (dk_at dksX0_readCondition_4 23 rfl rfl)
theorem dX0_readCondition_116 : decode cX0_readCondition 116 = .ok (.invokevirtual 135, 3) := dk_182 0 135 (dk_at dksX0_readCondition_5 0 rfl rfl)
theorem dX0_readCondition_119 : decode cX0_readCondition 119 = .ok (.ifCond .eq 7, 3) := dk_153 0 7 (dk_at dksX0_readCondition_5 3 rfl rfl)
theorem dX0_readCondition_122 : decode cX0_readCondition 122 = .ok (.iconst 2, 1) := dk_5 (dk_at dksX0_readCondition_5 6 rfl rfl)
theorem dX0_readCondition_123 : decode cX0_readCondition 123 = .ok (.goto 5, 3) := dk_167 0 5 (dk_at dksX0_readCondition_5 7 rfl rfl)
theorem dX0_readCondition_126 : decode cX0_readCondition 126 = .ok (.bipush (-2), 2) := dk_16 254 (dk_at dksX0_readCondition_5 10 rfl rfl)
theorem dX0_readCondition_128 : decode cX0_readCondition 128 = .ok (.iastore, 1) := dk_79 (dk_at dksX0_readCondition_5 12 rfl rfl)
theorem dX0_readCondition_129 : decode cX0_readCondition 129 = .ok (.aload_n 0, 1) := dk_42 (dk_at dksX0_readCondition_5 13 rfl rfl)
theorem dX0_readCondition_130 : decode cX0_readCondition 130 = .ok (.getfield 383, 3) := dk_180 1 127 (dk_at dksX0_readCondition_5 14 rfl rfl)
theorem dX0_readCondition_133 : decode cX0_readCondition 133 = .ok (.iload_n 2, 1) := dk_28 (dk_at dksX0_readCondition_5 17 rfl rfl)
theorem dX0_readCondition_134 : decode cX0_readCondition 134 = .ok (.iaload, 1) := dk_46 (dk_at dksX0_readCondition_5 18 rfl rfl)
theorem dX0_readCondition_135 : decode cX0_readCondition 135 = .ok (.bipush (-2), 2) := dk_16 254 (dk_at dksX0_readCondition_5 19 rfl rfl)
theorem dX0_readCondition_137 : decode cX0_readCondition 137 = .ok (.if_icmp .ne 13, 3) := dk_160 0 13 (dk_at dksX0_readCondition_5 21 rfl rfl)
theorem dX0_readCondition_140 : decode cX0_readCondition 140 = .ok (.aload_n 0, 1) := dk_42 (dk_at dksX0_readCondition_6 0 rfl rfl)
theorem dX0_readCondition_141 : decode cX0_readCondition 141 = .ok (.iconst 1, 1) := dk_4 (dk_at dksX0_readCondition_6 1 rfl rfl)
theorem dX0_readCondition_142 : decode cX0_readCondition 142 = .ok (.aload_n 0, 1) := dk_42 (dk_at dksX0_readCondition_6 2 rfl rfl)
theorem dX0_readCondition_143 : decode cX0_readCondition 143 = .ok (.getfield 39, 3) := dk_180 0 39 (dk_at dksX0_readCondition_6 3 rfl rfl)
theorem dX0_readCondition_146 : decode cX0_readCondition 146 = .ok (.invokevirtual 132, 3) := dk_182 0 132 (dk_at dksX0_readCondition_6 6 rfl rfl)
theorem dX0_readCondition_149 : decode cX0_readCondition 149 = .ok (.ireturn, 1) := dk_172 (dk_at dksX0_readCondition_6 9 rfl rfl)
theorem dX0_readCondition_150 : decode cX0_readCondition 150 = .ok (.aload_n 0, 1) := dk_42 (dk_at dksX0_readCondition_6 10 rfl rfl)
theorem dX0_readCondition_151 : decode cX0_readCondition 151 = .ok (.invokevirtual 138, 3) := dk_182 0 138 (dk_at dksX0_readCondition_6 11 rfl rfl)
theorem dX0_readCondition_154 : decode cX0_readCondition 154 = .ok (.ifCond .ne 5, 3) := dk_154 0 5 (dk_at dksX0_readCondition_6 14 rfl rfl)
theorem dX0_readCondition_157 : decode cX0_readCondition 157 = .ok (.iconst 0, 1) := dk_3 (dk_at dksX0_readCondition_6 17 rfl rfl)
theorem dX0_readCondition_158 : decode cX0_readCondition 158 = .ok (.ireturn, 1) := dk_172 (dk_at dksX0_readCondition_6 18 rfl rfl)
theorem dX0_readCondition_159 : decode cX0_readCondition 159 = .ok (.aload_n 0, 1) := dk_42 (dk_at dksX0_readCondition_6 19 rfl rfl)
theorem dX0_readCondition_160 : decode cX0_readCondition 160 = .ok (.getfield 386, 3) := dk_180 1 130 (dk_at dksX0_readCondition_6 20 rfl rfl)
theorem dX0_readCondition_163 : decode cX0_readCondition 163 = .ok (.iload_n 2, 1) := dk_28 (dk_at dksX0_readCondition_6 23 rfl rfl)
theorem dX0_readCondition_164 : decode cX0_readCondition 164 = .ok (.aload_n 0, 1) := dk_42 (dk_at dksX0_readCondition_7 0 rfl rfl)
theorem dX0_readCondition_165 : decode cX0_readCondition 165 = .ok (.getfield 39, 3) := dk_180 0 39 (dk_at dksX0_readCondition_7 1 rfl rfl)
theorem dX0_readCondition_168 : decode cX0_readCondition 168 = .ok (.iastore, 1) := dk_79 (dk_at dksX0_readCondition_7 4 rfl rfl)
theorem dX0_readCondition_169 : decode cX0_readCondition 169 = .ok (.aload_n 0, 1) := dk_42 (dk_at dksX0_readCondition_7 5 rfl rfl)
theorem dX0_readCondition_170 : decode cX0_readCondition 170 = .ok (.getfield 383, 3) := dk_180 1 127 (dk_at dksX0_readCondition_7 6 rfl rfl)
theorem dX0_readCondition_173 : decode cX0_readCondition 173 = .ok (.iload_n 2, 1) := dk_28 (dk_at dksX0_readCondition_7 9 rfl rfl)
theorem dX0_readCondition_174 : decode cX0_readCondition 174 = .ok (.iaload, 1) := dk_46 (dk_at dksX0_readCondition_7 10 rfl rfl)
theorem dX0_readCondition_175 : decode cX0_readCondition 175 = .ok (.iconst 2, 1) := dk_5 (dk_at dksX0_readCondition_7 11 rfl rfl)
theorem dX0_readCondition_176 : decode cX0_readCondition 176 = .ok (.if_icmp .ne 13, 3) := dk_160 0 13 (dk_at dksX0_readCondition_7 12 rfl rfl)
theorem dX0_readCondition_179 : decode cX0_readCondition 179 = .ok (.aload_n 0, 1) := dk_42 (dk_at dksX0_readCondition_7 15 rfl rfl)
theorem dX0_readCondition_180 : decode cX0_readCondition 180 = .ok (.invokevirtual 252, 3) := dk_182 0 252 (dk_at dksX0_readCondition_7 16 rfl rfl)
theorem dX0_readCondition_183 : decode cX0_readCondition 183 = .ok (.ifCond .ne 15, 3) := dk_154 0 15 (dk_at dksX0_readCondition_7 19 rfl rfl)
theorem dX0_readCondition_186 : decode cX0_readCondition 186 = .ok (.goto 10, 3) := dk_167 0 10 (dk_at dksX0_readCondition_8 0 rfl rfl)
theorem dX0_readCondition_189 : decode cX0_readCondition 189 = .ok (.aload_n 0, 1) := dk_42 (dk_at dksX0_readCondition_8 3 rfl rfl)
theorem dX0_readCondition_190 : decode cX0_readCondition 190 = .ok (.invokevirtual 362, 3) := dk_182 1 106 (dk_at dksX0_readCondition_8 4 rfl rfl)
theorem dX0_readCondition_193 : decode cX0_readCondition 193 = .ok (.ifCond .ne 5, 3) := dk_154 0 5 (dk_at dksX0_readCondition_8 7 rfl rfl)
theorem dX0_readCondition_196 : decode cX0_readCondition 196 = .ok (.iconst 0, 1) := dk_3 (dk_at dksX0_readCondition_8 10 rfl rfl)
theorem dX0_readCondition_197 : decode cX0_readCondition 197 = .ok (.ireturn, 1) := dk_172 (dk_at dksX0_readCondition_8 11 rfl rfl)
theorem dX0_readCondition_198 : decode cX0_readCondition 198 = .ok (.aload_n 0, 1) := dk_42 (dk_at dksX0_readCondition_8 12 rfl rfl)
theorem dX0_readCondition_199 : decode cX0_readCondition 199 = .ok (.getfield 389, 3) := dk_180 1 133 (dk_at dksX0_readCondition_8 13 rfl rfl)
theorem dX0_readCondition_202 : decode cX0_readCondition 202 = .ok (.iload_n 2, 1) := dk_28 (dk_at dksX0_readCondition_8 16 rfl rfl)
theorem dX0_readCondition_203 : decode cX0_readCondition 203 = .ok (.aload_n 0, 1) := dk_42 (dk_at dksX0_readCondition_8 17 rfl rfl)
theorem dX0_readCondition_204 : decode cX0_readCondition 204 = .ok (.getfield 39, 3) := dk_180 0 39 (dk_at dksX0_readCondition_8 18 rfl rfl)
theorem dX0_readCondition_207 : decode cX0_readCondition 207 = .ok (.iastore, 1) := dk_79 (dk_at dksX0_readCondition_8 21 rfl rfl)
theorem dX0_readCondition_208 : decode cX0_readCondition 208 = .ok (.aload_n 0, 1) := dk_42 (dk_at dksX0_readCondition_8 22 rfl rfl)
theorem dX0_readCondition_209 : decode cX0_readCondition 209 = .ok (.getfield 356, 3) := dk_180 1 100 (dk_at dksX0_readCondition_9 0 rfl rfl)
theorem dX0_readCondition_212 : decode cX0_readCondition 212 = .ok (.iload_n 1, 1) := dk_27 (dk_at dksX0_readCondition_9 3 rfl rfl)
theorem dX0_readCondition_213 : decode cX0_readCondition 213 = .ok (.dup2, 1) := dk_92 (dk_at dksX0_readCondition_9 4 rfl rfl)
theorem dX0_readCondition_214 : decode cX0_readCondition 214 = .ok (.iaload, 1) := dk_46 (dk_at dksX0_readCondition_9 5 rfl rfl)
theorem dX0_readCondition_215 : decode cX0_readCondition 215 = .ok (.iconst 1, 1) := dk_4 (dk_at dksX0_readCondition_9 6 rfl rfl)
theorem dX0_readCondition_216 : decode cX0_readCondition 216 = .ok (.iadd, 1) := dk_96 (dk_at dksX0_readCondition_9 7 rfl rfl)
theorem dX0_readCondition_217 : decode cX0_readCondition 217 = .ok (.iastore, 1) := dk_79 (dk_at dksX0_readCondition_9 8 rfl rfl)
theorem dX0_readCondition_218 : decode cX0_readCondition 218 = .ok (.iconst 1, 1) := dk_4 (dk_at dksX0_readCondition_9 9 rfl rfl)
theorem dX0_readCondition_219 : decode cX0_readCondition 219 = .ok (.ireturn, 1) := dk_172 (dk_at dksX0_readCondition_9 10 rfl rfl)
abbrev cX0_readRule : ByteArray := prog_1_method_37_code
def yX0_readRule : MethodName := ⟨RX0, "readRule", "()Z"⟩
def dkwX0_readRule_4 : List UInt8 := [79, 42, 27, 7, 182, 1, 97, 172]
abbrev dktX0_readRule_4 : List UInt8 := dkwX0_readRule_4 ++ []
def dkwX0_readRule_3 : List UInt8 := [180, 0, 160, 4, 96, 181, 0, 160, 42, 180, 1, 94, 42, 89, 180, 0, 163, 90, 4, 96, 181, 0, 163, 27]
abbrev dktX0_readRule_3 : List UInt8 := dkwX0_readRule_3 ++ dktX0_readRule_4
def dkwX0_readRule_2 : List UInt8 := [180, 0, 39, 46, 79, 42, 182, 0, 252, 153, 0, 11, 42, 4, 182, 1, 2, 154, 0, 5, 3, 172, 42, 89]
abbrev dktX0_readRule_2 : List UInt8 := dkwX0_readRule_2 ++ dktX0_readRule_3
def dkwX0_readRule_1 : List UInt8 := [180, 0, 160, 96, 60, 42, 182, 0, 138, 154, 0, 5, 3, 172, 42, 180, 1, 91, 27, 42, 180, 0, 117, 42]
abbrev dktX0_readRule_1 : List UInt8 := dkwX0_readRule_1 ++ dktX0_readRule_2
def dkwX0_readRule_0 : List UInt8 := [42, 180, 0, 160, 16, 30, 160, 0, 13, 42, 5, 42, 180, 0, 39, 182, 0, 132, 172, 16, 40, 42]
abbrev dktX0_readRule_0 : List UInt8 := dkwX0_readRule_0 ++ dktX0_readRule_1
theorem dksX0_readRule_0 : cX0_readRule.data.toList.drop 0 = dktX0_readRule_0 := by decide +kernel
theorem dksX0_readRule_1 : cX0_readRule.data.toList.drop 22 = dktX0_readRule_1 := dk_seg dksX0_readRule_0 22 rfl rfl
theorem dksX0_readRule_2 : cX0_readRule.data.toList.drop 46 = dktX0_readRule_2 := dk_seg dksX0_readRule_1 24 rfl rfl
theorem dksX0_readRule_3 : cX0_readRule.data.toList.drop 70 = dktX0_readRule_3 := dk_seg dksX0_readRule_2 24 rfl rfl
theorem dksX0_readRule_4 : cX0_readRule.data.toList.drop 94 = dktX0_readRule_4 := dk_seg dksX0_readRule_3 24 rfl rfl
theorem dX0_readRule_0 : decode cX0_readRule 0 = .ok (.aload_n 0, 1) := dk_42 (dk_at dksX0_readRule_0 0 rfl rfl)
theorem dX0_readRule_1 : decode cX0_readRule 1 = .ok (.getfield 160, 3) := dk_180 0 160 (dk_at dksX0_readRule_0 1 rfl rfl)
theorem dX0_readRule_4 : decode cX0_readRule 4 = .ok (.bipush 30, 2) := dk_16 30 (dk_at dksX0_readRule_0 4 rfl rfl)
theorem dX0_readRule_6 : decode cX0_readRule 6 = .ok (.if_icmp .ne 13, 3) := dk_160 0 13 (dk_at dksX0_readRule_0 6 rfl rfl)
theorem dX0_readRule_9 : decode cX0_readRule 9 = .ok (.aload_n 0, 1) := dk_42 (dk_at dksX0_readRule_0 9 rfl rfl)
theorem dX0_readRule_10 : decode cX0_readRule 10 = .ok (.iconst 2, 1) := dk_5 (dk_at dksX0_readRule_0 10 rfl rfl)
theorem dX0_readRule_11 : decode cX0_readRule 11 = .ok (.aload_n 0, 1) := dk_42 (dk_at dksX0_readRule_0 11 rfl rfl)
theorem dX0_readRule_12 : decode cX0_readRule 12 = .ok (.getfield 39, 3) := dk_180 0 39 (dk_at dksX0_readRule_0 12 rfl rfl)
theorem dX0_readRule_15 : decode cX0_readRule 15 = .ok (.invokevirtual 132, 3) := dk_182 0 132 (dk_at dksX0_readRule_0 15 rfl rfl)
theorem dX0_readRule_18 : decode cX0_readRule 18 = .ok (.ireturn, 1) := dk_172 (dk_at dksX0_readRule_0 18 rfl rfl)
theorem dX0_readRule_19 : decode cX0_readRule 19 = .ok (.bipush 40, 2) := dk_16 40 (dk_at dksX0_readRule_0 19 rfl rfl)
theorem dX0_readRule_21 : decode cX0_readRule 21 = .ok (.aload_n 0, 1) := dk_42 (dk_at dksX0_readRule_0 21 rfl rfl)
theorem dX0_readRule_22 : decode cX0_readRule 22 = .ok (.getfield 160, 3) := dk_180 0 160 (dk_at dksX0_readRule_1 0 rfl rfl)
theorem dX0_readRule_25 : decode cX0_readRule 25 = .ok (.iadd, 1) := dk_96 (dk_at dksX0_readRule_1 3 rfl rfl)
theorem dX0_readRule_26 : decode cX0_readRule 26 = .ok (.istore_n 1, 1) := dk_60 (dk_at dksX0_readRule_1 4 rfl rfl)
theorem dX0_readRule_27 : decode cX0_readRule 27 = .ok (.aload_n 0, 1) := dk_42 (dk_at dksX0_readRule_1 5 rfl rfl)
theorem dX0_readRule_28 : decode cX0_readRule 28 = .ok (.invokevirtual 138, 3) := dk_182 0 138 (dk_at dksX0_readRule_1 6 rfl rfl)
theorem dX0_readRule_31 : decode cX0_readRule 31 = .ok (.ifCond .ne 5, 3) := dk_154 0 5 (dk_at dksX0_readRule_1 9 rfl rfl)
theorem dX0_readRule_34 : decode cX0_readRule 34 = .ok (.iconst 0, 1) := dk_3 (dk_at dksX0_readRule_1 12 rfl rfl)
theorem dX0_readRule_35 : decode cX0_readRule 35 = .ok (.ireturn, 1) := dk_172 (dk_at dksX0_readRule_1 13 rfl rfl)
theorem dX0_readRule_36 : decode cX0_readRule 36 = .ok (.aload_n 0, 1) := dk_42 (dk_at dksX0_readRule_1 14 rfl rfl)
theorem dX0_readRule_37 : decode cX0_readRule 37 = .ok (.getfield 347, 3) := dk_180 1 91 (dk_at dksX0_readRule_1 15 rfl rfl)
theorem dX0_readRule_40 : decode cX0_readRule 40 = .ok (.iload_n 1, 1) := dk_27 (dk_at dksX0_readRule_1 18 rfl rfl)
theorem dX0_readRule_41 : decode cX0_readRule 41 = .ok (.aload_n 0, 1) := dk_42 (dk_at dksX0_readRule_1 19 rfl rfl)
theorem dX0_readRule_42 : decode cX0_readRule 42 = .ok (.getfield 117, 3) := dk_180 0 117 (dk_at dksX0_readRule_1 20 rfl rfl)
theorem dX0_readRule_45 : decode cX0_readRule 45 = .ok (.aload_n 0, 1) := dk_42 (dk_at dksX0_readRule_1 23 rfl rfl)
theorem dX0_readRule_46 : decode cX0_readRule 46 = .ok (.getfield 39, 3) := dk_180 0 39 (dk_at dksX0_readRule_2 0 rfl rfl)
theorem dX0_readRule_49 : decode cX0_readRule 49 = .ok (.iaload, 1) := dk_46 (dk_at dksX0_readRule_2 3 rfl rfl)
theorem dX0_readRule_50 : decode cX0_readRule 50 = .ok (.iastore, 1) := dk_79 (dk_at dksX0_readRule_2 4 rfl rfl)
theorem dX0_readRule_51 : decode cX0_readRule 51 = .ok (.aload_n 0, 1) := dk_42 (dk_at dksX0_readRule_2 5 rfl rfl)
theorem dX0_readRule_52 : decode cX0_readRule 52 = .ok (.invokevirtual 252, 3) := dk_182 0 252 (dk_at dksX0_readRule_2 6 rfl rfl)
theorem dX0_readRule_55 : decode cX0_readRule 55 = .ok (.ifCond .eq 11, 3) := dk_153 0 11 (dk_at dksX0_readRule_2 9 rfl rfl)
theorem dX0_readRule_58 : decode cX0_readRule 58 = .ok (.aload_n 0, 1) := dk_42 (dk_at dksX0_readRule_2 12 rfl rfl)
theorem dX0_readRule_59 : decode cX0_readRule 59 = .ok (.iconst 1, 1) := dk_4 (dk_at dksX0_readRule_2 13 rfl rfl)
theorem dX0_readRule_60 : decode cX0_readRule 60 = .ok (.invokevirtual 258, 3) := dk_182 1 2 (dk_at dksX0_readRule_2 14 rfl rfl)
theorem dX0_readRule_63 : decode cX0_readRule 63 = .ok (.ifCond .ne 5, 3) := dk_154 0 5 (dk_at dksX0_readRule_2 17 rfl rfl)
theorem dX0_readRule_66 : decode cX0_readRule 66 = .ok (.iconst 0, 1) := dk_3 (dk_at dksX0_readRule_2 20 rfl rfl)
theorem dX0_readRule_67 : decode cX0_readRule 67 = .ok (.ireturn, 1) := dk_172 (dk_at dksX0_readRule_2 21 rfl rfl)
theorem dX0_readRule_68 : decode cX0_readRule 68 = .ok (.aload_n 0, 1) := dk_42 (dk_at dksX0_readRule_2 22 rfl rfl)
theorem dX0_readRule_69 : decode cX0_readRule 69 = .ok (.dup, 1) := dk_89 (dk_at dksX0_readRule_2 23 rfl rfl)
theorem dX0_readRule_70 : decode cX0_readRule 70 = .ok (.getfield 160, 3) := dk_180 0 160 (dk_at dksX0_readRule_3 0 rfl rfl)
theorem dX0_readRule_73 : decode cX0_readRule 73 = .ok (.iconst 1, 1) := dk_4 (dk_at dksX0_readRule_3 3 rfl rfl)
theorem dX0_readRule_74 : decode cX0_readRule 74 = .ok (.iadd, 1) := dk_96 (dk_at dksX0_readRule_3 4 rfl rfl)
theorem dX0_readRule_75 : decode cX0_readRule 75 = .ok (.putfield 160, 3) := dk_181 0 160 (dk_at dksX0_readRule_3 5 rfl rfl)
theorem dX0_readRule_78 : decode cX0_readRule 78 = .ok (.aload_n 0, 1) := dk_42 (dk_at dksX0_readRule_3 8 rfl rfl)
theorem dX0_readRule_79 : decode cX0_readRule 79 = .ok (.getfield 350, 3) := dk_180 1 94 (dk_at dksX0_readRule_3 9 rfl rfl)
theorem dX0_readRule_82 : decode cX0_readRule 82 = .ok (.aload_n 0, 1) := dk_42 (dk_at dksX0_readRule_3 12 rfl rfl)
theorem dX0_readRule_83 : decode cX0_readRule 83 = .ok (.dup, 1) := dk_89 (dk_at dksX0_readRule_3 13 rfl rfl)
theorem dX0_readRule_84 : decode cX0_readRule 84 = .ok (.getfield 163, 3) := dk_180 0 163 (dk_at dksX0_readRule_3 14 rfl rfl)
theorem dX0_readRule_87 : decode cX0_readRule 87 = .ok (.dup_x1, 1) := dk_90 (dk_at dksX0_readRule_3 17 rfl rfl)
theorem dX0_readRule_88 : decode cX0_readRule 88 = .ok (.iconst 1, 1) := dk_4 (dk_at dksX0_readRule_3 18 rfl rfl)
theorem dX0_readRule_89 : decode cX0_readRule 89 = .ok (.iadd, 1) := dk_96 (dk_at dksX0_readRule_3 19 rfl rfl)
theorem dX0_readRule_90 : decode cX0_readRule 90 = .ok (.putfield 163, 3) := dk_181 0 163 (dk_at dksX0_readRule_3 20 rfl rfl)
theorem dX0_readRule_93 : decode cX0_readRule 93 = .ok (.iload_n 1, 1) := dk_27 (dk_at dksX0_readRule_3 23 rfl rfl)
theorem dX0_readRule_94 : decode cX0_readRule 94 = .ok (.iastore, 1) := dk_79 (dk_at dksX0_readRule_4 0 rfl rfl)
theorem dX0_readRule_95 : decode cX0_readRule 95 = .ok (.aload_n 0, 1) := dk_42 (dk_at dksX0_readRule_4 1 rfl rfl)
theorem dX0_readRule_96 : decode cX0_readRule 96 = .ok (.iload_n 1, 1) := dk_27 (dk_at dksX0_readRule_4 2 rfl rfl)
theorem dX0_readRule_97 : decode cX0_readRule 97 = .ok (.iconst 4, 1) := dk_7 (dk_at dksX0_readRule_4 3 rfl rfl)
theorem dX0_readRule_98 : decode cX0_readRule 98 = .ok (.invokevirtual 353, 3) := dk_182 1 97 (dk_at dksX0_readRule_4 4 rfl rfl)
theorem dX0_readRule_101 : decode cX0_readRule 101 = .ok (.ireturn, 1) := dk_172 (dk_at dksX0_readRule_4 7 rfl rfl)
abbrev cX0_layDeclared : ByteArray := prog_1_method_101_code
def yX0_layDeclared : MethodName := ⟨RX0, "layDeclared", "()V"⟩
def dkwX0_layDeclared_6 : List UInt8 := [182, 2, 237, 177]
abbrev dktX0_layDeclared_6 : List UInt8 := dkwX0_layDeclared_6 ++ []
def dkwX0_layDeclared_5 : List UInt8 := [54, 4, 132, 3, 1, 167, 255, 212, 132, 1, 1, 167, 255, 186, 42, 180, 0, 36, 154, 0, 7, 42]
abbrev dktX0_layDeclared_5 : List UInt8 := dkwX0_layDeclared_5 ++ dktX0_layDeclared_6
def dkwX0_layDeclared_4 : List UInt8 := [180, 1, 127, 29, 46, 5, 160, 0, 16, 42, 42, 180, 1, 130, 29, 46, 182, 1, 156, 167, 0, 4, 3]
abbrev dktX0_layDeclared_4 : List UInt8 := dkwX0_layDeclared_4 ++ dktX0_layDeclared_5
def dkwX0_layDeclared_3 : List UInt8 := [46, 61, 16, 6, 28, 104, 62, 29, 16, 6, 28, 104, 42, 180, 1, 100, 28, 46, 96, 162, 0, 35, 42]
abbrev dktX0_layDeclared_3 : List UInt8 := dkwX0_layDeclared_3 ++ dktX0_layDeclared_4
def dkwX0_layDeclared_2 : List UInt8 := [182, 2, 234, 132, 1, 1, 167, 255, 240, 3, 60, 27, 42, 180, 0, 163, 162, 0, 68, 42, 180, 1, 94, 27]
abbrev dktX0_layDeclared_2 : List UInt8 := dkwX0_layDeclared_2 ++ dktX0_layDeclared_3
def dkwX0_layDeclared_1 : List UInt8 := [167, 255, 240, 42, 182, 2, 228, 42, 182, 2, 231, 3, 60, 27, 42, 180, 0, 151, 162, 0, 14, 42, 27]
abbrev dktX0_layDeclared_1 : List UInt8 := dkwX0_layDeclared_1 ++ dktX0_layDeclared_2
def dkwX0_layDeclared_0 : List UInt8 := [42, 182, 2, 222, 3, 60, 27, 42, 180, 0, 148, 162, 0, 14, 42, 27, 182, 2, 225, 132, 1, 1]
abbrev dktX0_layDeclared_0 : List UInt8 := dkwX0_layDeclared_0 ++ dktX0_layDeclared_1
theorem dksX0_layDeclared_0 : cX0_layDeclared.data.toList.drop 0 = dktX0_layDeclared_0 := by decide +kernel
theorem dksX0_layDeclared_1 : cX0_layDeclared.data.toList.drop 22 = dktX0_layDeclared_1 := dk_seg dksX0_layDeclared_0 22 rfl rfl
theorem dksX0_layDeclared_2 : cX0_layDeclared.data.toList.drop 45 = dktX0_layDeclared_2 := dk_seg dksX0_layDeclared_1 23 rfl rfl
theorem dksX0_layDeclared_3 : cX0_layDeclared.data.toList.drop 69 = dktX0_layDeclared_3 := dk_seg dksX0_layDeclared_2 24 rfl rfl
theorem dksX0_layDeclared_4 : cX0_layDeclared.data.toList.drop 92 = dktX0_layDeclared_4 := dk_seg dksX0_layDeclared_3 23 rfl rfl
theorem dksX0_layDeclared_5 : cX0_layDeclared.data.toList.drop 115 = dktX0_layDeclared_5 := dk_seg dksX0_layDeclared_4 23 rfl rfl
theorem dksX0_layDeclared_6 : cX0_layDeclared.data.toList.drop 137 = dktX0_layDeclared_6 := dk_seg dksX0_layDeclared_5 22 rfl rfl
theorem dX0_layDeclared_0 : decode cX0_layDeclared 0 = .ok (.aload_n 0, 1) := dk_42 (dk_at dksX0_layDeclared_0 0 rfl rfl)
theorem dX0_layDeclared_1 : decode cX0_layDeclared 1 = .ok (.invokevirtual 734, 3) := dk_182 2 222 (dk_at dksX0_layDeclared_0 1 rfl rfl)
theorem dX0_layDeclared_4 : decode cX0_layDeclared 4 = .ok (.iconst 0, 1) := dk_3 (dk_at dksX0_layDeclared_0 4 rfl rfl)
theorem dX0_layDeclared_5 : decode cX0_layDeclared 5 = .ok (.istore_n 1, 1) := dk_60 (dk_at dksX0_layDeclared_0 5 rfl rfl)
theorem dX0_layDeclared_6 : decode cX0_layDeclared 6 = .ok (.iload_n 1, 1) := dk_27 (dk_at dksX0_layDeclared_0 6 rfl rfl)
theorem dX0_layDeclared_7 : decode cX0_layDeclared 7 = .ok (.aload_n 0, 1) := dk_42 (dk_at dksX0_layDeclared_0 7 rfl rfl)
theorem dX0_layDeclared_8 : decode cX0_layDeclared 8 = .ok (.getfield 148, 3) := dk_180 0 148 (dk_at dksX0_layDeclared_0 8 rfl rfl)
theorem dX0_layDeclared_11 : decode cX0_layDeclared 11 = .ok (.if_icmp .ge 14, 3) := dk_162 0 14 (dk_at dksX0_layDeclared_0 11 rfl rfl)
theorem dX0_layDeclared_14 : decode cX0_layDeclared 14 = .ok (.aload_n 0, 1) := dk_42 (dk_at dksX0_layDeclared_0 14 rfl rfl)
theorem dX0_layDeclared_15 : decode cX0_layDeclared 15 = .ok (.iload_n 1, 1) := dk_27 (dk_at dksX0_layDeclared_0 15 rfl rfl)
theorem dX0_layDeclared_16 : decode cX0_layDeclared 16 = .ok (.invokevirtual 737, 3) := dk_182 2 225 (dk_at dksX0_layDeclared_0 16 rfl rfl)
theorem dX0_layDeclared_19 : decode cX0_layDeclared 19 = .ok (.iinc 1 1, 3) := dk_132 1 1 (dk_at dksX0_layDeclared_0 19 rfl rfl)
theorem dX0_layDeclared_22 : decode cX0_layDeclared 22 = .ok (.goto (-16), 3) := dk_167 255 240 (dk_at dksX0_layDeclared_1 0 rfl rfl)
theorem dX0_layDeclared_25 : decode cX0_layDeclared 25 = .ok (.aload_n 0, 1) := dk_42 (dk_at dksX0_layDeclared_1 3 rfl rfl)
theorem dX0_layDeclared_26 : decode cX0_layDeclared 26 = .ok (.invokevirtual 740, 3) := dk_182 2 228 (dk_at dksX0_layDeclared_1 4 rfl rfl)
theorem dX0_layDeclared_29 : decode cX0_layDeclared 29 = .ok (.aload_n 0, 1) := dk_42 (dk_at dksX0_layDeclared_1 7 rfl rfl)
theorem dX0_layDeclared_30 : decode cX0_layDeclared 30 = .ok (.invokevirtual 743, 3) := dk_182 2 231 (dk_at dksX0_layDeclared_1 8 rfl rfl)
theorem dX0_layDeclared_33 : decode cX0_layDeclared 33 = .ok (.iconst 0, 1) := dk_3 (dk_at dksX0_layDeclared_1 11 rfl rfl)
theorem dX0_layDeclared_34 : decode cX0_layDeclared 34 = .ok (.istore_n 1, 1) := dk_60 (dk_at dksX0_layDeclared_1 12 rfl rfl)
theorem dX0_layDeclared_35 : decode cX0_layDeclared 35 = .ok (.iload_n 1, 1) := dk_27 (dk_at dksX0_layDeclared_1 13 rfl rfl)
theorem dX0_layDeclared_36 : decode cX0_layDeclared 36 = .ok (.aload_n 0, 1) := dk_42 (dk_at dksX0_layDeclared_1 14 rfl rfl)
theorem dX0_layDeclared_37 : decode cX0_layDeclared 37 = .ok (.getfield 151, 3) := dk_180 0 151 (dk_at dksX0_layDeclared_1 15 rfl rfl)
theorem dX0_layDeclared_40 : decode cX0_layDeclared 40 = .ok (.if_icmp .ge 14, 3) := dk_162 0 14 (dk_at dksX0_layDeclared_1 18 rfl rfl)
theorem dX0_layDeclared_43 : decode cX0_layDeclared 43 = .ok (.aload_n 0, 1) := dk_42 (dk_at dksX0_layDeclared_1 21 rfl rfl)
theorem dX0_layDeclared_44 : decode cX0_layDeclared 44 = .ok (.iload_n 1, 1) := dk_27 (dk_at dksX0_layDeclared_1 22 rfl rfl)
theorem dX0_layDeclared_45 : decode cX0_layDeclared 45 = .ok (.invokevirtual 746, 3) := dk_182 2 234 (dk_at dksX0_layDeclared_2 0 rfl rfl)
theorem dX0_layDeclared_48 : decode cX0_layDeclared 48 = .ok (.iinc 1 1, 3) := dk_132 1 1 (dk_at dksX0_layDeclared_2 3 rfl rfl)
theorem dX0_layDeclared_51 : decode cX0_layDeclared 51 = .ok (.goto (-16), 3) := dk_167 255 240 (dk_at dksX0_layDeclared_2 6 rfl rfl)
theorem dX0_layDeclared_54 : decode cX0_layDeclared 54 = .ok (.iconst 0, 1) := dk_3 (dk_at dksX0_layDeclared_2 9 rfl rfl)
theorem dX0_layDeclared_55 : decode cX0_layDeclared 55 = .ok (.istore_n 1, 1) := dk_60 (dk_at dksX0_layDeclared_2 10 rfl rfl)
theorem dX0_layDeclared_56 : decode cX0_layDeclared 56 = .ok (.iload_n 1, 1) := dk_27 (dk_at dksX0_layDeclared_2 11 rfl rfl)
theorem dX0_layDeclared_57 : decode cX0_layDeclared 57 = .ok (.aload_n 0, 1) := dk_42 (dk_at dksX0_layDeclared_2 12 rfl rfl)
theorem dX0_layDeclared_58 : decode cX0_layDeclared 58 = .ok (.getfield 163, 3) := dk_180 0 163 (dk_at dksX0_layDeclared_2 13 rfl rfl)
theorem dX0_layDeclared_61 : decode cX0_layDeclared 61 = .ok (.if_icmp .ge 68, 3) := dk_162 0 68 (dk_at dksX0_layDeclared_2 16 rfl rfl)
theorem dX0_layDeclared_64 : decode cX0_layDeclared 64 = .ok (.aload_n 0, 1) := dk_42 (dk_at dksX0_layDeclared_2 19 rfl rfl)
theorem dX0_layDeclared_65 : decode cX0_layDeclared 65 = .ok (.getfield 350, 3) := dk_180 1 94 (dk_at dksX0_layDeclared_2 20 rfl rfl)
theorem dX0_layDeclared_68 : decode cX0_layDeclared 68 = .ok (.iload_n 1, 1) := dk_27 (dk_at dksX0_layDeclared_2 23 rfl rfl)
theorem dX0_layDeclared_69 : decode cX0_layDeclared 69 = .ok (.iaload, 1) := dk_46 (dk_at dksX0_layDeclared_3 0 rfl rfl)
theorem dX0_layDeclared_70 : decode cX0_layDeclared 70 = .ok (.istore_n 2, 1) := dk_61 (dk_at dksX0_layDeclared_3 1 rfl rfl)
theorem dX0_layDeclared_71 : decode cX0_layDeclared 71 = .ok (.bipush 6, 2) := dk_16 6 (dk_at dksX0_layDeclared_3 2 rfl rfl)
theorem dX0_layDeclared_73 : decode cX0_layDeclared 73 = .ok (.iload_n 2, 1) := dk_28 (dk_at dksX0_layDeclared_3 4 rfl rfl)
theorem dX0_layDeclared_74 : decode cX0_layDeclared 74 = .ok (.imul, 1) := dk_104 (dk_at dksX0_layDeclared_3 5 rfl rfl)
theorem dX0_layDeclared_75 : decode cX0_layDeclared 75 = .ok (.istore_n 3, 1) := dk_62 (dk_at dksX0_layDeclared_3 6 rfl rfl)
theorem dX0_layDeclared_76 : decode cX0_layDeclared 76 = .ok (.iload_n 3, 1) := dk_29 (dk_at dksX0_layDeclared_3 7 rfl rfl)
theorem dX0_layDeclared_77 : decode cX0_layDeclared 77 = .ok (.bipush 6, 2) := dk_16 6 (dk_at dksX0_layDeclared_3 8 rfl rfl)
theorem dX0_layDeclared_79 : decode cX0_layDeclared 79 = .ok (.iload_n 2, 1) := dk_28 (dk_at dksX0_layDeclared_3 10 rfl rfl)
theorem dX0_layDeclared_80 : decode cX0_layDeclared 80 = .ok (.imul, 1) := dk_104 (dk_at dksX0_layDeclared_3 11 rfl rfl)
theorem dX0_layDeclared_81 : decode cX0_layDeclared 81 = .ok (.aload_n 0, 1) := dk_42 (dk_at dksX0_layDeclared_3 12 rfl rfl)
theorem dX0_layDeclared_82 : decode cX0_layDeclared 82 = .ok (.getfield 356, 3) := dk_180 1 100 (dk_at dksX0_layDeclared_3 13 rfl rfl)
theorem dX0_layDeclared_85 : decode cX0_layDeclared 85 = .ok (.iload_n 2, 1) := dk_28 (dk_at dksX0_layDeclared_3 16 rfl rfl)
theorem dX0_layDeclared_86 : decode cX0_layDeclared 86 = .ok (.iaload, 1) := dk_46 (dk_at dksX0_layDeclared_3 17 rfl rfl)
theorem dX0_layDeclared_87 : decode cX0_layDeclared 87 = .ok (.iadd, 1) := dk_96 (dk_at dksX0_layDeclared_3 18 rfl rfl)
theorem dX0_layDeclared_88 : decode cX0_layDeclared 88 = .ok (.if_icmp .ge 35, 3) := dk_162 0 35 (dk_at dksX0_layDeclared_3 19 rfl rfl)
theorem dX0_layDeclared_91 : decode cX0_layDeclared 91 = .ok (.aload_n 0, 1) := dk_42 (dk_at dksX0_layDeclared_3 22 rfl rfl)
theorem dX0_layDeclared_92 : decode cX0_layDeclared 92 = .ok (.getfield 383, 3) := dk_180 1 127 (dk_at dksX0_layDeclared_4 0 rfl rfl)
theorem dX0_layDeclared_95 : decode cX0_layDeclared 95 = .ok (.iload_n 3, 1) := dk_29 (dk_at dksX0_layDeclared_4 3 rfl rfl)
theorem dX0_layDeclared_96 : decode cX0_layDeclared 96 = .ok (.iaload, 1) := dk_46 (dk_at dksX0_layDeclared_4 4 rfl rfl)
theorem dX0_layDeclared_97 : decode cX0_layDeclared 97 = .ok (.iconst 2, 1) := dk_5 (dk_at dksX0_layDeclared_4 5 rfl rfl)
theorem dX0_layDeclared_98 : decode cX0_layDeclared 98 = .ok (.if_icmp .ne 16, 3) := dk_160 0 16 (dk_at dksX0_layDeclared_4 6 rfl rfl)
theorem dX0_layDeclared_101 : decode cX0_layDeclared 101 = .ok (.aload_n 0, 1) := dk_42 (dk_at dksX0_layDeclared_4 9 rfl rfl)
theorem dX0_layDeclared_102 : decode cX0_layDeclared 102 = .ok (.aload_n 0, 1) := dk_42 (dk_at dksX0_layDeclared_4 10 rfl rfl)
theorem dX0_layDeclared_103 : decode cX0_layDeclared 103 = .ok (.getfield 386, 3) := dk_180 1 130 (dk_at dksX0_layDeclared_4 11 rfl rfl)
theorem dX0_layDeclared_106 : decode cX0_layDeclared 106 = .ok (.iload_n 3, 1) := dk_29 (dk_at dksX0_layDeclared_4 14 rfl rfl)
theorem dX0_layDeclared_107 : decode cX0_layDeclared 107 = .ok (.iaload, 1) := dk_46 (dk_at dksX0_layDeclared_4 15 rfl rfl)
theorem dX0_layDeclared_108 : decode cX0_layDeclared 108 = .ok (.invokevirtual 412, 3) := dk_182 1 156 (dk_at dksX0_layDeclared_4 16 rfl rfl)
theorem dX0_layDeclared_111 : decode cX0_layDeclared 111 = .ok (.goto 4, 3) := dk_167 0 4 (dk_at dksX0_layDeclared_4 19 rfl rfl)
theorem dX0_layDeclared_114 : decode cX0_layDeclared 114 = .ok (.iconst 0, 1) := dk_3 (dk_at dksX0_layDeclared_4 22 rfl rfl)
theorem dX0_layDeclared_115 : decode cX0_layDeclared 115 = .ok (.istore 4, 2) := dk_54 4 (dk_at dksX0_layDeclared_5 0 rfl rfl)
theorem dX0_layDeclared_117 : decode cX0_layDeclared 117 = .ok (.iinc 3 1, 3) := dk_132 3 1 (dk_at dksX0_layDeclared_5 2 rfl rfl)
theorem dX0_layDeclared_120 : decode cX0_layDeclared 120 = .ok (.goto (-44), 3) := dk_167 255 212 (dk_at dksX0_layDeclared_5 5 rfl rfl)
theorem dX0_layDeclared_123 : decode cX0_layDeclared 123 = .ok (.iinc 1 1, 3) := dk_132 1 1 (dk_at dksX0_layDeclared_5 8 rfl rfl)
theorem dX0_layDeclared_126 : decode cX0_layDeclared 126 = .ok (.goto (-70), 3) := dk_167 255 186 (dk_at dksX0_layDeclared_5 11 rfl rfl)
theorem dX0_layDeclared_129 : decode cX0_layDeclared 129 = .ok (.aload_n 0, 1) := dk_42 (dk_at dksX0_layDeclared_5 14 rfl rfl)
theorem dX0_layDeclared_130 : decode cX0_layDeclared 130 = .ok (.getfield 36, 3) := dk_180 0 36 (dk_at dksX0_layDeclared_5 15 rfl rfl)
theorem dX0_layDeclared_133 : decode cX0_layDeclared 133 = .ok (.ifCond .ne 7, 3) := dk_154 0 7 (dk_at dksX0_layDeclared_5 18 rfl rfl)
theorem dX0_layDeclared_136 : decode cX0_layDeclared 136 = .ok (.aload_n 0, 1) := dk_42 (dk_at dksX0_layDeclared_5 21 rfl rfl)
theorem dX0_layDeclared_137 : decode cX0_layDeclared 137 = .ok (.invokevirtual 749, 3) := dk_182 2 237 (dk_at dksX0_layDeclared_6 0 rfl rfl)
theorem dX0_layDeclared_140 : decode cX0_layDeclared 140 = .ok (.return_, 1) := dk_177 (dk_at dksX0_layDeclared_6 3 rfl rfl)
abbrev cX0_laySorts : ByteArray := prog_1_method_43_code
def yX0_laySorts : MethodName := ⟨RX0, "laySorts", "()V"⟩
def dkwX0_laySorts_4 : List UInt8 := [167, 255, 188, 177]
abbrev dktX0_laySorts_4 : List UInt8 := dkwX0_laySorts_4 ++ []
def dkwX0_laySorts_3 : List UInt8 := [27, 28, 79, 42, 180, 1, 142, 27, 4, 27, 120, 79, 42, 180, 1, 145, 27, 27, 79, 132, 1, 1]
abbrev dktX0_laySorts_3 : List UInt8 := dkwX0_laySorts_3 ++ dktX0_laySorts_4
def dkwX0_laySorts_2 : List UInt8 := [182, 1, 139, 16, 254, 159, 0, 15, 42, 6, 42, 180, 0, 255, 27, 46, 182, 0, 132, 62, 42, 180, 1, 136]
abbrev dktX0_laySorts_2 : List UInt8 := dkwX0_laySorts_2 ++ dktX0_laySorts_3
def dkwX0_laySorts_1 : List UInt8 := [27, 42, 180, 0, 145, 162, 0, 66, 42, 180, 0, 117, 42, 180, 0, 255, 27, 46, 46, 61, 42, 28]
abbrev dktX0_laySorts_1 : List UInt8 := dkwX0_laySorts_1 ++ dktX0_laySorts_2
def dkwX0_laySorts_0 : List UInt8 := [3, 60, 27, 16, 20, 162, 0, 17, 42, 180, 1, 136, 27, 16, 254, 79, 132, 1, 1, 167, 255, 239, 3, 60]
abbrev dktX0_laySorts_0 : List UInt8 := dkwX0_laySorts_0 ++ dktX0_laySorts_1
theorem dksX0_laySorts_0 : cX0_laySorts.data.toList.drop 0 = dktX0_laySorts_0 := by decide +kernel
theorem dksX0_laySorts_1 : cX0_laySorts.data.toList.drop 24 = dktX0_laySorts_1 := dk_seg dksX0_laySorts_0 24 rfl rfl
theorem dksX0_laySorts_2 : cX0_laySorts.data.toList.drop 46 = dktX0_laySorts_2 := dk_seg dksX0_laySorts_1 22 rfl rfl
theorem dksX0_laySorts_3 : cX0_laySorts.data.toList.drop 70 = dktX0_laySorts_3 := dk_seg dksX0_laySorts_2 24 rfl rfl
theorem dksX0_laySorts_4 : cX0_laySorts.data.toList.drop 92 = dktX0_laySorts_4 := dk_seg dksX0_laySorts_3 22 rfl rfl
theorem dX0_laySorts_0 : decode cX0_laySorts 0 = .ok (.iconst 0, 1) := dk_3 (dk_at dksX0_laySorts_0 0 rfl rfl)
theorem dX0_laySorts_1 : decode cX0_laySorts 1 = .ok (.istore_n 1, 1) := dk_60 (dk_at dksX0_laySorts_0 1 rfl rfl)
theorem dX0_laySorts_2 : decode cX0_laySorts 2 = .ok (.iload_n 1, 1) := dk_27 (dk_at dksX0_laySorts_0 2 rfl rfl)
theorem dX0_laySorts_3 : decode cX0_laySorts 3 = .ok (.bipush 20, 2) := dk_16 20 (dk_at dksX0_laySorts_0 3 rfl rfl)
theorem dX0_laySorts_5 : decode cX0_laySorts 5 = .ok (.if_icmp .ge 17, 3) := dk_162 0 17 (dk_at dksX0_laySorts_0 5 rfl rfl)
theorem dX0_laySorts_8 : decode cX0_laySorts 8 = .ok (.aload_n 0, 1) := dk_42 (dk_at dksX0_laySorts_0 8 rfl rfl)
theorem dX0_laySorts_9 : decode cX0_laySorts 9 = .ok (.getfield 392, 3) := dk_180 1 136 (dk_at dksX0_laySorts_0 9 rfl rfl)
theorem dX0_laySorts_12 : decode cX0_laySorts 12 = .ok (.iload_n 1, 1) := dk_27 (dk_at dksX0_laySorts_0 12 rfl rfl)
theorem dX0_laySorts_13 : decode cX0_laySorts 13 = .ok (.bipush (-2), 2) := dk_16 254 (dk_at dksX0_laySorts_0 13 rfl rfl)
theorem dX0_laySorts_15 : decode cX0_laySorts 15 = .ok (.iastore, 1) := dk_79 (dk_at dksX0_laySorts_0 15 rfl rfl)
theorem dX0_laySorts_16 : decode cX0_laySorts 16 = .ok (.iinc 1 1, 3) := dk_132 1 1 (dk_at dksX0_laySorts_0 16 rfl rfl)
theorem dX0_laySorts_19 : decode cX0_laySorts 19 = .ok (.goto (-17), 3) := dk_167 255 239 (dk_at dksX0_laySorts_0 19 rfl rfl)
theorem dX0_laySorts_22 : decode cX0_laySorts 22 = .ok (.iconst 0, 1) := dk_3 (dk_at dksX0_laySorts_0 22 rfl rfl)
theorem dX0_laySorts_23 : decode cX0_laySorts 23 = .ok (.istore_n 1, 1) := dk_60 (dk_at dksX0_laySorts_0 23 rfl rfl)
theorem dX0_laySorts_24 : decode cX0_laySorts 24 = .ok (.iload_n 1, 1) := dk_27 (dk_at dksX0_laySorts_1 0 rfl rfl)
theorem dX0_laySorts_25 : decode cX0_laySorts 25 = .ok (.aload_n 0, 1) := dk_42 (dk_at dksX0_laySorts_1 1 rfl rfl)
theorem dX0_laySorts_26 : decode cX0_laySorts 26 = .ok (.getfield 145, 3) := dk_180 0 145 (dk_at dksX0_laySorts_1 2 rfl rfl)
theorem dX0_laySorts_29 : decode cX0_laySorts 29 = .ok (.if_icmp .ge 66, 3) := dk_162 0 66 (dk_at dksX0_laySorts_1 5 rfl rfl)
theorem dX0_laySorts_32 : decode cX0_laySorts 32 = .ok (.aload_n 0, 1) := dk_42 (dk_at dksX0_laySorts_1 8 rfl rfl)
theorem dX0_laySorts_33 : decode cX0_laySorts 33 = .ok (.getfield 117, 3) := dk_180 0 117 (dk_at dksX0_laySorts_1 9 rfl rfl)
theorem dX0_laySorts_36 : decode cX0_laySorts 36 = .ok (.aload_n 0, 1) := dk_42 (dk_at dksX0_laySorts_1 12 rfl rfl)
theorem dX0_laySorts_37 : decode cX0_laySorts 37 = .ok (.getfield 255, 3) := dk_180 0 255 (dk_at dksX0_laySorts_1 13 rfl rfl)
theorem dX0_laySorts_40 : decode cX0_laySorts 40 = .ok (.iload_n 1, 1) := dk_27 (dk_at dksX0_laySorts_1 16 rfl rfl)
theorem dX0_laySorts_41 : decode cX0_laySorts 41 = .ok (.iaload, 1) := dk_46 (dk_at dksX0_laySorts_1 17 rfl rfl)
theorem dX0_laySorts_42 : decode cX0_laySorts 42 = .ok (.iaload, 1) := dk_46 (dk_at dksX0_laySorts_1 18 rfl rfl)
theorem dX0_laySorts_43 : decode cX0_laySorts 43 = .ok (.istore_n 2, 1) := dk_61 (dk_at dksX0_laySorts_1 19 rfl rfl)
theorem dX0_laySorts_44 : decode cX0_laySorts 44 = .ok (.aload_n 0, 1) := dk_42 (dk_at dksX0_laySorts_1 20 rfl rfl)
theorem dX0_laySorts_45 : decode cX0_laySorts 45 = .ok (.iload_n 2, 1) := dk_28 (dk_at dksX0_laySorts_1 21 rfl rfl)
theorem dX0_laySorts_46 : decode cX0_laySorts 46 = .ok (.invokevirtual 395, 3) := dk_182 1 139 (dk_at dksX0_laySorts_2 0 rfl rfl)
theorem dX0_laySorts_49 : decode cX0_laySorts 49 = .ok (.bipush (-2), 2) := dk_16 254 (dk_at dksX0_laySorts_2 3 rfl rfl)
theorem dX0_laySorts_51 : decode cX0_laySorts 51 = .ok (.if_icmp .eq 15, 3) := dk_159 0 15 (dk_at dksX0_laySorts_2 5 rfl rfl)
theorem dX0_laySorts_54 : decode cX0_laySorts 54 = .ok (.aload_n 0, 1) := dk_42 (dk_at dksX0_laySorts_2 8 rfl rfl)
theorem dX0_laySorts_55 : decode cX0_laySorts 55 = .ok (.iconst 3, 1) := dk_6 (dk_at dksX0_laySorts_2 9 rfl rfl)
theorem dX0_laySorts_56 : decode cX0_laySorts 56 = .ok (.aload_n 0, 1) := dk_42 (dk_at dksX0_laySorts_2 10 rfl rfl)
theorem dX0_laySorts_57 : decode cX0_laySorts 57 = .ok (.getfield 255, 3) := dk_180 0 255 (dk_at dksX0_laySorts_2 11 rfl rfl)
theorem dX0_laySorts_60 : decode cX0_laySorts 60 = .ok (.iload_n 1, 1) := dk_27 (dk_at dksX0_laySorts_2 14 rfl rfl)
theorem dX0_laySorts_61 : decode cX0_laySorts 61 = .ok (.iaload, 1) := dk_46 (dk_at dksX0_laySorts_2 15 rfl rfl)
theorem dX0_laySorts_62 : decode cX0_laySorts 62 = .ok (.invokevirtual 132, 3) := dk_182 0 132 (dk_at dksX0_laySorts_2 16 rfl rfl)
theorem dX0_laySorts_65 : decode cX0_laySorts 65 = .ok (.istore_n 3, 1) := dk_62 (dk_at dksX0_laySorts_2 19 rfl rfl)
theorem dX0_laySorts_66 : decode cX0_laySorts 66 = .ok (.aload_n 0, 1) := dk_42 (dk_at dksX0_laySorts_2 20 rfl rfl)
theorem dX0_laySorts_67 : decode cX0_laySorts 67 = .ok (.getfield 392, 3) := dk_180 1 136 (dk_at dksX0_laySorts_2 21 rfl rfl)
theorem dX0_laySorts_70 : decode cX0_laySorts 70 = .ok (.iload_n 1, 1) := dk_27 (dk_at dksX0_laySorts_3 0 rfl rfl)
theorem dX0_laySorts_71 : decode cX0_laySorts 71 = .ok (.iload_n 2, 1) := dk_28 (dk_at dksX0_laySorts_3 1 rfl rfl)
theorem dX0_laySorts_72 : decode cX0_laySorts 72 = .ok (.iastore, 1) := dk_79 (dk_at dksX0_laySorts_3 2 rfl rfl)
theorem dX0_laySorts_73 : decode cX0_laySorts 73 = .ok (.aload_n 0, 1) := dk_42 (dk_at dksX0_laySorts_3 3 rfl rfl)
theorem dX0_laySorts_74 : decode cX0_laySorts 74 = .ok (.getfield 398, 3) := dk_180 1 142 (dk_at dksX0_laySorts_3 4 rfl rfl)
theorem dX0_laySorts_77 : decode cX0_laySorts 77 = .ok (.iload_n 1, 1) := dk_27 (dk_at dksX0_laySorts_3 7 rfl rfl)
theorem dX0_laySorts_78 : decode cX0_laySorts 78 = .ok (.iconst 1, 1) := dk_4 (dk_at dksX0_laySorts_3 8 rfl rfl)
theorem dX0_laySorts_79 : decode cX0_laySorts 79 = .ok (.iload_n 1, 1) := dk_27 (dk_at dksX0_laySorts_3 9 rfl rfl)
theorem dX0_laySorts_80 : decode cX0_laySorts 80 = .ok (.ishl, 1) := dk_120 (dk_at dksX0_laySorts_3 10 rfl rfl)
theorem dX0_laySorts_81 : decode cX0_laySorts 81 = .ok (.iastore, 1) := dk_79 (dk_at dksX0_laySorts_3 11 rfl rfl)
theorem dX0_laySorts_82 : decode cX0_laySorts 82 = .ok (.aload_n 0, 1) := dk_42 (dk_at dksX0_laySorts_3 12 rfl rfl)
theorem dX0_laySorts_83 : decode cX0_laySorts 83 = .ok (.getfield 401, 3) := dk_180 1 145 (dk_at dksX0_laySorts_3 13 rfl rfl)
theorem dX0_laySorts_86 : decode cX0_laySorts 86 = .ok (.iload_n 1, 1) := dk_27 (dk_at dksX0_laySorts_3 16 rfl rfl)
theorem dX0_laySorts_87 : decode cX0_laySorts 87 = .ok (.iload_n 1, 1) := dk_27 (dk_at dksX0_laySorts_3 17 rfl rfl)
theorem dX0_laySorts_88 : decode cX0_laySorts 88 = .ok (.iastore, 1) := dk_79 (dk_at dksX0_laySorts_3 18 rfl rfl)
theorem dX0_laySorts_89 : decode cX0_laySorts 89 = .ok (.iinc 1 1, 3) := dk_132 1 1 (dk_at dksX0_laySorts_3 19 rfl rfl)
theorem dX0_laySorts_92 : decode cX0_laySorts 92 = .ok (.goto (-68), 3) := dk_167 255 188 (dk_at dksX0_laySorts_4 0 rfl rfl)
theorem dX0_laySorts_95 : decode cX0_laySorts 95 = .ok (.return_, 1) := dk_177 (dk_at dksX0_laySorts_4 3 rfl rfl)
abbrev cX0_sortBy : ByteArray := prog_1_method_40_code
def yX0_sortBy : MethodName := ⟨RX0, "sortBy", "(I)I"⟩
def dkwX0_sortBy_1 : List UInt8 := [132, 2, 1, 167, 255, 233, 16, 254, 172]
abbrev dktX0_sortBy_1 : List UInt8 := dkwX0_sortBy_1 ++ []
def dkwX0_sortBy_0 : List UInt8 := [3, 61, 28, 42, 180, 0, 145, 162, 0, 21, 42, 180, 1, 136, 28, 46, 27, 160, 0, 5, 28, 172]
abbrev dktX0_sortBy_0 : List UInt8 := dkwX0_sortBy_0 ++ dktX0_sortBy_1
theorem dksX0_sortBy_0 : cX0_sortBy.data.toList.drop 0 = dktX0_sortBy_0 := by decide +kernel
theorem dksX0_sortBy_1 : cX0_sortBy.data.toList.drop 22 = dktX0_sortBy_1 := dk_seg dksX0_sortBy_0 22 rfl rfl
theorem dX0_sortBy_0 : decode cX0_sortBy 0 = .ok (.iconst 0, 1) := dk_3 (dk_at dksX0_sortBy_0 0 rfl rfl)
theorem dX0_sortBy_1 : decode cX0_sortBy 1 = .ok (.istore_n 2, 1) := dk_61 (dk_at dksX0_sortBy_0 1 rfl rfl)
theorem dX0_sortBy_2 : decode cX0_sortBy 2 = .ok (.iload_n 2, 1) := dk_28 (dk_at dksX0_sortBy_0 2 rfl rfl)
theorem dX0_sortBy_3 : decode cX0_sortBy 3 = .ok (.aload_n 0, 1) := dk_42 (dk_at dksX0_sortBy_0 3 rfl rfl)
theorem dX0_sortBy_4 : decode cX0_sortBy 4 = .ok (.getfield 145, 3) := dk_180 0 145 (dk_at dksX0_sortBy_0 4 rfl rfl)
theorem dX0_sortBy_7 : decode cX0_sortBy 7 = .ok (.if_icmp .ge 21, 3) := dk_162 0 21 (dk_at dksX0_sortBy_0 7 rfl rfl)
theorem dX0_sortBy_10 : decode cX0_sortBy 10 = .ok (.aload_n 0, 1) := dk_42 (dk_at dksX0_sortBy_0 10 rfl rfl)
theorem dX0_sortBy_11 : decode cX0_sortBy 11 = .ok (.getfield 392, 3) := dk_180 1 136 (dk_at dksX0_sortBy_0 11 rfl rfl)
theorem dX0_sortBy_14 : decode cX0_sortBy 14 = .ok (.iload_n 2, 1) := dk_28 (dk_at dksX0_sortBy_0 14 rfl rfl)
theorem dX0_sortBy_15 : decode cX0_sortBy 15 = .ok (.iaload, 1) := dk_46 (dk_at dksX0_sortBy_0 15 rfl rfl)
theorem dX0_sortBy_16 : decode cX0_sortBy 16 = .ok (.iload_n 1, 1) := dk_27 (dk_at dksX0_sortBy_0 16 rfl rfl)
theorem dX0_sortBy_17 : decode cX0_sortBy 17 = .ok (.if_icmp .ne 5, 3) := dk_160 0 5 (dk_at dksX0_sortBy_0 17 rfl rfl)
theorem dX0_sortBy_20 : decode cX0_sortBy 20 = .ok (.iload_n 2, 1) := dk_28 (dk_at dksX0_sortBy_0 20 rfl rfl)
theorem dX0_sortBy_21 : decode cX0_sortBy 21 = .ok (.ireturn, 1) := dk_172 (dk_at dksX0_sortBy_0 21 rfl rfl)
theorem dX0_sortBy_22 : decode cX0_sortBy 22 = .ok (.iinc 2 1, 3) := dk_132 2 1 (dk_at dksX0_sortBy_1 0 rfl rfl)
theorem dX0_sortBy_25 : decode cX0_sortBy 25 = .ok (.goto (-23), 3) := dk_167 255 233 (dk_at dksX0_sortBy_1 3 rfl rfl)
theorem dX0_sortBy_28 : decode cX0_sortBy 28 = .ok (.bipush (-2), 2) := dk_16 254 (dk_at dksX0_sortBy_1 6 rfl rfl)
theorem dX0_sortBy_30 : decode cX0_sortBy 30 = .ok (.ireturn, 1) := dk_172 (dk_at dksX0_sortBy_1 8 rfl rfl)
abbrev cX0_layLess : ByteArray := prog_1_method_45_code
def yX0_layLess : MethodName := ⟨RX0, "layLess", "(I)V"⟩
def dkwX0_layLess_4 : List UInt8 := [167, 255, 170, 28, 154, 0, 15, 42, 7, 42, 180, 1, 13, 27, 46, 182, 0, 132, 62, 177]
abbrev dktX0_layLess_4 : List UInt8 := dkwX0_layLess_4 ++ []
def dkwX0_layLess_3 : List UInt8 := [21, 6, 182, 1, 159, 153, 0, 7, 4, 167, 0, 4, 3, 126, 61, 132, 5, 1, 167, 255, 201, 132, 3, 1]
abbrev dktX0_layLess_3 : List UInt8 := dkwX0_layLess_3 ++ dktX0_layLess_4
def dkwX0_layLess_2 : List UInt8 := [182, 1, 156, 54, 6, 28, 21, 4, 16, 254, 159, 0, 21, 21, 6, 16, 254, 159, 0, 14, 42, 21, 4]
abbrev dktX0_layLess_2 : List UInt8 := dkwX0_layLess_2 ++ dktX0_layLess_3
def dkwX0_layLess_1 : List UInt8 := [54, 4, 42, 180, 1, 19, 27, 46, 54, 5, 21, 5, 42, 180, 1, 22, 27, 46, 162, 0, 50, 42, 21, 5]
abbrev dktX0_layLess_1 : List UInt8 := dkwX0_layLess_1 ++ dktX0_layLess_2
def dkwX0_layLess_0 : List UInt8 := [4, 61, 42, 180, 1, 16, 27, 46, 62, 29, 42, 180, 1, 13, 27, 46, 162, 0, 82, 42, 29, 182, 1, 156]
abbrev dktX0_layLess_0 : List UInt8 := dkwX0_layLess_0 ++ dktX0_layLess_1
theorem dksX0_layLess_0 : cX0_layLess.data.toList.drop 0 = dktX0_layLess_0 := by decide +kernel
theorem dksX0_layLess_1 : cX0_layLess.data.toList.drop 24 = dktX0_layLess_1 := dk_seg dksX0_layLess_0 24 rfl rfl
theorem dksX0_layLess_2 : cX0_layLess.data.toList.drop 48 = dktX0_layLess_2 := dk_seg dksX0_layLess_1 24 rfl rfl
theorem dksX0_layLess_3 : cX0_layLess.data.toList.drop 71 = dktX0_layLess_3 := dk_seg dksX0_layLess_2 23 rfl rfl
theorem dksX0_layLess_4 : cX0_layLess.data.toList.drop 95 = dktX0_layLess_4 := dk_seg dksX0_layLess_3 24 rfl rfl
theorem dX0_layLess_0 : decode cX0_layLess 0 = .ok (.iconst 1, 1) := dk_4 (dk_at dksX0_layLess_0 0 rfl rfl)
theorem dX0_layLess_1 : decode cX0_layLess 1 = .ok (.istore_n 2, 1) := dk_61 (dk_at dksX0_layLess_0 1 rfl rfl)
theorem dX0_layLess_2 : decode cX0_layLess 2 = .ok (.aload_n 0, 1) := dk_42 (dk_at dksX0_layLess_0 2 rfl rfl)
theorem dX0_layLess_3 : decode cX0_layLess 3 = .ok (.getfield 272, 3) := dk_180 1 16 (dk_at dksX0_layLess_0 3 rfl rfl)
theorem dX0_layLess_6 : decode cX0_layLess 6 = .ok (.iload_n 1, 1) := dk_27 (dk_at dksX0_layLess_0 6 rfl rfl)
theorem dX0_layLess_7 : decode cX0_layLess 7 = .ok (.iaload, 1) := dk_46 (dk_at dksX0_layLess_0 7 rfl rfl)
theorem dX0_layLess_8 : decode cX0_layLess 8 = .ok (.istore_n 3, 1) := dk_62 (dk_at dksX0_layLess_0 8 rfl rfl)
theorem dX0_layLess_9 : decode cX0_layLess 9 = .ok (.iload_n 3, 1) := dk_29 (dk_at dksX0_layLess_0 9 rfl rfl)
theorem dX0_layLess_10 : decode cX0_layLess 10 = .ok (.aload_n 0, 1) := dk_42 (dk_at dksX0_layLess_0 10 rfl rfl)
theorem dX0_layLess_11 : decode cX0_layLess 11 = .ok (.getfield 269, 3) := dk_180 1 13 (dk_at dksX0_layLess_0 11 rfl rfl)
theorem dX0_layLess_14 : decode cX0_layLess 14 = .ok (.iload_n 1, 1) := dk_27 (dk_at dksX0_layLess_0 14 rfl rfl)
theorem dX0_layLess_15 : decode cX0_layLess 15 = .ok (.iaload, 1) := dk_46 (dk_at dksX0_layLess_0 15 rfl rfl)
theorem dX0_layLess_16 : decode cX0_layLess 16 = .ok (.if_icmp .ge 82, 3) := dk_162 0 82 (dk_at dksX0_layLess_0 16 rfl rfl)
theorem dX0_layLess_19 : decode cX0_layLess 19 = .ok (.aload_n 0, 1) := dk_42 (dk_at dksX0_layLess_0 19 rfl rfl)
theorem dX0_layLess_20 : decode cX0_layLess 20 = .ok (.iload_n 3, 1) := dk_29 (dk_at dksX0_layLess_0 20 rfl rfl)
theorem dX0_layLess_21 : decode cX0_layLess 21 = .ok (.invokevirtual 412, 3) := dk_182 1 156 (dk_at dksX0_layLess_0 21 rfl rfl)
theorem dX0_layLess_24 : decode cX0_layLess 24 = .ok (.istore 4, 2) := dk_54 4 (dk_at dksX0_layLess_1 0 rfl rfl)
theorem dX0_layLess_26 : decode cX0_layLess 26 = .ok (.aload_n 0, 1) := dk_42 (dk_at dksX0_layLess_1 2 rfl rfl)
theorem dX0_layLess_27 : decode cX0_layLess 27 = .ok (.getfield 275, 3) := dk_180 1 19 (dk_at dksX0_layLess_1 3 rfl rfl)
theorem dX0_layLess_30 : decode cX0_layLess 30 = .ok (.iload_n 1, 1) := dk_27 (dk_at dksX0_layLess_1 6 rfl rfl)
theorem dX0_layLess_31 : decode cX0_layLess 31 = .ok (.iaload, 1) := dk_46 (dk_at dksX0_layLess_1 7 rfl rfl)
theorem dX0_layLess_32 : decode cX0_layLess 32 = .ok (.istore 5, 2) := dk_54 5 (dk_at dksX0_layLess_1 8 rfl rfl)
theorem dX0_layLess_34 : decode cX0_layLess 34 = .ok (.iload 5, 2) := dk_21 5 (dk_at dksX0_layLess_1 10 rfl rfl)
theorem dX0_layLess_36 : decode cX0_layLess 36 = .ok (.aload_n 0, 1) := dk_42 (dk_at dksX0_layLess_1 12 rfl rfl)
theorem dX0_layLess_37 : decode cX0_layLess 37 = .ok (.getfield 278, 3) := dk_180 1 22 (dk_at dksX0_layLess_1 13 rfl rfl)
theorem dX0_layLess_40 : decode cX0_layLess 40 = .ok (.iload_n 1, 1) := dk_27 (dk_at dksX0_layLess_1 16 rfl rfl)
theorem dX0_layLess_41 : decode cX0_layLess 41 = .ok (.iaload, 1) := dk_46 (dk_at dksX0_layLess_1 17 rfl rfl)
theorem dX0_layLess_42 : decode cX0_layLess 42 = .ok (.if_icmp .ge 50, 3) := dk_162 0 50 (dk_at dksX0_layLess_1 18 rfl rfl)
theorem dX0_layLess_45 : decode cX0_layLess 45 = .ok (.aload_n 0, 1) := dk_42 (dk_at dksX0_layLess_1 21 rfl rfl)
theorem dX0_layLess_46 : decode cX0_layLess 46 = .ok (.iload 5, 2) := dk_21 5 (dk_at dksX0_layLess_1 22 rfl rfl)
theorem dX0_layLess_48 : decode cX0_layLess 48 = .ok (.invokevirtual 412, 3) := dk_182 1 156 (dk_at dksX0_layLess_2 0 rfl rfl)
theorem dX0_layLess_51 : decode cX0_layLess 51 = .ok (.istore 6, 2) := dk_54 6 (dk_at dksX0_layLess_2 3 rfl rfl)
theorem dX0_layLess_53 : decode cX0_layLess 53 = .ok (.iload_n 2, 1) := dk_28 (dk_at dksX0_layLess_2 5 rfl rfl)
theorem dX0_layLess_54 : decode cX0_layLess 54 = .ok (.iload 4, 2) := dk_21 4 (dk_at dksX0_layLess_2 6 rfl rfl)
theorem dX0_layLess_56 : decode cX0_layLess 56 = .ok (.bipush (-2), 2) := dk_16 254 (dk_at dksX0_layLess_2 8 rfl rfl)
theorem dX0_layLess_58 : decode cX0_layLess 58 = .ok (.if_icmp .eq 21, 3) := dk_159 0 21 (dk_at dksX0_layLess_2 10 rfl rfl)
theorem dX0_layLess_61 : decode cX0_layLess 61 = .ok (.iload 6, 2) := dk_21 6 (dk_at dksX0_layLess_2 13 rfl rfl)
theorem dX0_layLess_63 : decode cX0_layLess 63 = .ok (.bipush (-2), 2) := dk_16 254 (dk_at dksX0_layLess_2 15 rfl rfl)
theorem dX0_layLess_65 : decode cX0_layLess 65 = .ok (.if_icmp .eq 14, 3) := dk_159 0 14 (dk_at dksX0_layLess_2 17 rfl rfl)
theorem dX0_layLess_68 : decode cX0_layLess 68 = .ok (.aload_n 0, 1) := dk_42 (dk_at dksX0_layLess_2 20 rfl rfl)
theorem dX0_layLess_69 : decode cX0_layLess 69 = .ok (.iload 4, 2) := dk_21 4 (dk_at dksX0_layLess_2 21 rfl rfl)
theorem dX0_layLess_71 : decode cX0_layLess 71 = .ok (.iload 6, 2) := dk_21 6 (dk_at dksX0_layLess_3 0 rfl rfl)
theorem dX0_layLess_73 : decode cX0_layLess 73 = .ok (.invokevirtual 415, 3) := dk_182 1 159 (dk_at dksX0_layLess_3 2 rfl rfl)
theorem dX0_layLess_76 : decode cX0_layLess 76 = .ok (.ifCond .eq 7, 3) := dk_153 0 7 (dk_at dksX0_layLess_3 5 rfl rfl)
theorem dX0_layLess_79 : decode cX0_layLess 79 = .ok (.iconst 1, 1) := dk_4 (dk_at dksX0_layLess_3 8 rfl rfl)
theorem dX0_layLess_80 : decode cX0_layLess 80 = .ok (.goto 4, 3) := dk_167 0 4 (dk_at dksX0_layLess_3 9 rfl rfl)
theorem dX0_layLess_83 : decode cX0_layLess 83 = .ok (.iconst 0, 1) := dk_3 (dk_at dksX0_layLess_3 12 rfl rfl)
theorem dX0_layLess_84 : decode cX0_layLess 84 = .ok (.iand, 1) := dk_126 (dk_at dksX0_layLess_3 13 rfl rfl)
theorem dX0_layLess_85 : decode cX0_layLess 85 = .ok (.istore_n 2, 1) := dk_61 (dk_at dksX0_layLess_3 14 rfl rfl)
theorem dX0_layLess_86 : decode cX0_layLess 86 = .ok (.iinc 5 1, 3) := dk_132 5 1 (dk_at dksX0_layLess_3 15 rfl rfl)
theorem dX0_layLess_89 : decode cX0_layLess 89 = .ok (.goto (-55), 3) := dk_167 255 201 (dk_at dksX0_layLess_3 18 rfl rfl)
theorem dX0_layLess_92 : decode cX0_layLess 92 = .ok (.iinc 3 1, 3) := dk_132 3 1 (dk_at dksX0_layLess_3 21 rfl rfl)
theorem dX0_layLess_95 : decode cX0_layLess 95 = .ok (.goto (-86), 3) := dk_167 255 170 (dk_at dksX0_layLess_4 0 rfl rfl)
theorem dX0_layLess_98 : decode cX0_layLess 98 = .ok (.iload_n 2, 1) := dk_28 (dk_at dksX0_layLess_4 3 rfl rfl)
theorem dX0_layLess_99 : decode cX0_layLess 99 = .ok (.ifCond .ne 15, 3) := dk_154 0 15 (dk_at dksX0_layLess_4 4 rfl rfl)
theorem dX0_layLess_102 : decode cX0_layLess 102 = .ok (.aload_n 0, 1) := dk_42 (dk_at dksX0_layLess_4 7 rfl rfl)
theorem dX0_layLess_103 : decode cX0_layLess 103 = .ok (.iconst 4, 1) := dk_7 (dk_at dksX0_layLess_4 8 rfl rfl)
theorem dX0_layLess_104 : decode cX0_layLess 104 = .ok (.aload_n 0, 1) := dk_42 (dk_at dksX0_layLess_4 9 rfl rfl)
theorem dX0_layLess_105 : decode cX0_layLess 105 = .ok (.getfield 269, 3) := dk_180 1 13 (dk_at dksX0_layLess_4 10 rfl rfl)
theorem dX0_layLess_108 : decode cX0_layLess 108 = .ok (.iload_n 1, 1) := dk_27 (dk_at dksX0_layLess_4 13 rfl rfl)
theorem dX0_layLess_109 : decode cX0_layLess 109 = .ok (.iaload, 1) := dk_46 (dk_at dksX0_layLess_4 14 rfl rfl)
theorem dX0_layLess_110 : decode cX0_layLess 110 = .ok (.invokevirtual 132, 3) := dk_182 0 132 (dk_at dksX0_layLess_4 15 rfl rfl)
theorem dX0_layLess_113 : decode cX0_layLess 113 = .ok (.istore_n 3, 1) := dk_62 (dk_at dksX0_layLess_4 18 rfl rfl)
theorem dX0_layLess_114 : decode cX0_layLess 114 = .ok (.return_, 1) := dk_177 (dk_at dksX0_layLess_4 19 rfl rfl)
abbrev cX0_sortAt : ByteArray := prog_1_method_41_code
def yX0_sortAt : MethodName := ⟨RX0, "sortAt", "(I)I"⟩
def dkwX0_sortAt_1 : List UInt8 := [28, 172]
abbrev dktX0_sortAt_1 : List UInt8 := dkwX0_sortAt_1 ++ []
def dkwX0_sortAt_0 : List UInt8 := [42, 42, 180, 0, 117, 27, 46, 182, 1, 139, 61, 28, 16, 254, 160, 0, 10, 42, 7, 27, 182, 0, 132, 62]
abbrev dktX0_sortAt_0 : List UInt8 := dkwX0_sortAt_0 ++ dktX0_sortAt_1
theorem dksX0_sortAt_0 : cX0_sortAt.data.toList.drop 0 = dktX0_sortAt_0 := by decide +kernel
theorem dksX0_sortAt_1 : cX0_sortAt.data.toList.drop 24 = dktX0_sortAt_1 := dk_seg dksX0_sortAt_0 24 rfl rfl
theorem dX0_sortAt_0 : decode cX0_sortAt 0 = .ok (.aload_n 0, 1) := dk_42 (dk_at dksX0_sortAt_0 0 rfl rfl)
theorem dX0_sortAt_1 : decode cX0_sortAt 1 = .ok (.aload_n 0, 1) := dk_42 (dk_at dksX0_sortAt_0 1 rfl rfl)
theorem dX0_sortAt_2 : decode cX0_sortAt 2 = .ok (.getfield 117, 3) := dk_180 0 117 (dk_at dksX0_sortAt_0 2 rfl rfl)
theorem dX0_sortAt_5 : decode cX0_sortAt 5 = .ok (.iload_n 1, 1) := dk_27 (dk_at dksX0_sortAt_0 5 rfl rfl)
theorem dX0_sortAt_6 : decode cX0_sortAt 6 = .ok (.iaload, 1) := dk_46 (dk_at dksX0_sortAt_0 6 rfl rfl)
theorem dX0_sortAt_7 : decode cX0_sortAt 7 = .ok (.invokevirtual 395, 3) := dk_182 1 139 (dk_at dksX0_sortAt_0 7 rfl rfl)
theorem dX0_sortAt_10 : decode cX0_sortAt 10 = .ok (.istore_n 2, 1) := dk_61 (dk_at dksX0_sortAt_0 10 rfl rfl)
theorem dX0_sortAt_11 : decode cX0_sortAt 11 = .ok (.iload_n 2, 1) := dk_28 (dk_at dksX0_sortAt_0 11 rfl rfl)
theorem dX0_sortAt_12 : decode cX0_sortAt 12 = .ok (.bipush (-2), 2) := dk_16 254 (dk_at dksX0_sortAt_0 12 rfl rfl)
theorem dX0_sortAt_14 : decode cX0_sortAt 14 = .ok (.if_icmp .ne 10, 3) := dk_160 0 10 (dk_at dksX0_sortAt_0 14 rfl rfl)
theorem dX0_sortAt_17 : decode cX0_sortAt 17 = .ok (.aload_n 0, 1) := dk_42 (dk_at dksX0_sortAt_0 17 rfl rfl)
theorem dX0_sortAt_18 : decode cX0_sortAt 18 = .ok (.iconst 4, 1) := dk_7 (dk_at dksX0_sortAt_0 18 rfl rfl)
theorem dX0_sortAt_19 : decode cX0_sortAt 19 = .ok (.iload_n 1, 1) := dk_27 (dk_at dksX0_sortAt_0 19 rfl rfl)
theorem dX0_sortAt_20 : decode cX0_sortAt 20 = .ok (.invokevirtual 132, 3) := dk_182 0 132 (dk_at dksX0_sortAt_0 20 rfl rfl)
theorem dX0_sortAt_23 : decode cX0_sortAt 23 = .ok (.istore_n 3, 1) := dk_62 (dk_at dksX0_sortAt_0 23 rfl rfl)
theorem dX0_sortAt_24 : decode cX0_sortAt 24 = .ok (.iload_n 2, 1) := dk_28 (dk_at dksX0_sortAt_1 0 rfl rfl)
theorem dX0_sortAt_25 : decode cX0_sortAt 25 = .ok (.ireturn, 1) := dk_172 (dk_at dksX0_sortAt_1 1 rfl rfl)
abbrev cX0_layBelow : ByteArray := prog_1_method_44_code
def yX0_layBelow : MethodName := ⟨RX0, "layBelow", "(II)Z"⟩
def dkwX0_layBelow_5 : List UInt8 := [21, 5, 46, 79, 132, 5, 1, 167, 255, 198, 4, 172]
abbrev dktX0_layBelow_5 : List UInt8 := dkwX0_layBelow_5 ++ []
def dkwX0_layBelow_4 : List UInt8 := [180, 1, 145, 21, 5, 46, 21, 4, 160, 0, 12, 29, 21, 4, 184, 1, 151, 167, 0, 10, 42, 180, 1, 145]
abbrev dktX0_layBelow_4 : List UInt8 := dkwX0_layBelow_4 ++ dktX0_layBelow_5
def dkwX0_layBelow_3 : List UInt8 := [180, 0, 145, 162, 0, 55, 42, 180, 1, 145, 21, 5, 42, 180, 1, 145, 21, 5, 46, 29, 159, 0, 15, 42]
abbrev dktX0_layBelow_3 : List UInt8 := dkwX0_layBelow_3 ++ dktX0_layBelow_4
def dkwX0_layBelow_2 : List UInt8 := [167, 255, 221, 42, 180, 1, 145, 27, 46, 62, 42, 180, 1, 145, 28, 46, 54, 4, 3, 54, 5, 21, 5, 42]
abbrev dktX0_layBelow_2 : List UInt8 := dkwX0_layBelow_2 ++ dktX0_layBelow_3
def dkwX0_layBelow_1 : List UInt8 := [182, 1, 148, 153, 0, 18, 42, 180, 1, 142, 29, 92, 46, 42, 180, 1, 142, 28, 46, 128, 79, 132, 3, 1]
abbrev dktX0_layBelow_1 : List UInt8 := dkwX0_layBelow_1 ++ dktX0_layBelow_2
def dkwX0_layBelow_0 : List UInt8 := [42, 28, 27, 182, 1, 148, 153, 0, 5, 3, 172, 3, 62, 29, 42, 180, 0, 145, 162, 0, 33, 42, 29, 27]
abbrev dktX0_layBelow_0 : List UInt8 := dkwX0_layBelow_0 ++ dktX0_layBelow_1
theorem dksX0_layBelow_0 : cX0_layBelow.data.toList.drop 0 = dktX0_layBelow_0 := by decide +kernel
theorem dksX0_layBelow_1 : cX0_layBelow.data.toList.drop 24 = dktX0_layBelow_1 := dk_seg dksX0_layBelow_0 24 rfl rfl
theorem dksX0_layBelow_2 : cX0_layBelow.data.toList.drop 48 = dktX0_layBelow_2 := dk_seg dksX0_layBelow_1 24 rfl rfl
theorem dksX0_layBelow_3 : cX0_layBelow.data.toList.drop 72 = dktX0_layBelow_3 := dk_seg dksX0_layBelow_2 24 rfl rfl
theorem dksX0_layBelow_4 : cX0_layBelow.data.toList.drop 96 = dktX0_layBelow_4 := dk_seg dksX0_layBelow_3 24 rfl rfl
theorem dksX0_layBelow_5 : cX0_layBelow.data.toList.drop 120 = dktX0_layBelow_5 := dk_seg dksX0_layBelow_4 24 rfl rfl
theorem dX0_layBelow_0 : decode cX0_layBelow 0 = .ok (.aload_n 0, 1) := dk_42 (dk_at dksX0_layBelow_0 0 rfl rfl)
theorem dX0_layBelow_1 : decode cX0_layBelow 1 = .ok (.iload_n 2, 1) := dk_28 (dk_at dksX0_layBelow_0 1 rfl rfl)
theorem dX0_layBelow_2 : decode cX0_layBelow 2 = .ok (.iload_n 1, 1) := dk_27 (dk_at dksX0_layBelow_0 2 rfl rfl)
theorem dX0_layBelow_3 : decode cX0_layBelow 3 = .ok (.invokevirtual 404, 3) := dk_182 1 148 (dk_at dksX0_layBelow_0 3 rfl rfl)
theorem dX0_layBelow_6 : decode cX0_layBelow 6 = .ok (.ifCond .eq 5, 3) := dk_153 0 5 (dk_at dksX0_layBelow_0 6 rfl rfl)
theorem dX0_layBelow_9 : decode cX0_layBelow 9 = .ok (.iconst 0, 1) := dk_3 (dk_at dksX0_layBelow_0 9 rfl rfl)
theorem dX0_layBelow_10 : decode cX0_layBelow 10 = .ok (.ireturn, 1) := dk_172 (dk_at dksX0_layBelow_0 10 rfl rfl)
theorem dX0_layBelow_11 : decode cX0_layBelow 11 = .ok (.iconst 0, 1) := dk_3 (dk_at dksX0_layBelow_0 11 rfl rfl)
theorem dX0_layBelow_12 : decode cX0_layBelow 12 = .ok (.istore_n 3, 1) := dk_62 (dk_at dksX0_layBelow_0 12 rfl rfl)
theorem dX0_layBelow_13 : decode cX0_layBelow 13 = .ok (.iload_n 3, 1) := dk_29 (dk_at dksX0_layBelow_0 13 rfl rfl)
theorem dX0_layBelow_14 : decode cX0_layBelow 14 = .ok (.aload_n 0, 1) := dk_42 (dk_at dksX0_layBelow_0 14 rfl rfl)
theorem dX0_layBelow_15 : decode cX0_layBelow 15 = .ok (.getfield 145, 3) := dk_180 0 145 (dk_at dksX0_layBelow_0 15 rfl rfl)
theorem dX0_layBelow_18 : decode cX0_layBelow 18 = .ok (.if_icmp .ge 33, 3) := dk_162 0 33 (dk_at dksX0_layBelow_0 18 rfl rfl)
theorem dX0_layBelow_21 : decode cX0_layBelow 21 = .ok (.aload_n 0, 1) := dk_42 (dk_at dksX0_layBelow_0 21 rfl rfl)
theorem dX0_layBelow_22 : decode cX0_layBelow 22 = .ok (.iload_n 3, 1) := dk_29 (dk_at dksX0_layBelow_0 22 rfl rfl)
theorem dX0_layBelow_23 : decode cX0_layBelow 23 = .ok (.iload_n 1, 1) := dk_27 (dk_at dksX0_layBelow_0 23 rfl rfl)
theorem dX0_layBelow_24 : decode cX0_layBelow 24 = .ok (.invokevirtual 404, 3) := dk_182 1 148 (dk_at dksX0_layBelow_1 0 rfl rfl)
theorem dX0_layBelow_27 : decode cX0_layBelow 27 = .ok (.ifCond .eq 18, 3) := dk_153 0 18 (dk_at dksX0_layBelow_1 3 rfl rfl)
theorem dX0_layBelow_30 : decode cX0_layBelow 30 = .ok (.aload_n 0, 1) := dk_42 (dk_at dksX0_layBelow_1 6 rfl rfl)
theorem dX0_layBelow_31 : decode cX0_layBelow 31 = .ok (.getfield 398, 3) := dk_180 1 142 (dk_at dksX0_layBelow_1 7 rfl rfl)
theorem dX0_layBelow_34 : decode cX0_layBelow 34 = .ok (.iload_n 3, 1) := dk_29 (dk_at dksX0_layBelow_1 10 rfl rfl)
theorem dX0_layBelow_35 : decode cX0_layBelow 35 = .ok (.dup2, 1) := dk_92 (dk_at dksX0_layBelow_1 11 rfl rfl)
theorem dX0_layBelow_36 : decode cX0_layBelow 36 = .ok (.iaload, 1) := dk_46 (dk_at dksX0_layBelow_1 12 rfl rfl)
theorem dX0_layBelow_37 : decode cX0_layBelow 37 = .ok (.aload_n 0, 1) := dk_42 (dk_at dksX0_layBelow_1 13 rfl rfl)
theorem dX0_layBelow_38 : decode cX0_layBelow 38 = .ok (.getfield 398, 3) := dk_180 1 142 (dk_at dksX0_layBelow_1 14 rfl rfl)
theorem dX0_layBelow_41 : decode cX0_layBelow 41 = .ok (.iload_n 2, 1) := dk_28 (dk_at dksX0_layBelow_1 17 rfl rfl)
theorem dX0_layBelow_42 : decode cX0_layBelow 42 = .ok (.iaload, 1) := dk_46 (dk_at dksX0_layBelow_1 18 rfl rfl)
theorem dX0_layBelow_43 : decode cX0_layBelow 43 = .ok (.ior, 1) := dk_128 (dk_at dksX0_layBelow_1 19 rfl rfl)
theorem dX0_layBelow_44 : decode cX0_layBelow 44 = .ok (.iastore, 1) := dk_79 (dk_at dksX0_layBelow_1 20 rfl rfl)
theorem dX0_layBelow_45 : decode cX0_layBelow 45 = .ok (.iinc 3 1, 3) := dk_132 3 1 (dk_at dksX0_layBelow_1 21 rfl rfl)
theorem dX0_layBelow_48 : decode cX0_layBelow 48 = .ok (.goto (-35), 3) := dk_167 255 221 (dk_at dksX0_layBelow_2 0 rfl rfl)
theorem dX0_layBelow_51 : decode cX0_layBelow 51 = .ok (.aload_n 0, 1) := dk_42 (dk_at dksX0_layBelow_2 3 rfl rfl)
theorem dX0_layBelow_52 : decode cX0_layBelow 52 = .ok (.getfield 401, 3) := dk_180 1 145 (dk_at dksX0_layBelow_2 4 rfl rfl)
theorem dX0_layBelow_55 : decode cX0_layBelow 55 = .ok (.iload_n 1, 1) := dk_27 (dk_at dksX0_layBelow_2 7 rfl rfl)
theorem dX0_layBelow_56 : decode cX0_layBelow 56 = .ok (.iaload, 1) := dk_46 (dk_at dksX0_layBelow_2 8 rfl rfl)
theorem dX0_layBelow_57 : decode cX0_layBelow 57 = .ok (.istore_n 3, 1) := dk_62 (dk_at dksX0_layBelow_2 9 rfl rfl)
theorem dX0_layBelow_58 : decode cX0_layBelow 58 = .ok (.aload_n 0, 1) := dk_42 (dk_at dksX0_layBelow_2 10 rfl rfl)
theorem dX0_layBelow_59 : decode cX0_layBelow 59 = .ok (.getfield 401, 3) := dk_180 1 145 (dk_at dksX0_layBelow_2 11 rfl rfl)
theorem dX0_layBelow_62 : decode cX0_layBelow 62 = .ok (.iload_n 2, 1) := dk_28 (dk_at dksX0_layBelow_2 14 rfl rfl)
theorem dX0_layBelow_63 : decode cX0_layBelow 63 = .ok (.iaload, 1) := dk_46 (dk_at dksX0_layBelow_2 15 rfl rfl)
theorem dX0_layBelow_64 : decode cX0_layBelow 64 = .ok (.istore 4, 2) := dk_54 4 (dk_at dksX0_layBelow_2 16 rfl rfl)
theorem dX0_layBelow_66 : decode cX0_layBelow 66 = .ok (.iconst 0, 1) := dk_3 (dk_at dksX0_layBelow_2 18 rfl rfl)
theorem dX0_layBelow_67 : decode cX0_layBelow 67 = .ok (.istore 5, 2) := dk_54 5 (dk_at dksX0_layBelow_2 19 rfl rfl)
theorem dX0_layBelow_69 : decode cX0_layBelow 69 = .ok (.iload 5, 2) := dk_21 5 (dk_at dksX0_layBelow_2 21 rfl rfl)
theorem dX0_layBelow_71 : decode cX0_layBelow 71 = .ok (.aload_n 0, 1) := dk_42 (dk_at dksX0_layBelow_2 23 rfl rfl)
theorem dX0_layBelow_72 : decode cX0_layBelow 72 = .ok (.getfield 145, 3) := dk_180 0 145 (dk_at dksX0_layBelow_3 0 rfl rfl)
theorem dX0_layBelow_75 : decode cX0_layBelow 75 = .ok (.if_icmp .ge 55, 3) := dk_162 0 55 (dk_at dksX0_layBelow_3 3 rfl rfl)
theorem dX0_layBelow_78 : decode cX0_layBelow 78 = .ok (.aload_n 0, 1) := dk_42 (dk_at dksX0_layBelow_3 6 rfl rfl)
theorem dX0_layBelow_79 : decode cX0_layBelow 79 = .ok (.getfield 401, 3) := dk_180 1 145 (dk_at dksX0_layBelow_3 7 rfl rfl)
theorem dX0_layBelow_82 : decode cX0_layBelow 82 = .ok (.iload 5, 2) := dk_21 5 (dk_at dksX0_layBelow_3 10 rfl rfl)
theorem dX0_layBelow_84 : decode cX0_layBelow 84 = .ok (.aload_n 0, 1) := dk_42 (dk_at dksX0_layBelow_3 12 rfl rfl)
theorem dX0_layBelow_85 : decode cX0_layBelow 85 = .ok (.getfield 401, 3) := dk_180 1 145 (dk_at dksX0_layBelow_3 13 rfl rfl)
theorem dX0_layBelow_88 : decode cX0_layBelow 88 = .ok (.iload 5, 2) := dk_21 5 (dk_at dksX0_layBelow_3 16 rfl rfl)
theorem dX0_layBelow_90 : decode cX0_layBelow 90 = .ok (.iaload, 1) := dk_46 (dk_at dksX0_layBelow_3 18 rfl rfl)
theorem dX0_layBelow_91 : decode cX0_layBelow 91 = .ok (.iload_n 3, 1) := dk_29 (dk_at dksX0_layBelow_3 19 rfl rfl)
theorem dX0_layBelow_92 : decode cX0_layBelow 92 = .ok (.if_icmp .eq 15, 3) := dk_159 0 15 (dk_at dksX0_layBelow_3 20 rfl rfl)
theorem dX0_layBelow_95 : decode cX0_layBelow 95 = .ok (.aload_n 0, 1) := dk_42 (dk_at dksX0_layBelow_3 23 rfl rfl)
theorem dX0_layBelow_96 : decode cX0_layBelow 96 = .ok (.getfield 401, 3) := dk_180 1 145 (dk_at dksX0_layBelow_4 0 rfl rfl)
theorem dX0_layBelow_99 : decode cX0_layBelow 99 = .ok (.iload 5, 2) := dk_21 5 (dk_at dksX0_layBelow_4 3 rfl rfl)
theorem dX0_layBelow_101 : decode cX0_layBelow 101 = .ok (.iaload, 1) := dk_46 (dk_at dksX0_layBelow_4 5 rfl rfl)
theorem dX0_layBelow_102 : decode cX0_layBelow 102 = .ok (.iload 4, 2) := dk_21 4 (dk_at dksX0_layBelow_4 6 rfl rfl)
theorem dX0_layBelow_104 : decode cX0_layBelow 104 = .ok (.if_icmp .ne 12, 3) := dk_160 0 12 (dk_at dksX0_layBelow_4 8 rfl rfl)
theorem dX0_layBelow_107 : decode cX0_layBelow 107 = .ok (.iload_n 3, 1) := dk_29 (dk_at dksX0_layBelow_4 11 rfl rfl)
theorem dX0_layBelow_108 : decode cX0_layBelow 108 = .ok (.iload 4, 2) := dk_21 4 (dk_at dksX0_layBelow_4 12 rfl rfl)
theorem dX0_layBelow_110 : decode cX0_layBelow 110 = .ok (.invokestatic 407, 3) := dk_184 1 151 (dk_at dksX0_layBelow_4 14 rfl rfl)
theorem dX0_layBelow_113 : decode cX0_layBelow 113 = .ok (.goto 10, 3) := dk_167 0 10 (dk_at dksX0_layBelow_4 17 rfl rfl)
theorem dX0_layBelow_116 : decode cX0_layBelow 116 = .ok (.aload_n 0, 1) := dk_42 (dk_at dksX0_layBelow_4 20 rfl rfl)
theorem dX0_layBelow_117 : decode cX0_layBelow 117 = .ok (.getfield 401, 3) := dk_180 1 145 (dk_at dksX0_layBelow_4 21 rfl rfl)
theorem dX0_layBelow_120 : decode cX0_layBelow 120 = .ok (.iload 5, 2) := dk_21 5 (dk_at dksX0_layBelow_5 0 rfl rfl)
theorem dX0_layBelow_122 : decode cX0_layBelow 122 = .ok (.iaload, 1) := dk_46 (dk_at dksX0_layBelow_5 2 rfl rfl)
theorem dX0_layBelow_123 : decode cX0_layBelow 123 = .ok (.iastore, 1) := dk_79 (dk_at dksX0_layBelow_5 3 rfl rfl)
theorem dX0_layBelow_124 : decode cX0_layBelow 124 = .ok (.iinc 5 1, 3) := dk_132 5 1 (dk_at dksX0_layBelow_5 4 rfl rfl)
theorem dX0_layBelow_127 : decode cX0_layBelow 127 = .ok (.goto (-58), 3) := dk_167 255 198 (dk_at dksX0_layBelow_5 7 rfl rfl)
theorem dX0_layBelow_130 : decode cX0_layBelow 130 = .ok (.iconst 1, 1) := dk_4 (dk_at dksX0_layBelow_5 10 rfl rfl)
theorem dX0_layBelow_131 : decode cX0_layBelow 131 = .ok (.ireturn, 1) := dk_172 (dk_at dksX0_layBelow_5 11 rfl rfl)
abbrev cX0_isBelow : ByteArray := prog_1_method_42_code
def yX0_isBelow : MethodName := ⟨RX0, "isBelow", "(II)Z"⟩
def dkwX0_isBelow_0 : List UInt8 := [42, 180, 1, 142, 27, 46, 28, 122, 4, 126, 4, 160, 0, 7, 4, 167, 0, 4, 3, 172]
abbrev dktX0_isBelow_0 : List UInt8 := dkwX0_isBelow_0 ++ []
theorem dksX0_isBelow_0 : cX0_isBelow.data.toList.drop 0 = dktX0_isBelow_0 := by decide +kernel
theorem dX0_isBelow_0 : decode cX0_isBelow 0 = .ok (.aload_n 0, 1) := dk_42 (dk_at dksX0_isBelow_0 0 rfl rfl)
theorem dX0_isBelow_1 : decode cX0_isBelow 1 = .ok (.getfield 398, 3) := dk_180 1 142 (dk_at dksX0_isBelow_0 1 rfl rfl)
theorem dX0_isBelow_4 : decode cX0_isBelow 4 = .ok (.iload_n 1, 1) := dk_27 (dk_at dksX0_isBelow_0 4 rfl rfl)
theorem dX0_isBelow_5 : decode cX0_isBelow 5 = .ok (.iaload, 1) := dk_46 (dk_at dksX0_isBelow_0 5 rfl rfl)
theorem dX0_isBelow_6 : decode cX0_isBelow 6 = .ok (.iload_n 2, 1) := dk_28 (dk_at dksX0_isBelow_0 6 rfl rfl)
theorem dX0_isBelow_7 : decode cX0_isBelow 7 = .ok (.ishr, 1) := dk_122 (dk_at dksX0_isBelow_0 7 rfl rfl)
theorem dX0_isBelow_8 : decode cX0_isBelow 8 = .ok (.iconst 1, 1) := dk_4 (dk_at dksX0_isBelow_0 8 rfl rfl)
theorem dX0_isBelow_9 : decode cX0_isBelow 9 = .ok (.iand, 1) := dk_126 (dk_at dksX0_isBelow_0 9 rfl rfl)
theorem dX0_isBelow_10 : decode cX0_isBelow 10 = .ok (.iconst 1, 1) := dk_4 (dk_at dksX0_isBelow_0 10 rfl rfl)
theorem dX0_isBelow_11 : decode cX0_isBelow 11 = .ok (.if_icmp .ne 7, 3) := dk_160 0 7 (dk_at dksX0_isBelow_0 11 rfl rfl)
theorem dX0_isBelow_14 : decode cX0_isBelow 14 = .ok (.iconst 1, 1) := dk_4 (dk_at dksX0_isBelow_0 14 rfl rfl)
theorem dX0_isBelow_15 : decode cX0_isBelow 15 = .ok (.goto 4, 3) := dk_167 0 4 (dk_at dksX0_isBelow_0 15 rfl rfl)
theorem dX0_isBelow_18 : decode cX0_isBelow 18 = .ok (.iconst 0, 1) := dk_3 (dk_at dksX0_isBelow_0 18 rfl rfl)
theorem dX0_isBelow_19 : decode cX0_isBelow 19 = .ok (.ireturn, 1) := dk_172 (dk_at dksX0_isBelow_0 19 rfl rfl)
abbrev cX0_layKinds : ByteArray := prog_1_method_46_code
def yX0_layKinds : MethodName := ⟨RX0, "layKinds", "()V"⟩
def dkwX0_layKinds_2 : List UInt8 := [42, 180, 1, 145, 27, 46, 46, 79, 132, 1, 1, 167, 255, 204, 177]
abbrev dktX0_layKinds_2 : List UInt8 := dkwX0_layKinds_2 ++ []
def dkwX0_layKinds_1 : List UInt8 := [27, 46, 27, 160, 0, 17, 42, 89, 180, 0, 169, 90, 4, 96, 181, 0, 169, 167, 0, 14, 42, 180, 1, 145]
abbrev dktX0_layKinds_1 : List UInt8 := dkwX0_layKinds_1 ++ dktX0_layKinds_2
def dkwX0_layKinds_0 : List UInt8 := [42, 3, 181, 0, 169, 3, 60, 27, 42, 180, 0, 145, 162, 0, 50, 42, 180, 1, 145, 27, 42, 180, 1, 145]
abbrev dktX0_layKinds_0 : List UInt8 := dkwX0_layKinds_0 ++ dktX0_layKinds_1
theorem dksX0_layKinds_0 : cX0_layKinds.data.toList.drop 0 = dktX0_layKinds_0 := by decide +kernel
theorem dksX0_layKinds_1 : cX0_layKinds.data.toList.drop 24 = dktX0_layKinds_1 := dk_seg dksX0_layKinds_0 24 rfl rfl
theorem dksX0_layKinds_2 : cX0_layKinds.data.toList.drop 48 = dktX0_layKinds_2 := dk_seg dksX0_layKinds_1 24 rfl rfl
theorem dX0_layKinds_0 : decode cX0_layKinds 0 = .ok (.aload_n 0, 1) := dk_42 (dk_at dksX0_layKinds_0 0 rfl rfl)
theorem dX0_layKinds_1 : decode cX0_layKinds 1 = .ok (.iconst 0, 1) := dk_3 (dk_at dksX0_layKinds_0 1 rfl rfl)
theorem dX0_layKinds_2 : decode cX0_layKinds 2 = .ok (.putfield 169, 3) := dk_181 0 169 (dk_at dksX0_layKinds_0 2 rfl rfl)
theorem dX0_layKinds_5 : decode cX0_layKinds 5 = .ok (.iconst 0, 1) := dk_3 (dk_at dksX0_layKinds_0 5 rfl rfl)
theorem dX0_layKinds_6 : decode cX0_layKinds 6 = .ok (.istore_n 1, 1) := dk_60 (dk_at dksX0_layKinds_0 6 rfl rfl)
theorem dX0_layKinds_7 : decode cX0_layKinds 7 = .ok (.iload_n 1, 1) := dk_27 (dk_at dksX0_layKinds_0 7 rfl rfl)
theorem dX0_layKinds_8 : decode cX0_layKinds 8 = .ok (.aload_n 0, 1) := dk_42 (dk_at dksX0_layKinds_0 8 rfl rfl)
theorem dX0_layKinds_9 : decode cX0_layKinds 9 = .ok (.getfield 145, 3) := dk_180 0 145 (dk_at dksX0_layKinds_0 9 rfl rfl)
theorem dX0_layKinds_12 : decode cX0_layKinds 12 = .ok (.if_icmp .ge 50, 3) := dk_162 0 50 (dk_at dksX0_layKinds_0 12 rfl rfl)
theorem dX0_layKinds_15 : decode cX0_layKinds 15 = .ok (.aload_n 0, 1) := dk_42 (dk_at dksX0_layKinds_0 15 rfl rfl)
theorem dX0_layKinds_16 : decode cX0_layKinds 16 = .ok (.getfield 401, 3) := dk_180 1 145 (dk_at dksX0_layKinds_0 16 rfl rfl)
theorem dX0_layKinds_19 : decode cX0_layKinds 19 = .ok (.iload_n 1, 1) := dk_27 (dk_at dksX0_layKinds_0 19 rfl rfl)
theorem dX0_layKinds_20 : decode cX0_layKinds 20 = .ok (.aload_n 0, 1) := dk_42 (dk_at dksX0_layKinds_0 20 rfl rfl)
theorem dX0_layKinds_21 : decode cX0_layKinds 21 = .ok (.getfield 401, 3) := dk_180 1 145 (dk_at dksX0_layKinds_0 21 rfl rfl)
theorem dX0_layKinds_24 : decode cX0_layKinds 24 = .ok (.iload_n 1, 1) := dk_27 (dk_at dksX0_layKinds_1 0 rfl rfl)
theorem dX0_layKinds_25 : decode cX0_layKinds 25 = .ok (.iaload, 1) := dk_46 (dk_at dksX0_layKinds_1 1 rfl rfl)
theorem dX0_layKinds_26 : decode cX0_layKinds 26 = .ok (.iload_n 1, 1) := dk_27 (dk_at dksX0_layKinds_1 2 rfl rfl)
theorem dX0_layKinds_27 : decode cX0_layKinds 27 = .ok (.if_icmp .ne 17, 3) := dk_160 0 17 (dk_at dksX0_layKinds_1 3 rfl rfl)
theorem dX0_layKinds_30 : decode cX0_layKinds 30 = .ok (.aload_n 0, 1) := dk_42 (dk_at dksX0_layKinds_1 6 rfl rfl)
theorem dX0_layKinds_31 : decode cX0_layKinds 31 = .ok (.dup, 1) := dk_89 (dk_at dksX0_layKinds_1 7 rfl rfl)
theorem dX0_layKinds_32 : decode cX0_layKinds 32 = .ok (.getfield 169, 3) := dk_180 0 169 (dk_at dksX0_layKinds_1 8 rfl rfl)
theorem dX0_layKinds_35 : decode cX0_layKinds 35 = .ok (.dup_x1, 1) := dk_90 (dk_at dksX0_layKinds_1 11 rfl rfl)
theorem dX0_layKinds_36 : decode cX0_layKinds 36 = .ok (.iconst 1, 1) := dk_4 (dk_at dksX0_layKinds_1 12 rfl rfl)
theorem dX0_layKinds_37 : decode cX0_layKinds 37 = .ok (.iadd, 1) := dk_96 (dk_at dksX0_layKinds_1 13 rfl rfl)
theorem dX0_layKinds_38 : decode cX0_layKinds 38 = .ok (.putfield 169, 3) := dk_181 0 169 (dk_at dksX0_layKinds_1 14 rfl rfl)
theorem dX0_layKinds_41 : decode cX0_layKinds 41 = .ok (.goto 14, 3) := dk_167 0 14 (dk_at dksX0_layKinds_1 17 rfl rfl)
theorem dX0_layKinds_44 : decode cX0_layKinds 44 = .ok (.aload_n 0, 1) := dk_42 (dk_at dksX0_layKinds_1 20 rfl rfl)
theorem dX0_layKinds_45 : decode cX0_layKinds 45 = .ok (.getfield 401, 3) := dk_180 1 145 (dk_at dksX0_layKinds_1 21 rfl rfl)
theorem dX0_layKinds_48 : decode cX0_layKinds 48 = .ok (.aload_n 0, 1) := dk_42 (dk_at dksX0_layKinds_2 0 rfl rfl)
theorem dX0_layKinds_49 : decode cX0_layKinds 49 = .ok (.getfield 401, 3) := dk_180 1 145 (dk_at dksX0_layKinds_2 1 rfl rfl)
theorem dX0_layKinds_52 : decode cX0_layKinds 52 = .ok (.iload_n 1, 1) := dk_27 (dk_at dksX0_layKinds_2 4 rfl rfl)
theorem dX0_layKinds_53 : decode cX0_layKinds 53 = .ok (.iaload, 1) := dk_46 (dk_at dksX0_layKinds_2 5 rfl rfl)
theorem dX0_layKinds_54 : decode cX0_layKinds 54 = .ok (.iaload, 1) := dk_46 (dk_at dksX0_layKinds_2 6 rfl rfl)
theorem dX0_layKinds_55 : decode cX0_layKinds 55 = .ok (.iastore, 1) := dk_79 (dk_at dksX0_layKinds_2 7 rfl rfl)
theorem dX0_layKinds_56 : decode cX0_layKinds 56 = .ok (.iinc 1 1, 3) := dk_132 1 1 (dk_at dksX0_layKinds_2 8 rfl rfl)
theorem dX0_layKinds_59 : decode cX0_layKinds 59 = .ok (.goto (-52), 3) := dk_167 255 204 (dk_at dksX0_layKinds_2 11 rfl rfl)
theorem dX0_layKinds_62 : decode cX0_layKinds 62 = .ok (.return_, 1) := dk_177 (dk_at dksX0_layKinds_2 14 rfl rfl)
abbrev cX0_layVariables : ByteArray := prog_1_method_60_code
def yX0_layVariables : MethodName := ⟨RX0, "layVariables", "()V"⟩
def dkwX0_layVariables_3 : List UInt8 := [42, 180, 1, 84, 27, 46, 182, 1, 156, 79, 132, 1, 1, 167, 255, 174, 177]
abbrev dktX0_layVariables_3 : List UInt8 := dkwX0_layVariables_3 ++ []
def dkwX0_layVariables_2 : List UInt8 := [182, 0, 132, 54, 4, 132, 3, 1, 167, 255, 225, 42, 180, 1, 244, 27, 28, 79, 42, 180, 1, 247, 27, 42]
abbrev dktX0_layVariables_2 : List UInt8 := dkwX0_layVariables_2 ++ dktX0_layVariables_3
def dkwX0_layVariables_1 : List UInt8 := [29, 27, 162, 0, 32, 42, 180, 1, 244, 29, 46, 28, 160, 0, 16, 42, 6, 42, 180, 1, 81, 27, 46]
abbrev dktX0_layVariables_1 : List UInt8 := dkwX0_layVariables_1 ++ dktX0_layVariables_2
def dkwX0_layVariables_0 : List UInt8 := [3, 60, 27, 42, 180, 0, 154, 162, 0, 80, 42, 180, 0, 117, 42, 180, 1, 81, 27, 46, 46, 61, 3, 62]
abbrev dktX0_layVariables_0 : List UInt8 := dkwX0_layVariables_0 ++ dktX0_layVariables_1
theorem dksX0_layVariables_0 : cX0_layVariables.data.toList.drop 0 = dktX0_layVariables_0 := by decide +kernel
theorem dksX0_layVariables_1 : cX0_layVariables.data.toList.drop 24 = dktX0_layVariables_1 := dk_seg dksX0_layVariables_0 24 rfl rfl
theorem dksX0_layVariables_2 : cX0_layVariables.data.toList.drop 47 = dktX0_layVariables_2 := dk_seg dksX0_layVariables_1 23 rfl rfl
theorem dksX0_layVariables_3 : cX0_layVariables.data.toList.drop 71 = dktX0_layVariables_3 := dk_seg dksX0_layVariables_2 24 rfl rfl
theorem dX0_layVariables_0 : decode cX0_layVariables 0 = .ok (.iconst 0, 1) := dk_3 (dk_at dksX0_layVariables_0 0 rfl rfl)
theorem dX0_layVariables_1 : decode cX0_layVariables 1 = .ok (.istore_n 1, 1) := dk_60 (dk_at dksX0_layVariables_0 1 rfl rfl)
theorem dX0_layVariables_2 : decode cX0_layVariables 2 = .ok (.iload_n 1, 1) := dk_27 (dk_at dksX0_layVariables_0 2 rfl rfl)
theorem dX0_layVariables_3 : decode cX0_layVariables 3 = .ok (.aload_n 0, 1) := dk_42 (dk_at dksX0_layVariables_0 3 rfl rfl)
theorem dX0_layVariables_4 : decode cX0_layVariables 4 = .ok (.getfield 154, 3) := dk_180 0 154 (dk_at dksX0_layVariables_0 4 rfl rfl)
theorem dX0_layVariables_7 : decode cX0_layVariables 7 = .ok (.if_icmp .ge 80, 3) := dk_162 0 80 (dk_at dksX0_layVariables_0 7 rfl rfl)
theorem dX0_layVariables_10 : decode cX0_layVariables 10 = .ok (.aload_n 0, 1) := dk_42 (dk_at dksX0_layVariables_0 10 rfl rfl)
theorem dX0_layVariables_11 : decode cX0_layVariables 11 = .ok (.getfield 117, 3) := dk_180 0 117 (dk_at dksX0_layVariables_0 11 rfl rfl)
theorem dX0_layVariables_14 : decode cX0_layVariables 14 = .ok (.aload_n 0, 1) := dk_42 (dk_at dksX0_layVariables_0 14 rfl rfl)
theorem dX0_layVariables_15 : decode cX0_layVariables 15 = .ok (.getfield 337, 3) := dk_180 1 81 (dk_at dksX0_layVariables_0 15 rfl rfl)
theorem dX0_layVariables_18 : decode cX0_layVariables 18 = .ok (.iload_n 1, 1) := dk_27 (dk_at dksX0_layVariables_0 18 rfl rfl)
theorem dX0_layVariables_19 : decode cX0_layVariables 19 = .ok (.iaload, 1) := dk_46 (dk_at dksX0_layVariables_0 19 rfl rfl)
theorem dX0_layVariables_20 : decode cX0_layVariables 20 = .ok (.iaload, 1) := dk_46 (dk_at dksX0_layVariables_0 20 rfl rfl)
theorem dX0_layVariables_21 : decode cX0_layVariables 21 = .ok (.istore_n 2, 1) := dk_61 (dk_at dksX0_layVariables_0 21 rfl rfl)
theorem dX0_layVariables_22 : decode cX0_layVariables 22 = .ok (.iconst 0, 1) := dk_3 (dk_at dksX0_layVariables_0 22 rfl rfl)
theorem dX0_layVariables_23 : decode cX0_layVariables 23 = .ok (.istore_n 3, 1) := dk_62 (dk_at dksX0_layVariables_0 23 rfl rfl)
theorem dX0_layVariables_24 : decode cX0_layVariables 24 = .ok (.iload_n 3, 1) := dk_29 (dk_at dksX0_layVariables_1 0 rfl rfl)
theorem dX0_layVariables_25 : decode cX0_layVariables 25 = .ok (.iload_n 1, 1) := dk_27 (dk_at dksX0_layVariables_1 1 rfl rfl)
theorem dX0_layVariables_26 : decode cX0_layVariables 26 = .ok (.if_icmp .ge 32, 3) := dk_162 0 32 (dk_at dksX0_layVariables_1 2 rfl rfl)
theorem dX0_layVariables_29 : decode cX0_layVariables 29 = .ok (.aload_n 0, 1) := dk_42 (dk_at dksX0_layVariables_1 5 rfl rfl)
theorem dX0_layVariables_30 : decode cX0_layVariables 30 = .ok (.getfield 500, 3) := dk_180 1 244 (dk_at dksX0_layVariables_1 6 rfl rfl)
theorem dX0_layVariables_33 : decode cX0_layVariables 33 = .ok (.iload_n 3, 1) := dk_29 (dk_at dksX0_layVariables_1 9 rfl rfl)
theorem dX0_layVariables_34 : decode cX0_layVariables 34 = .ok (.iaload, 1) := dk_46 (dk_at dksX0_layVariables_1 10 rfl rfl)
theorem dX0_layVariables_35 : decode cX0_layVariables 35 = .ok (.iload_n 2, 1) := dk_28 (dk_at dksX0_layVariables_1 11 rfl rfl)
theorem dX0_layVariables_36 : decode cX0_layVariables 36 = .ok (.if_icmp .ne 16, 3) := dk_160 0 16 (dk_at dksX0_layVariables_1 12 rfl rfl)
theorem dX0_layVariables_39 : decode cX0_layVariables 39 = .ok (.aload_n 0, 1) := dk_42 (dk_at dksX0_layVariables_1 15 rfl rfl)
theorem dX0_layVariables_40 : decode cX0_layVariables 40 = .ok (.iconst 3, 1) := dk_6 (dk_at dksX0_layVariables_1 16 rfl rfl)
theorem dX0_layVariables_41 : decode cX0_layVariables 41 = .ok (.aload_n 0, 1) := dk_42 (dk_at dksX0_layVariables_1 17 rfl rfl)
theorem dX0_layVariables_42 : decode cX0_layVariables 42 = .ok (.getfield 337, 3) := dk_180 1 81 (dk_at dksX0_layVariables_1 18 rfl rfl)
theorem dX0_layVariables_45 : decode cX0_layVariables 45 = .ok (.iload_n 1, 1) := dk_27 (dk_at dksX0_layVariables_1 21 rfl rfl)
theorem dX0_layVariables_46 : decode cX0_layVariables 46 = .ok (.iaload, 1) := dk_46 (dk_at dksX0_layVariables_1 22 rfl rfl)
theorem dX0_layVariables_47 : decode cX0_layVariables 47 = .ok (.invokevirtual 132, 3) := dk_182 0 132 (dk_at dksX0_layVariables_2 0 rfl rfl)
theorem dX0_layVariables_50 : decode cX0_layVariables 50 = .ok (.istore 4, 2) := dk_54 4 (dk_at dksX0_layVariables_2 3 rfl rfl)
theorem dX0_layVariables_52 : decode cX0_layVariables 52 = .ok (.iinc 3 1, 3) := dk_132 3 1 (dk_at dksX0_layVariables_2 5 rfl rfl)
theorem dX0_layVariables_55 : decode cX0_layVariables 55 = .ok (.goto (-31), 3) := dk_167 255 225 (dk_at dksX0_layVariables_2 8 rfl rfl)
theorem dX0_layVariables_58 : decode cX0_layVariables 58 = .ok (.aload_n 0, 1) := dk_42 (dk_at dksX0_layVariables_2 11 rfl rfl)
theorem dX0_layVariables_59 : decode cX0_layVariables 59 = .ok (.getfield 500, 3) := dk_180 1 244 (dk_at dksX0_layVariables_2 12 rfl rfl)
theorem dX0_layVariables_62 : decode cX0_layVariables 62 = .ok (.iload_n 1, 1) := dk_27 (dk_at dksX0_layVariables_2 15 rfl rfl)
theorem dX0_layVariables_63 : decode cX0_layVariables 63 = .ok (.iload_n 2, 1) := dk_28 (dk_at dksX0_layVariables_2 16 rfl rfl)
theorem dX0_layVariables_64 : decode cX0_layVariables 64 = .ok (.iastore, 1) := dk_79 (dk_at dksX0_layVariables_2 17 rfl rfl)
theorem dX0_layVariables_65 : decode cX0_layVariables 65 = .ok (.aload_n 0, 1) := dk_42 (dk_at dksX0_layVariables_2 18 rfl rfl)
theorem dX0_layVariables_66 : decode cX0_layVariables 66 = .ok (.getfield 503, 3) := dk_180 1 247 (dk_at dksX0_layVariables_2 19 rfl rfl)
theorem dX0_layVariables_69 : decode cX0_layVariables 69 = .ok (.iload_n 1, 1) := dk_27 (dk_at dksX0_layVariables_2 22 rfl rfl)
theorem dX0_layVariables_70 : decode cX0_layVariables 70 = .ok (.aload_n 0, 1) := dk_42 (dk_at dksX0_layVariables_2 23 rfl rfl)
theorem dX0_layVariables_71 : decode cX0_layVariables 71 = .ok (.aload_n 0, 1) := dk_42 (dk_at dksX0_layVariables_3 0 rfl rfl)
theorem dX0_layVariables_72 : decode cX0_layVariables 72 = .ok (.getfield 340, 3) := dk_180 1 84 (dk_at dksX0_layVariables_3 1 rfl rfl)
theorem dX0_layVariables_75 : decode cX0_layVariables 75 = .ok (.iload_n 1, 1) := dk_27 (dk_at dksX0_layVariables_3 4 rfl rfl)
theorem dX0_layVariables_76 : decode cX0_layVariables 76 = .ok (.iaload, 1) := dk_46 (dk_at dksX0_layVariables_3 5 rfl rfl)
theorem dX0_layVariables_77 : decode cX0_layVariables 77 = .ok (.invokevirtual 412, 3) := dk_182 1 156 (dk_at dksX0_layVariables_3 6 rfl rfl)
theorem dX0_layVariables_80 : decode cX0_layVariables 80 = .ok (.iastore, 1) := dk_79 (dk_at dksX0_layVariables_3 9 rfl rfl)
theorem dX0_layVariables_81 : decode cX0_layVariables 81 = .ok (.iinc 1 1, 3) := dk_132 1 1 (dk_at dksX0_layVariables_3 10 rfl rfl)
theorem dX0_layVariables_84 : decode cX0_layVariables 84 = .ok (.goto (-82), 3) := dk_167 255 174 (dk_at dksX0_layVariables_3 13 rfl rfl)
theorem dX0_layVariables_87 : decode cX0_layVariables 87 = .ok (.return_, 1) := dk_177 (dk_at dksX0_layVariables_3 16 rfl rfl)
abbrev cX0_layRow : ByteArray := prog_1_method_52_code
def yX0_layRow : MethodName := ⟨RX0, "layRow", "(I)V"⟩
def dkwX0_layRow_7 : List UInt8 := [180, 1, 25, 27, 46, 182, 0, 132, 62, 42, 180, 1, 183, 27, 92, 51, 28, 126, 84, 177]
abbrev dktX0_layRow_7 : List UInt8 := dkwX0_layRow_7 ++ []
def dkwX0_layRow_6 : List UInt8 := [16, 254, 159, 0, 7, 4, 167, 0, 4, 3, 126, 61, 42, 180, 1, 183, 27, 51, 154, 0, 15, 42, 6, 42]
abbrev dktX0_layRow_6 : List UInt8 := dkwX0_layRow_6 ++ dktX0_layRow_7
def dkwX0_layRow_5 : List UInt8 := [180, 1, 192, 27, 42, 42, 180, 1, 34, 27, 46, 4, 96, 182, 1, 156, 79, 28, 42, 180, 1, 192, 27, 46]
abbrev dktX0_layRow_5 : List UInt8 := dkwX0_layRow_5 ++ dktX0_layRow_6
def dkwX0_layRow_4 : List UInt8 := [162, 0, 15, 42, 180, 1, 189, 6, 27, 104, 29, 96, 21, 4, 79, 132, 3, 1, 167, 255, 186, 42]
abbrev dktX0_layRow_4 : List UInt8 := dkwX0_layRow_4 ++ dktX0_layRow_5
def dkwX0_layRow_3 : List UInt8 := [182, 1, 156, 54, 4, 28, 21, 4, 16, 254, 159, 0, 7, 4, 167, 0, 4, 3, 126, 61, 29, 6]
abbrev dktX0_layRow_3 : List UInt8 := dkwX0_layRow_3 ++ dktX0_layRow_4
def dkwX0_layRow_2 : List UInt8 := [180, 1, 31, 27, 46, 100, 4, 100, 162, 0, 57, 42, 42, 180, 1, 31, 27, 46, 4, 96, 29, 96]
abbrev dktX0_layRow_2 : List UInt8 := dkwX0_layRow_2 ++ dktX0_layRow_3
def dkwX0_layRow_1 : List UInt8 := [180, 1, 31, 27, 46, 100, 4, 100, 184, 1, 151, 79, 4, 61, 3, 62, 29, 42, 180, 1, 34, 27, 46, 42]
abbrev dktX0_layRow_1 : List UInt8 := dkwX0_layRow_1 ++ dktX0_layRow_2
def dkwX0_layRow_0 : List UInt8 := [42, 180, 1, 183, 27, 42, 27, 182, 1, 186, 84, 42, 180, 1, 180, 27, 6, 42, 180, 1, 34, 27, 46, 42]
abbrev dktX0_layRow_0 : List UInt8 := dkwX0_layRow_0 ++ dktX0_layRow_1
theorem dksX0_layRow_0 : cX0_layRow.data.toList.drop 0 = dktX0_layRow_0 := by decide +kernel
theorem dksX0_layRow_1 : cX0_layRow.data.toList.drop 24 = dktX0_layRow_1 := dk_seg dksX0_layRow_0 24 rfl rfl
theorem dksX0_layRow_2 : cX0_layRow.data.toList.drop 48 = dktX0_layRow_2 := dk_seg dksX0_layRow_1 24 rfl rfl
theorem dksX0_layRow_3 : cX0_layRow.data.toList.drop 70 = dktX0_layRow_3 := dk_seg dksX0_layRow_2 22 rfl rfl
theorem dksX0_layRow_4 : cX0_layRow.data.toList.drop 92 = dktX0_layRow_4 := dk_seg dksX0_layRow_3 22 rfl rfl
theorem dksX0_layRow_5 : cX0_layRow.data.toList.drop 114 = dktX0_layRow_5 := dk_seg dksX0_layRow_4 22 rfl rfl
theorem dksX0_layRow_6 : cX0_layRow.data.toList.drop 138 = dktX0_layRow_6 := dk_seg dksX0_layRow_5 24 rfl rfl
theorem dksX0_layRow_7 : cX0_layRow.data.toList.drop 162 = dktX0_layRow_7 := dk_seg dksX0_layRow_6 24 rfl rfl
theorem dX0_layRow_0 : decode cX0_layRow 0 = .ok (.aload_n 0, 1) := dk_42 (dk_at dksX0_layRow_0 0 rfl rfl)
theorem dX0_layRow_1 : decode cX0_layRow 1 = .ok (.getfield 439, 3) := dk_180 1 183 (dk_at dksX0_layRow_0 1 rfl rfl)
theorem dX0_layRow_4 : decode cX0_layRow 4 = .ok (.iload_n 1, 1) := dk_27 (dk_at dksX0_layRow_0 4 rfl rfl)
theorem dX0_layRow_5 : decode cX0_layRow 5 = .ok (.aload_n 0, 1) := dk_42 (dk_at dksX0_layRow_0 5 rfl rfl)
theorem dX0_layRow_6 : decode cX0_layRow 6 = .ok (.iload_n 1, 1) := dk_27 (dk_at dksX0_layRow_0 6 rfl rfl)
theorem dX0_layRow_7 : decode cX0_layRow 7 = .ok (.invokevirtual 442, 3) := dk_182 1 186 (dk_at dksX0_layRow_0 7 rfl rfl)
theorem dX0_layRow_10 : decode cX0_layRow 10 = .ok (.bastore, 1) := dk_84 (dk_at dksX0_layRow_0 10 rfl rfl)
theorem dX0_layRow_11 : decode cX0_layRow 11 = .ok (.aload_n 0, 1) := dk_42 (dk_at dksX0_layRow_0 11 rfl rfl)
theorem dX0_layRow_12 : decode cX0_layRow 12 = .ok (.getfield 436, 3) := dk_180 1 180 (dk_at dksX0_layRow_0 12 rfl rfl)
theorem dX0_layRow_15 : decode cX0_layRow 15 = .ok (.iload_n 1, 1) := dk_27 (dk_at dksX0_layRow_0 15 rfl rfl)
theorem dX0_layRow_16 : decode cX0_layRow 16 = .ok (.iconst 3, 1) := dk_6 (dk_at dksX0_layRow_0 16 rfl rfl)
theorem dX0_layRow_17 : decode cX0_layRow 17 = .ok (.aload_n 0, 1) := dk_42 (dk_at dksX0_layRow_0 17 rfl rfl)
theorem dX0_layRow_18 : decode cX0_layRow 18 = .ok (.getfield 290, 3) := dk_180 1 34 (dk_at dksX0_layRow_0 18 rfl rfl)
theorem dX0_layRow_21 : decode cX0_layRow 21 = .ok (.iload_n 1, 1) := dk_27 (dk_at dksX0_layRow_0 21 rfl rfl)
theorem dX0_layRow_22 : decode cX0_layRow 22 = .ok (.iaload, 1) := dk_46 (dk_at dksX0_layRow_0 22 rfl rfl)
theorem dX0_layRow_23 : decode cX0_layRow 23 = .ok (.aload_n 0, 1) := dk_42 (dk_at dksX0_layRow_0 23 rfl rfl)
theorem dX0_layRow_24 : decode cX0_layRow 24 = .ok (.getfield 287, 3) := dk_180 1 31 (dk_at dksX0_layRow_1 0 rfl rfl)
theorem dX0_layRow_27 : decode cX0_layRow 27 = .ok (.iload_n 1, 1) := dk_27 (dk_at dksX0_layRow_1 3 rfl rfl)
theorem dX0_layRow_28 : decode cX0_layRow 28 = .ok (.iaload, 1) := dk_46 (dk_at dksX0_layRow_1 4 rfl rfl)
theorem dX0_layRow_29 : decode cX0_layRow 29 = .ok (.isub, 1) := dk_100 (dk_at dksX0_layRow_1 5 rfl rfl)
theorem dX0_layRow_30 : decode cX0_layRow 30 = .ok (.iconst 1, 1) := dk_4 (dk_at dksX0_layRow_1 6 rfl rfl)
theorem dX0_layRow_31 : decode cX0_layRow 31 = .ok (.isub, 1) := dk_100 (dk_at dksX0_layRow_1 7 rfl rfl)
theorem dX0_layRow_32 : decode cX0_layRow 32 = .ok (.invokestatic 407, 3) := dk_184 1 151 (dk_at dksX0_layRow_1 8 rfl rfl)
theorem dX0_layRow_35 : decode cX0_layRow 35 = .ok (.iastore, 1) := dk_79 (dk_at dksX0_layRow_1 11 rfl rfl)
theorem dX0_layRow_36 : decode cX0_layRow 36 = .ok (.iconst 1, 1) := dk_4 (dk_at dksX0_layRow_1 12 rfl rfl)
theorem dX0_layRow_37 : decode cX0_layRow 37 = .ok (.istore_n 2, 1) := dk_61 (dk_at dksX0_layRow_1 13 rfl rfl)
theorem dX0_layRow_38 : decode cX0_layRow 38 = .ok (.iconst 0, 1) := dk_3 (dk_at dksX0_layRow_1 14 rfl rfl)
theorem dX0_layRow_39 : decode cX0_layRow 39 = .ok (.istore_n 3, 1) := dk_62 (dk_at dksX0_layRow_1 15 rfl rfl)
theorem dX0_layRow_40 : decode cX0_layRow 40 = .ok (.iload_n 3, 1) := dk_29 (dk_at dksX0_layRow_1 16 rfl rfl)
theorem dX0_layRow_41 : decode cX0_layRow 41 = .ok (.aload_n 0, 1) := dk_42 (dk_at dksX0_layRow_1 17 rfl rfl)
theorem dX0_layRow_42 : decode cX0_layRow 42 = .ok (.getfield 290, 3) := dk_180 1 34 (dk_at dksX0_layRow_1 18 rfl rfl)
theorem dX0_layRow_45 : decode cX0_layRow 45 = .ok (.iload_n 1, 1) := dk_27 (dk_at dksX0_layRow_1 21 rfl rfl)
theorem dX0_layRow_46 : decode cX0_layRow 46 = .ok (.iaload, 1) := dk_46 (dk_at dksX0_layRow_1 22 rfl rfl)
theorem dX0_layRow_47 : decode cX0_layRow 47 = .ok (.aload_n 0, 1) := dk_42 (dk_at dksX0_layRow_1 23 rfl rfl)
theorem dX0_layRow_48 : decode cX0_layRow 48 = .ok (.getfield 287, 3) := dk_180 1 31 (dk_at dksX0_layRow_2 0 rfl rfl)
theorem dX0_layRow_51 : decode cX0_layRow 51 = .ok (.iload_n 1, 1) := dk_27 (dk_at dksX0_layRow_2 3 rfl rfl)
theorem dX0_layRow_52 : decode cX0_layRow 52 = .ok (.iaload, 1) := dk_46 (dk_at dksX0_layRow_2 4 rfl rfl)
theorem dX0_layRow_53 : decode cX0_layRow 53 = .ok (.isub, 1) := dk_100 (dk_at dksX0_layRow_2 5 rfl rfl)
theorem dX0_layRow_54 : decode cX0_layRow 54 = .ok (.iconst 1, 1) := dk_4 (dk_at dksX0_layRow_2 6 rfl rfl)
theorem dX0_layRow_55 : decode cX0_layRow 55 = .ok (.isub, 1) := dk_100 (dk_at dksX0_layRow_2 7 rfl rfl)
theorem dX0_layRow_56 : decode cX0_layRow 56 = .ok (.if_icmp .ge 57, 3) := dk_162 0 57 (dk_at dksX0_layRow_2 8 rfl rfl)
theorem dX0_layRow_59 : decode cX0_layRow 59 = .ok (.aload_n 0, 1) := dk_42 (dk_at dksX0_layRow_2 11 rfl rfl)
theorem dX0_layRow_60 : decode cX0_layRow 60 = .ok (.aload_n 0, 1) := dk_42 (dk_at dksX0_layRow_2 12 rfl rfl)
theorem dX0_layRow_61 : decode cX0_layRow 61 = .ok (.getfield 287, 3) := dk_180 1 31 (dk_at dksX0_layRow_2 13 rfl rfl)
theorem dX0_layRow_64 : decode cX0_layRow 64 = .ok (.iload_n 1, 1) := dk_27 (dk_at dksX0_layRow_2 16 rfl rfl)
theorem dX0_layRow_65 : decode cX0_layRow 65 = .ok (.iaload, 1) := dk_46 (dk_at dksX0_layRow_2 17 rfl rfl)
theorem dX0_layRow_66 : decode cX0_layRow 66 = .ok (.iconst 1, 1) := dk_4 (dk_at dksX0_layRow_2 18 rfl rfl)
theorem dX0_layRow_67 : decode cX0_layRow 67 = .ok (.iadd, 1) := dk_96 (dk_at dksX0_layRow_2 19 rfl rfl)
theorem dX0_layRow_68 : decode cX0_layRow 68 = .ok (.iload_n 3, 1) := dk_29 (dk_at dksX0_layRow_2 20 rfl rfl)
theorem dX0_layRow_69 : decode cX0_layRow 69 = .ok (.iadd, 1) := dk_96 (dk_at dksX0_layRow_2 21 rfl rfl)
theorem dX0_layRow_70 : decode cX0_layRow 70 = .ok (.invokevirtual 412, 3) := dk_182 1 156 (dk_at dksX0_layRow_3 0 rfl rfl)
theorem dX0_layRow_73 : decode cX0_layRow 73 = .ok (.istore 4, 2) := dk_54 4 (dk_at dksX0_layRow_3 3 rfl rfl)
theorem dX0_layRow_75 : decode cX0_layRow 75 = .ok (.iload_n 2, 1) := dk_28 (dk_at dksX0_layRow_3 5 rfl rfl)
theorem dX0_layRow_76 : decode cX0_layRow 76 = .ok (.iload 4, 2) := dk_21 4 (dk_at dksX0_layRow_3 6 rfl rfl)
theorem dX0_layRow_78 : decode cX0_layRow 78 = .ok (.bipush (-2), 2) := dk_16 254 (dk_at dksX0_layRow_3 8 rfl rfl)
theorem dX0_layRow_80 : decode cX0_layRow 80 = .ok (.if_icmp .eq 7, 3) := dk_159 0 7 (dk_at dksX0_layRow_3 10 rfl rfl)
theorem dX0_layRow_83 : decode cX0_layRow 83 = .ok (.iconst 1, 1) := dk_4 (dk_at dksX0_layRow_3 13 rfl rfl)
theorem dX0_layRow_84 : decode cX0_layRow 84 = .ok (.goto 4, 3) := dk_167 0 4 (dk_at dksX0_layRow_3 14 rfl rfl)
theorem dX0_layRow_87 : decode cX0_layRow 87 = .ok (.iconst 0, 1) := dk_3 (dk_at dksX0_layRow_3 17 rfl rfl)
theorem dX0_layRow_88 : decode cX0_layRow 88 = .ok (.iand, 1) := dk_126 (dk_at dksX0_layRow_3 18 rfl rfl)
theorem dX0_layRow_89 : decode cX0_layRow 89 = .ok (.istore_n 2, 1) := dk_61 (dk_at dksX0_layRow_3 19 rfl rfl)
theorem dX0_layRow_90 : decode cX0_layRow 90 = .ok (.iload_n 3, 1) := dk_29 (dk_at dksX0_layRow_3 20 rfl rfl)
theorem dX0_layRow_91 : decode cX0_layRow 91 = .ok (.iconst 3, 1) := dk_6 (dk_at dksX0_layRow_3 21 rfl rfl)
theorem dX0_layRow_92 : decode cX0_layRow 92 = .ok (.if_icmp .ge 15, 3) := dk_162 0 15 (dk_at dksX0_layRow_4 0 rfl rfl)
theorem dX0_layRow_95 : decode cX0_layRow 95 = .ok (.aload_n 0, 1) := dk_42 (dk_at dksX0_layRow_4 3 rfl rfl)
theorem dX0_layRow_96 : decode cX0_layRow 96 = .ok (.getfield 445, 3) := dk_180 1 189 (dk_at dksX0_layRow_4 4 rfl rfl)
theorem dX0_layRow_99 : decode cX0_layRow 99 = .ok (.iconst 3, 1) := dk_6 (dk_at dksX0_layRow_4 7 rfl rfl)
theorem dX0_layRow_100 : decode cX0_layRow 100 = .ok (.iload_n 1, 1) := dk_27 (dk_at dksX0_layRow_4 8 rfl rfl)
theorem dX0_layRow_101 : decode cX0_layRow 101 = .ok (.imul, 1) := dk_104 (dk_at dksX0_layRow_4 9 rfl rfl)
theorem dX0_layRow_102 : decode cX0_layRow 102 = .ok (.iload_n 3, 1) := dk_29 (dk_at dksX0_layRow_4 10 rfl rfl)
theorem dX0_layRow_103 : decode cX0_layRow 103 = .ok (.iadd, 1) := dk_96 (dk_at dksX0_layRow_4 11 rfl rfl)
theorem dX0_layRow_104 : decode cX0_layRow 104 = .ok (.iload 4, 2) := dk_21 4 (dk_at dksX0_layRow_4 12 rfl rfl)
theorem dX0_layRow_106 : decode cX0_layRow 106 = .ok (.iastore, 1) := dk_79 (dk_at dksX0_layRow_4 14 rfl rfl)
theorem dX0_layRow_107 : decode cX0_layRow 107 = .ok (.iinc 3 1, 3) := dk_132 3 1 (dk_at dksX0_layRow_4 15 rfl rfl)
theorem dX0_layRow_110 : decode cX0_layRow 110 = .ok (.goto (-70), 3) := dk_167 255 186 (dk_at dksX0_layRow_4 18 rfl rfl)
theorem dX0_layRow_113 : decode cX0_layRow 113 = .ok (.aload_n 0, 1) := dk_42 (dk_at dksX0_layRow_4 21 rfl rfl)
theorem dX0_layRow_114 : decode cX0_layRow 114 = .ok (.getfield 448, 3) := dk_180 1 192 (dk_at dksX0_layRow_5 0 rfl rfl)
theorem dX0_layRow_117 : decode cX0_layRow 117 = .ok (.iload_n 1, 1) := dk_27 (dk_at dksX0_layRow_5 3 rfl rfl)
theorem dX0_layRow_118 : decode cX0_layRow 118 = .ok (.aload_n 0, 1) := dk_42 (dk_at dksX0_layRow_5 4 rfl rfl)
theorem dX0_layRow_119 : decode cX0_layRow 119 = .ok (.aload_n 0, 1) := dk_42 (dk_at dksX0_layRow_5 5 rfl rfl)
theorem dX0_layRow_120 : decode cX0_layRow 120 = .ok (.getfield 290, 3) := dk_180 1 34 (dk_at dksX0_layRow_5 6 rfl rfl)
theorem dX0_layRow_123 : decode cX0_layRow 123 = .ok (.iload_n 1, 1) := dk_27 (dk_at dksX0_layRow_5 9 rfl rfl)
theorem dX0_layRow_124 : decode cX0_layRow 124 = .ok (.iaload, 1) := dk_46 (dk_at dksX0_layRow_5 10 rfl rfl)
theorem dX0_layRow_125 : decode cX0_layRow 125 = .ok (.iconst 1, 1) := dk_4 (dk_at dksX0_layRow_5 11 rfl rfl)
theorem dX0_layRow_126 : decode cX0_layRow 126 = .ok (.iadd, 1) := dk_96 (dk_at dksX0_layRow_5 12 rfl rfl)
theorem dX0_layRow_127 : decode cX0_layRow 127 = .ok (.invokevirtual 412, 3) := dk_182 1 156 (dk_at dksX0_layRow_5 13 rfl rfl)
theorem dX0_layRow_130 : decode cX0_layRow 130 = .ok (.iastore, 1) := dk_79 (dk_at dksX0_layRow_5 16 rfl rfl)
theorem dX0_layRow_131 : decode cX0_layRow 131 = .ok (.iload_n 2, 1) := dk_28 (dk_at dksX0_layRow_5 17 rfl rfl)
theorem dX0_layRow_132 : decode cX0_layRow 132 = .ok (.aload_n 0, 1) := dk_42 (dk_at dksX0_layRow_5 18 rfl rfl)
theorem dX0_layRow_133 : decode cX0_layRow 133 = .ok (.getfield 448, 3) := dk_180 1 192 (dk_at dksX0_layRow_5 19 rfl rfl)
theorem dX0_layRow_136 : decode cX0_layRow 136 = .ok (.iload_n 1, 1) := dk_27 (dk_at dksX0_layRow_5 22 rfl rfl)
theorem dX0_layRow_137 : decode cX0_layRow 137 = .ok (.iaload, 1) := dk_46 (dk_at dksX0_layRow_5 23 rfl rfl)
theorem dX0_layRow_138 : decode cX0_layRow 138 = .ok (.bipush (-2), 2) := dk_16 254 (dk_at dksX0_layRow_6 0 rfl rfl)
theorem dX0_layRow_140 : decode cX0_layRow 140 = .ok (.if_icmp .eq 7, 3) := dk_159 0 7 (dk_at dksX0_layRow_6 2 rfl rfl)
theorem dX0_layRow_143 : decode cX0_layRow 143 = .ok (.iconst 1, 1) := dk_4 (dk_at dksX0_layRow_6 5 rfl rfl)
theorem dX0_layRow_144 : decode cX0_layRow 144 = .ok (.goto 4, 3) := dk_167 0 4 (dk_at dksX0_layRow_6 6 rfl rfl)
theorem dX0_layRow_147 : decode cX0_layRow 147 = .ok (.iconst 0, 1) := dk_3 (dk_at dksX0_layRow_6 9 rfl rfl)
theorem dX0_layRow_148 : decode cX0_layRow 148 = .ok (.iand, 1) := dk_126 (dk_at dksX0_layRow_6 10 rfl rfl)
theorem dX0_layRow_149 : decode cX0_layRow 149 = .ok (.istore_n 2, 1) := dk_61 (dk_at dksX0_layRow_6 11 rfl rfl)
theorem dX0_layRow_150 : decode cX0_layRow 150 = .ok (.aload_n 0, 1) := dk_42 (dk_at dksX0_layRow_6 12 rfl rfl)
theorem dX0_layRow_151 : decode cX0_layRow 151 = .ok (.getfield 439, 3) := dk_180 1 183 (dk_at dksX0_layRow_6 13 rfl rfl)
theorem dX0_layRow_154 : decode cX0_layRow 154 = .ok (.iload_n 1, 1) := dk_27 (dk_at dksX0_layRow_6 16 rfl rfl)
theorem dX0_layRow_155 : decode cX0_layRow 155 = .ok (.baload, 1) := dk_51 (dk_at dksX0_layRow_6 17 rfl rfl)
theorem dX0_layRow_156 : decode cX0_layRow 156 = .ok (.ifCond .ne 15, 3) := dk_154 0 15 (dk_at dksX0_layRow_6 18 rfl rfl)
theorem dX0_layRow_159 : decode cX0_layRow 159 = .ok (.aload_n 0, 1) := dk_42 (dk_at dksX0_layRow_6 21 rfl rfl)
theorem dX0_layRow_160 : decode cX0_layRow 160 = .ok (.iconst 3, 1) := dk_6 (dk_at dksX0_layRow_6 22 rfl rfl)
theorem dX0_layRow_161 : decode cX0_layRow 161 = .ok (.aload_n 0, 1) := dk_42 (dk_at dksX0_layRow_6 23 rfl rfl)
theorem dX0_layRow_162 : decode cX0_layRow 162 = .ok (.getfield 281, 3) := dk_180 1 25 (dk_at dksX0_layRow_7 0 rfl rfl)
theorem dX0_layRow_165 : decode cX0_layRow 165 = .ok (.iload_n 1, 1) := dk_27 (dk_at dksX0_layRow_7 3 rfl rfl)
theorem dX0_layRow_166 : decode cX0_layRow 166 = .ok (.iaload, 1) := dk_46 (dk_at dksX0_layRow_7 4 rfl rfl)
theorem dX0_layRow_167 : decode cX0_layRow 167 = .ok (.invokevirtual 132, 3) := dk_182 0 132 (dk_at dksX0_layRow_7 5 rfl rfl)
theorem dX0_layRow_170 : decode cX0_layRow 170 = .ok (.istore_n 3, 1) := dk_62 (dk_at dksX0_layRow_7 8 rfl rfl)
theorem dX0_layRow_171 : decode cX0_layRow 171 = .ok (.aload_n 0, 1) := dk_42 (dk_at dksX0_layRow_7 9 rfl rfl)
theorem dX0_layRow_172 : decode cX0_layRow 172 = .ok (.getfield 439, 3) := dk_180 1 183 (dk_at dksX0_layRow_7 10 rfl rfl)
theorem dX0_layRow_175 : decode cX0_layRow 175 = .ok (.iload_n 1, 1) := dk_27 (dk_at dksX0_layRow_7 13 rfl rfl)
theorem dX0_layRow_176 : decode cX0_layRow 176 = .ok (.dup2, 1) := dk_92 (dk_at dksX0_layRow_7 14 rfl rfl)
theorem dX0_layRow_177 : decode cX0_layRow 177 = .ok (.baload, 1) := dk_51 (dk_at dksX0_layRow_7 15 rfl rfl)
theorem dX0_layRow_178 : decode cX0_layRow 178 = .ok (.iload_n 2, 1) := dk_28 (dk_at dksX0_layRow_7 16 rfl rfl)
theorem dX0_layRow_179 : decode cX0_layRow 179 = .ok (.iand, 1) := dk_126 (dk_at dksX0_layRow_7 17 rfl rfl)
theorem dX0_layRow_180 : decode cX0_layRow 180 = .ok (.bastore, 1) := dk_84 (dk_at dksX0_layRow_7 18 rfl rfl)
theorem dX0_layRow_181 : decode cX0_layRow 181 = .ok (.return_, 1) := dk_177 (dk_at dksX0_layRow_7 19 rfl rfl)
abbrev cX0_layForm : ByteArray := prog_1_method_48_code
def yX0_layForm : MethodName := ⟨RX0, "layForm", "(I)Z"⟩
def dkwX0_layForm_12 : List UInt8 := [42, 180, 1, 162, 27, 46, 4, 164, 0, 7, 4, 167, 0, 4, 3, 172]
abbrev dktX0_layForm_12 : List UInt8 := dkwX0_layForm_12 ++ []
def dkwX0_layForm_11 : List UInt8 := [21, 4, 182, 1, 171, 153, 0, 7, 4, 167, 0, 4, 3, 172, 28, 21, 4, 160, 0, 21, 28, 153, 0, 13]
abbrev dktX0_layForm_11 : List UInt8 := dkwX0_layForm_11 ++ dktX0_layForm_12
def dkwX0_layForm_10 : List UInt8 := [27, 46, 100, 4, 160, 0, 31, 42, 180, 0, 108, 42, 180, 1, 28, 27, 46, 46, 154, 0, 17, 42, 27]
abbrev dktX0_layForm_10 : List UInt8 := dkwX0_layForm_10 ++ dktX0_layForm_11
def dkwX0_layForm_9 : List UInt8 := [164, 0, 5, 3, 172, 28, 154, 0, 55, 21, 4, 158, 0, 50, 42, 180, 1, 31, 27, 46, 42, 180, 1, 28]
abbrev dktX0_layForm_9 : List UInt8 := dkwX0_layForm_9 ++ dktX0_layForm_10
def dkwX0_layForm_8 : List UInt8 := [180, 1, 34, 27, 46, 42, 180, 1, 31, 27, 46, 100, 4, 100, 54, 4, 29, 153, 0, 9, 21, 4, 6]
abbrev dktX0_layForm_8 : List UInt8 := dkwX0_layForm_8 ++ dktX0_layForm_9
def dkwX0_layForm_7 : List UInt8 := [2, 182, 1, 168, 126, 62, 132, 2, 1, 132, 6, 1, 167, 255, 124, 132, 4, 1, 167, 255, 94, 42]
abbrev dktX0_layForm_7 : List UInt8 := dkwX0_layForm_7 ++ dktX0_layForm_8
def dkwX0_layForm_6 : List UInt8 := [153, 0, 7, 4, 167, 0, 4, 3, 126, 62, 21, 6, 4, 96, 54, 5, 21, 7, 153, 0, 15, 29, 42, 27]
abbrev dktX0_layForm_6 : List UInt8 := dkwX0_layForm_6 ++ dktX0_layForm_7
def dkwX0_layForm_5 : List UInt8 := [27, 46, 16, 12, 162, 0, 27, 42, 27, 42, 42, 180, 0, 27, 21, 5, 21, 6, 182, 0, 120, 182, 1, 168]
abbrev dktX0_layForm_5 : List UInt8 := dkwX0_layForm_5 ++ dktX0_layForm_6
def dkwX0_layForm_4 : List UInt8 := [21, 6, 42, 180, 0, 114, 21, 4, 46, 160, 0, 55, 29, 21, 6, 21, 5, 159, 0, 34, 42, 180, 1, 162]
abbrev dktX0_layForm_4 : List UInt8 := dkwX0_layForm_4 ++ dktX0_layForm_5
def dkwX0_layForm_3 : List UInt8 := [180, 0, 27, 21, 6, 51, 16, 95, 160, 0, 7, 4, 167, 0, 4, 3, 54, 7, 21, 7, 154, 0, 15]
abbrev dktX0_layForm_3 : List UInt8 := dkwX0_layForm_3 ++ dktX0_layForm_4
def dkwX0_layForm_2 : List UInt8 := [180, 0, 114, 21, 4, 46, 163, 0, 126, 21, 6, 42, 180, 0, 114, 21, 4, 46, 162, 0, 19, 42]
abbrev dktX0_layForm_2 : List UInt8 := dkwX0_layForm_2 ++ dktX0_layForm_3
def dkwX0_layForm_1 : List UInt8 := [180, 1, 31, 27, 46, 162, 0, 157, 42, 180, 0, 111, 21, 4, 46, 54, 5, 21, 5, 54, 6, 21, 6, 42]
abbrev dktX0_layForm_1 : List UInt8 := dkwX0_layForm_1 ++ dktX0_layForm_2
def dkwX0_layForm_0 : List UInt8 := [42, 180, 1, 162, 27, 3, 79, 3, 61, 4, 62, 42, 180, 1, 28, 27, 46, 54, 4, 21, 4, 42]
abbrev dktX0_layForm_0 : List UInt8 := dkwX0_layForm_0 ++ dktX0_layForm_1
theorem dksX0_layForm_0 : cX0_layForm.data.toList.drop 0 = dktX0_layForm_0 := by decide +kernel
theorem dksX0_layForm_1 : cX0_layForm.data.toList.drop 22 = dktX0_layForm_1 := dk_seg dksX0_layForm_0 22 rfl rfl
theorem dksX0_layForm_2 : cX0_layForm.data.toList.drop 46 = dktX0_layForm_2 := dk_seg dksX0_layForm_1 24 rfl rfl
theorem dksX0_layForm_3 : cX0_layForm.data.toList.drop 68 = dktX0_layForm_3 := dk_seg dksX0_layForm_2 22 rfl rfl
theorem dksX0_layForm_4 : cX0_layForm.data.toList.drop 91 = dktX0_layForm_4 := dk_seg dksX0_layForm_3 23 rfl rfl
theorem dksX0_layForm_5 : cX0_layForm.data.toList.drop 115 = dktX0_layForm_5 := dk_seg dksX0_layForm_4 24 rfl rfl
theorem dksX0_layForm_6 : cX0_layForm.data.toList.drop 139 = dktX0_layForm_6 := dk_seg dksX0_layForm_5 24 rfl rfl
theorem dksX0_layForm_7 : cX0_layForm.data.toList.drop 163 = dktX0_layForm_7 := dk_seg dksX0_layForm_6 24 rfl rfl
theorem dksX0_layForm_8 : cX0_layForm.data.toList.drop 185 = dktX0_layForm_8 := dk_seg dksX0_layForm_7 22 rfl rfl
theorem dksX0_layForm_9 : cX0_layForm.data.toList.drop 208 = dktX0_layForm_9 := dk_seg dksX0_layForm_8 23 rfl rfl
theorem dksX0_layForm_10 : cX0_layForm.data.toList.drop 232 = dktX0_layForm_10 := dk_seg dksX0_layForm_9 24 rfl rfl
theorem dksX0_layForm_11 : cX0_layForm.data.toList.drop 255 = dktX0_layForm_11 := dk_seg dksX0_layForm_10 23 rfl rfl
theorem dksX0_layForm_12 : cX0_layForm.data.toList.drop 279 = dktX0_layForm_12 := dk_seg dksX0_layForm_11 24 rfl rfl
theorem dX0_layForm_0 : decode cX0_layForm 0 = .ok (.aload_n 0, 1) := dk_42 (dk_at dksX0_layForm_0 0 rfl rfl)
theorem dX0_layForm_1 : decode cX0_layForm 1 = .ok (.getfield 418, 3) := dk_180 1 162 (dk_at dksX0_layForm_0 1 rfl rfl)
theorem dX0_layForm_4 : decode cX0_layForm 4 = .ok (.iload_n 1, 1) := dk_27 (dk_at dksX0_layForm_0 4 rfl rfl)
theorem dX0_layForm_5 : decode cX0_layForm 5 = .ok (.iconst 0, 1) := dk_3 (dk_at dksX0_layForm_0 5 rfl rfl)
theorem dX0_layForm_6 : decode cX0_layForm 6 = .ok (.iastore, 1) := dk_79 (dk_at dksX0_layForm_0 6 rfl rfl)
theorem dX0_layForm_7 : decode cX0_layForm 7 = .ok (.iconst 0, 1) := dk_3 (dk_at dksX0_layForm_0 7 rfl rfl)
theorem dX0_layForm_8 : decode cX0_layForm 8 = .ok (.istore_n 2, 1) := dk_61 (dk_at dksX0_layForm_0 8 rfl rfl)
theorem dX0_layForm_9 : decode cX0_layForm 9 = .ok (.iconst 1, 1) := dk_4 (dk_at dksX0_layForm_0 9 rfl rfl)
theorem dX0_layForm_10 : decode cX0_layForm 10 = .ok (.istore_n 3, 1) := dk_62 (dk_at dksX0_layForm_0 10 rfl rfl)
theorem dX0_layForm_11 : decode cX0_layForm 11 = .ok (.aload_n 0, 1) := dk_42 (dk_at dksX0_layForm_0 11 rfl rfl)
theorem dX0_layForm_12 : decode cX0_layForm 12 = .ok (.getfield 284, 3) := dk_180 1 28 (dk_at dksX0_layForm_0 12 rfl rfl)
theorem dX0_layForm_15 : decode cX0_layForm 15 = .ok (.iload_n 1, 1) := dk_27 (dk_at dksX0_layForm_0 15 rfl rfl)
theorem dX0_layForm_16 : decode cX0_layForm 16 = .ok (.iaload, 1) := dk_46 (dk_at dksX0_layForm_0 16 rfl rfl)
theorem dX0_layForm_17 : decode cX0_layForm 17 = .ok (.istore 4, 2) := dk_54 4 (dk_at dksX0_layForm_0 17 rfl rfl)
theorem dX0_layForm_19 : decode cX0_layForm 19 = .ok (.iload 4, 2) := dk_21 4 (dk_at dksX0_layForm_0 19 rfl rfl)
theorem dX0_layForm_21 : decode cX0_layForm 21 = .ok (.aload_n 0, 1) := dk_42 (dk_at dksX0_layForm_0 21 rfl rfl)
theorem dX0_layForm_22 : decode cX0_layForm 22 = .ok (.getfield 287, 3) := dk_180 1 31 (dk_at dksX0_layForm_1 0 rfl rfl)
theorem dX0_layForm_25 : decode cX0_layForm 25 = .ok (.iload_n 1, 1) := dk_27 (dk_at dksX0_layForm_1 3 rfl rfl)
theorem dX0_layForm_26 : decode cX0_layForm 26 = .ok (.iaload, 1) := dk_46 (dk_at dksX0_layForm_1 4 rfl rfl)
theorem dX0_layForm_27 : decode cX0_layForm 27 = .ok (.if_icmp .ge 157, 3) := dk_162 0 157 (dk_at dksX0_layForm_1 5 rfl rfl)
theorem dX0_layForm_30 : decode cX0_layForm 30 = .ok (.aload_n 0, 1) := dk_42 (dk_at dksX0_layForm_1 8 rfl rfl)
theorem dX0_layForm_31 : decode cX0_layForm 31 = .ok (.getfield 111, 3) := dk_180 0 111 (dk_at dksX0_layForm_1 9 rfl rfl)
theorem dX0_layForm_34 : decode cX0_layForm 34 = .ok (.iload 4, 2) := dk_21 4 (dk_at dksX0_layForm_1 12 rfl rfl)
theorem dX0_layForm_36 : decode cX0_layForm 36 = .ok (.iaload, 1) := dk_46 (dk_at dksX0_layForm_1 14 rfl rfl)
theorem dX0_layForm_37 : decode cX0_layForm 37 = .ok (.istore 5, 2) := dk_54 5 (dk_at dksX0_layForm_1 15 rfl rfl)
theorem dX0_layForm_39 : decode cX0_layForm 39 = .ok (.iload 5, 2) := dk_21 5 (dk_at dksX0_layForm_1 17 rfl rfl)
theorem dX0_layForm_41 : decode cX0_layForm 41 = .ok (.istore 6, 2) := dk_54 6 (dk_at dksX0_layForm_1 19 rfl rfl)
theorem dX0_layForm_43 : decode cX0_layForm 43 = .ok (.iload 6, 2) := dk_21 6 (dk_at dksX0_layForm_1 21 rfl rfl)
theorem dX0_layForm_45 : decode cX0_layForm 45 = .ok (.aload_n 0, 1) := dk_42 (dk_at dksX0_layForm_1 23 rfl rfl)
theorem dX0_layForm_46 : decode cX0_layForm 46 = .ok (.getfield 114, 3) := dk_180 0 114 (dk_at dksX0_layForm_2 0 rfl rfl)
theorem dX0_layForm_49 : decode cX0_layForm 49 = .ok (.iload 4, 2) := dk_21 4 (dk_at dksX0_layForm_2 3 rfl rfl)
theorem dX0_layForm_51 : decode cX0_layForm 51 = .ok (.iaload, 1) := dk_46 (dk_at dksX0_layForm_2 5 rfl rfl)
theorem dX0_layForm_52 : decode cX0_layForm 52 = .ok (.if_icmp .gt 126, 3) := dk_163 0 126 (dk_at dksX0_layForm_2 6 rfl rfl)
theorem dX0_layForm_55 : decode cX0_layForm 55 = .ok (.iload 6, 2) := dk_21 6 (dk_at dksX0_layForm_2 9 rfl rfl)
theorem dX0_layForm_57 : decode cX0_layForm 57 = .ok (.aload_n 0, 1) := dk_42 (dk_at dksX0_layForm_2 11 rfl rfl)
theorem dX0_layForm_58 : decode cX0_layForm 58 = .ok (.getfield 114, 3) := dk_180 0 114 (dk_at dksX0_layForm_2 12 rfl rfl)
theorem dX0_layForm_61 : decode cX0_layForm 61 = .ok (.iload 4, 2) := dk_21 4 (dk_at dksX0_layForm_2 15 rfl rfl)
theorem dX0_layForm_63 : decode cX0_layForm 63 = .ok (.iaload, 1) := dk_46 (dk_at dksX0_layForm_2 17 rfl rfl)
theorem dX0_layForm_64 : decode cX0_layForm 64 = .ok (.if_icmp .ge 19, 3) := dk_162 0 19 (dk_at dksX0_layForm_2 18 rfl rfl)
theorem dX0_layForm_67 : decode cX0_layForm 67 = .ok (.aload_n 0, 1) := dk_42 (dk_at dksX0_layForm_2 21 rfl rfl)
theorem dX0_layForm_68 : decode cX0_layForm 68 = .ok (.getfield 27, 3) := dk_180 0 27 (dk_at dksX0_layForm_3 0 rfl rfl)
theorem dX0_layForm_71 : decode cX0_layForm 71 = .ok (.iload 6, 2) := dk_21 6 (dk_at dksX0_layForm_3 3 rfl rfl)
theorem dX0_layForm_73 : decode cX0_layForm 73 = .ok (.baload, 1) := dk_51 (dk_at dksX0_layForm_3 5 rfl rfl)
theorem dX0_layForm_74 : decode cX0_layForm 74 = .ok (.bipush 95, 2) := dk_16 95 (dk_at dksX0_layForm_3 6 rfl rfl)
theorem dX0_layForm_76 : decode cX0_layForm 76 = .ok (.if_icmp .ne 7, 3) := dk_160 0 7 (dk_at dksX0_layForm_3 8 rfl rfl)
theorem dX0_layForm_79 : decode cX0_layForm 79 = .ok (.iconst 1, 1) := dk_4 (dk_at dksX0_layForm_3 11 rfl rfl)
theorem dX0_layForm_80 : decode cX0_layForm 80 = .ok (.goto 4, 3) := dk_167 0 4 (dk_at dksX0_layForm_3 12 rfl rfl)
theorem dX0_layForm_83 : decode cX0_layForm 83 = .ok (.iconst 0, 1) := dk_3 (dk_at dksX0_layForm_3 15 rfl rfl)
theorem dX0_layForm_84 : decode cX0_layForm 84 = .ok (.istore 7, 2) := dk_54 7 (dk_at dksX0_layForm_3 16 rfl rfl)
theorem dX0_layForm_86 : decode cX0_layForm 86 = .ok (.iload 7, 2) := dk_21 7 (dk_at dksX0_layForm_3 18 rfl rfl)
theorem dX0_layForm_88 : decode cX0_layForm 88 = .ok (.ifCond .ne 15, 3) := dk_154 0 15 (dk_at dksX0_layForm_3 20 rfl rfl)
theorem dX0_layForm_91 : decode cX0_layForm 91 = .ok (.iload 6, 2) := dk_21 6 (dk_at dksX0_layForm_4 0 rfl rfl)
theorem dX0_layForm_93 : decode cX0_layForm 93 = .ok (.aload_n 0, 1) := dk_42 (dk_at dksX0_layForm_4 2 rfl rfl)
theorem dX0_layForm_94 : decode cX0_layForm 94 = .ok (.getfield 114, 3) := dk_180 0 114 (dk_at dksX0_layForm_4 3 rfl rfl)
theorem dX0_layForm_97 : decode cX0_layForm 97 = .ok (.iload 4, 2) := dk_21 4 (dk_at dksX0_layForm_4 6 rfl rfl)
theorem dX0_layForm_99 : decode cX0_layForm 99 = .ok (.iaload, 1) := dk_46 (dk_at dksX0_layForm_4 8 rfl rfl)
theorem dX0_layForm_100 : decode cX0_layForm 100 = .ok (.if_icmp .ne 55, 3) := dk_160 0 55 (dk_at dksX0_layForm_4 9 rfl rfl)
theorem dX0_layForm_103 : decode cX0_layForm 103 = .ok (.iload_n 3, 1) := dk_29 (dk_at dksX0_layForm_4 12 rfl rfl)
theorem dX0_layForm_104 : decode cX0_layForm 104 = .ok (.iload 6, 2) := dk_21 6 (dk_at dksX0_layForm_4 13 rfl rfl)
theorem dX0_layForm_106 : decode cX0_layForm 106 = .ok (.iload 5, 2) := dk_21 5 (dk_at dksX0_layForm_4 15 rfl rfl)
theorem dX0_layForm_108 : decode cX0_layForm 108 = .ok (.if_icmp .eq 34, 3) := dk_159 0 34 (dk_at dksX0_layForm_4 17 rfl rfl)
theorem dX0_layForm_111 : decode cX0_layForm 111 = .ok (.aload_n 0, 1) := dk_42 (dk_at dksX0_layForm_4 20 rfl rfl)
theorem dX0_layForm_112 : decode cX0_layForm 112 = .ok (.getfield 418, 3) := dk_180 1 162 (dk_at dksX0_layForm_4 21 rfl rfl)
theorem dX0_layForm_115 : decode cX0_layForm 115 = .ok (.iload_n 1, 1) := dk_27 (dk_at dksX0_layForm_5 0 rfl rfl)
theorem dX0_layForm_116 : decode cX0_layForm 116 = .ok (.iaload, 1) := dk_46 (dk_at dksX0_layForm_5 1 rfl rfl)
theorem dX0_layForm_117 : decode cX0_layForm 117 = .ok (.bipush 12, 2) := dk_16 12 (dk_at dksX0_layForm_5 2 rfl rfl)
theorem dX0_layForm_119 : decode cX0_layForm 119 = .ok (.if_icmp .ge 27, 3) := dk_162 0 27 (dk_at dksX0_layForm_5 4 rfl rfl)
theorem dX0_layForm_122 : decode cX0_layForm 122 = .ok (.aload_n 0, 1) := dk_42 (dk_at dksX0_layForm_5 7 rfl rfl)
theorem dX0_layForm_123 : decode cX0_layForm 123 = .ok (.iload_n 1, 1) := dk_27 (dk_at dksX0_layForm_5 8 rfl rfl)
theorem dX0_layForm_124 : decode cX0_layForm 124 = .ok (.aload_n 0, 1) := dk_42 (dk_at dksX0_layForm_5 9 rfl rfl)
theorem dX0_layForm_125 : decode cX0_layForm 125 = .ok (.aload_n 0, 1) := dk_42 (dk_at dksX0_layForm_5 10 rfl rfl)
theorem dX0_layForm_126 : decode cX0_layForm 126 = .ok (.getfield 27, 3) := dk_180 0 27 (dk_at dksX0_layForm_5 11 rfl rfl)
theorem dX0_layForm_129 : decode cX0_layForm 129 = .ok (.iload 5, 2) := dk_21 5 (dk_at dksX0_layForm_5 14 rfl rfl)
theorem dX0_layForm_131 : decode cX0_layForm 131 = .ok (.iload 6, 2) := dk_21 6 (dk_at dksX0_layForm_5 16 rfl rfl)
theorem dX0_layForm_133 : decode cX0_layForm 133 = .ok (.invokevirtual 120, 3) := dk_182 0 120 (dk_at dksX0_layForm_5 18 rfl rfl)
theorem dX0_layForm_136 : decode cX0_layForm 136 = .ok (.invokevirtual 424, 3) := dk_182 1 168 (dk_at dksX0_layForm_5 21 rfl rfl)
theorem dX0_layForm_139 : decode cX0_layForm 139 = .ok (.ifCond .eq 7, 3) := dk_153 0 7 (dk_at dksX0_layForm_6 0 rfl rfl)
theorem dX0_layForm_142 : decode cX0_layForm 142 = .ok (.iconst 1, 1) := dk_4 (dk_at dksX0_layForm_6 3 rfl rfl)
theorem dX0_layForm_143 : decode cX0_layForm 143 = .ok (.goto 4, 3) := dk_167 0 4 (dk_at dksX0_layForm_6 4 rfl rfl)
theorem dX0_layForm_146 : decode cX0_layForm 146 = .ok (.iconst 0, 1) := dk_3 (dk_at dksX0_layForm_6 7 rfl rfl)
theorem dX0_layForm_147 : decode cX0_layForm 147 = .ok (.iand, 1) := dk_126 (dk_at dksX0_layForm_6 8 rfl rfl)
theorem dX0_layForm_148 : decode cX0_layForm 148 = .ok (.istore_n 3, 1) := dk_62 (dk_at dksX0_layForm_6 9 rfl rfl)
theorem dX0_layForm_149 : decode cX0_layForm 149 = .ok (.iload 6, 2) := dk_21 6 (dk_at dksX0_layForm_6 10 rfl rfl)
theorem dX0_layForm_151 : decode cX0_layForm 151 = .ok (.iconst 1, 1) := dk_4 (dk_at dksX0_layForm_6 12 rfl rfl)
theorem dX0_layForm_152 : decode cX0_layForm 152 = .ok (.iadd, 1) := dk_96 (dk_at dksX0_layForm_6 13 rfl rfl)
theorem dX0_layForm_153 : decode cX0_layForm 153 = .ok (.istore 5, 2) := dk_54 5 (dk_at dksX0_layForm_6 14 rfl rfl)
theorem dX0_layForm_155 : decode cX0_layForm 155 = .ok (.iload 7, 2) := dk_21 7 (dk_at dksX0_layForm_6 16 rfl rfl)
theorem dX0_layForm_157 : decode cX0_layForm 157 = .ok (.ifCond .eq 15, 3) := dk_153 0 15 (dk_at dksX0_layForm_6 18 rfl rfl)
theorem dX0_layForm_160 : decode cX0_layForm 160 = .ok (.iload_n 3, 1) := dk_29 (dk_at dksX0_layForm_6 21 rfl rfl)
theorem dX0_layForm_161 : decode cX0_layForm 161 = .ok (.aload_n 0, 1) := dk_42 (dk_at dksX0_layForm_6 22 rfl rfl)
theorem dX0_layForm_162 : decode cX0_layForm 162 = .ok (.iload_n 1, 1) := dk_27 (dk_at dksX0_layForm_6 23 rfl rfl)
theorem dX0_layForm_163 : decode cX0_layForm 163 = .ok (.iconst (-1), 1) := dk_2 (dk_at dksX0_layForm_7 0 rfl rfl)
theorem dX0_layForm_164 : decode cX0_layForm 164 = .ok (.invokevirtual 424, 3) := dk_182 1 168 (dk_at dksX0_layForm_7 1 rfl rfl)
theorem dX0_layForm_167 : decode cX0_layForm 167 = .ok (.iand, 1) := dk_126 (dk_at dksX0_layForm_7 4 rfl rfl)
theorem dX0_layForm_168 : decode cX0_layForm 168 = .ok (.istore_n 3, 1) := dk_62 (dk_at dksX0_layForm_7 5 rfl rfl)
theorem dX0_layForm_169 : decode cX0_layForm 169 = .ok (.iinc 2 1, 3) := dk_132 2 1 (dk_at dksX0_layForm_7 6 rfl rfl)
theorem dX0_layForm_172 : decode cX0_layForm 172 = .ok (.iinc 6 1, 3) := dk_132 6 1 (dk_at dksX0_layForm_7 9 rfl rfl)
theorem dX0_layForm_175 : decode cX0_layForm 175 = .ok (.goto (-132), 3) := dk_167 255 124 (dk_at dksX0_layForm_7 12 rfl rfl)
theorem dX0_layForm_178 : decode cX0_layForm 178 = .ok (.iinc 4 1, 3) := dk_132 4 1 (dk_at dksX0_layForm_7 15 rfl rfl)
theorem dX0_layForm_181 : decode cX0_layForm 181 = .ok (.goto (-162), 3) := dk_167 255 94 (dk_at dksX0_layForm_7 18 rfl rfl)
theorem dX0_layForm_184 : decode cX0_layForm 184 = .ok (.aload_n 0, 1) := dk_42 (dk_at dksX0_layForm_7 21 rfl rfl)
theorem dX0_layForm_185 : decode cX0_layForm 185 = .ok (.getfield 290, 3) := dk_180 1 34 (dk_at dksX0_layForm_8 0 rfl rfl)
theorem dX0_layForm_188 : decode cX0_layForm 188 = .ok (.iload_n 1, 1) := dk_27 (dk_at dksX0_layForm_8 3 rfl rfl)
theorem dX0_layForm_189 : decode cX0_layForm 189 = .ok (.iaload, 1) := dk_46 (dk_at dksX0_layForm_8 4 rfl rfl)
theorem dX0_layForm_190 : decode cX0_layForm 190 = .ok (.aload_n 0, 1) := dk_42 (dk_at dksX0_layForm_8 5 rfl rfl)
theorem dX0_layForm_191 : decode cX0_layForm 191 = .ok (.getfield 287, 3) := dk_180 1 31 (dk_at dksX0_layForm_8 6 rfl rfl)
theorem dX0_layForm_194 : decode cX0_layForm 194 = .ok (.iload_n 1, 1) := dk_27 (dk_at dksX0_layForm_8 9 rfl rfl)
theorem dX0_layForm_195 : decode cX0_layForm 195 = .ok (.iaload, 1) := dk_46 (dk_at dksX0_layForm_8 10 rfl rfl)
theorem dX0_layForm_196 : decode cX0_layForm 196 = .ok (.isub, 1) := dk_100 (dk_at dksX0_layForm_8 11 rfl rfl)
theorem dX0_layForm_197 : decode cX0_layForm 197 = .ok (.iconst 1, 1) := dk_4 (dk_at dksX0_layForm_8 12 rfl rfl)
theorem dX0_layForm_198 : decode cX0_layForm 198 = .ok (.isub, 1) := dk_100 (dk_at dksX0_layForm_8 13 rfl rfl)
theorem dX0_layForm_199 : decode cX0_layForm 199 = .ok (.istore 4, 2) := dk_54 4 (dk_at dksX0_layForm_8 14 rfl rfl)
theorem dX0_layForm_201 : decode cX0_layForm 201 = .ok (.iload_n 3, 1) := dk_29 (dk_at dksX0_layForm_8 16 rfl rfl)
theorem dX0_layForm_202 : decode cX0_layForm 202 = .ok (.ifCond .eq 9, 3) := dk_153 0 9 (dk_at dksX0_layForm_8 17 rfl rfl)
theorem dX0_layForm_205 : decode cX0_layForm 205 = .ok (.iload 4, 2) := dk_21 4 (dk_at dksX0_layForm_8 20 rfl rfl)
theorem dX0_layForm_207 : decode cX0_layForm 207 = .ok (.iconst 3, 1) := dk_6 (dk_at dksX0_layForm_8 22 rfl rfl)
theorem dX0_layForm_208 : decode cX0_layForm 208 = .ok (.if_icmp .le 5, 3) := dk_164 0 5 (dk_at dksX0_layForm_9 0 rfl rfl)
theorem dX0_layForm_211 : decode cX0_layForm 211 = .ok (.iconst 0, 1) := dk_3 (dk_at dksX0_layForm_9 3 rfl rfl)
theorem dX0_layForm_212 : decode cX0_layForm 212 = .ok (.ireturn, 1) := dk_172 (dk_at dksX0_layForm_9 4 rfl rfl)
theorem dX0_layForm_213 : decode cX0_layForm 213 = .ok (.iload_n 2, 1) := dk_28 (dk_at dksX0_layForm_9 5 rfl rfl)
theorem dX0_layForm_214 : decode cX0_layForm 214 = .ok (.ifCond .ne 55, 3) := dk_154 0 55 (dk_at dksX0_layForm_9 6 rfl rfl)
theorem dX0_layForm_217 : decode cX0_layForm 217 = .ok (.iload 4, 2) := dk_21 4 (dk_at dksX0_layForm_9 9 rfl rfl)
theorem dX0_layForm_219 : decode cX0_layForm 219 = .ok (.ifCond .le 50, 3) := dk_158 0 50 (dk_at dksX0_layForm_9 11 rfl rfl)
theorem dX0_layForm_222 : decode cX0_layForm 222 = .ok (.aload_n 0, 1) := dk_42 (dk_at dksX0_layForm_9 14 rfl rfl)
theorem dX0_layForm_223 : decode cX0_layForm 223 = .ok (.getfield 287, 3) := dk_180 1 31 (dk_at dksX0_layForm_9 15 rfl rfl)
theorem dX0_layForm_226 : decode cX0_layForm 226 = .ok (.iload_n 1, 1) := dk_27 (dk_at dksX0_layForm_9 18 rfl rfl)
theorem dX0_layForm_227 : decode cX0_layForm 227 = .ok (.iaload, 1) := dk_46 (dk_at dksX0_layForm_9 19 rfl rfl)
theorem dX0_layForm_228 : decode cX0_layForm 228 = .ok (.aload_n 0, 1) := dk_42 (dk_at dksX0_layForm_9 20 rfl rfl)
theorem dX0_layForm_229 : decode cX0_layForm 229 = .ok (.getfield 284, 3) := dk_180 1 28 (dk_at dksX0_layForm_9 21 rfl rfl)
theorem dX0_layForm_232 : decode cX0_layForm 232 = .ok (.iload_n 1, 1) := dk_27 (dk_at dksX0_layForm_10 0 rfl rfl)
theorem dX0_layForm_233 : decode cX0_layForm 233 = .ok (.iaload, 1) := dk_46 (dk_at dksX0_layForm_10 1 rfl rfl)
theorem dX0_layForm_234 : decode cX0_layForm 234 = .ok (.isub, 1) := dk_100 (dk_at dksX0_layForm_10 2 rfl rfl)
theorem dX0_layForm_235 : decode cX0_layForm 235 = .ok (.iconst 1, 1) := dk_4 (dk_at dksX0_layForm_10 3 rfl rfl)
theorem dX0_layForm_236 : decode cX0_layForm 236 = .ok (.if_icmp .ne 31, 3) := dk_160 0 31 (dk_at dksX0_layForm_10 4 rfl rfl)
theorem dX0_layForm_239 : decode cX0_layForm 239 = .ok (.aload_n 0, 1) := dk_42 (dk_at dksX0_layForm_10 7 rfl rfl)
theorem dX0_layForm_240 : decode cX0_layForm 240 = .ok (.getfield 108, 3) := dk_180 0 108 (dk_at dksX0_layForm_10 8 rfl rfl)
theorem dX0_layForm_243 : decode cX0_layForm 243 = .ok (.aload_n 0, 1) := dk_42 (dk_at dksX0_layForm_10 11 rfl rfl)
theorem dX0_layForm_244 : decode cX0_layForm 244 = .ok (.getfield 284, 3) := dk_180 1 28 (dk_at dksX0_layForm_10 12 rfl rfl)
theorem dX0_layForm_247 : decode cX0_layForm 247 = .ok (.iload_n 1, 1) := dk_27 (dk_at dksX0_layForm_10 15 rfl rfl)
theorem dX0_layForm_248 : decode cX0_layForm 248 = .ok (.iaload, 1) := dk_46 (dk_at dksX0_layForm_10 16 rfl rfl)
theorem dX0_layForm_249 : decode cX0_layForm 249 = .ok (.iaload, 1) := dk_46 (dk_at dksX0_layForm_10 17 rfl rfl)
theorem dX0_layForm_250 : decode cX0_layForm 250 = .ok (.ifCond .ne 17, 3) := dk_154 0 17 (dk_at dksX0_layForm_10 18 rfl rfl)
theorem dX0_layForm_253 : decode cX0_layForm 253 = .ok (.aload_n 0, 1) := dk_42 (dk_at dksX0_layForm_10 21 rfl rfl)
theorem dX0_layForm_254 : decode cX0_layForm 254 = .ok (.iload_n 1, 1) := dk_27 (dk_at dksX0_layForm_10 22 rfl rfl)
theorem dX0_layForm_255 : decode cX0_layForm 255 = .ok (.iload 4, 2) := dk_21 4 (dk_at dksX0_layForm_11 0 rfl rfl)
theorem dX0_layForm_257 : decode cX0_layForm 257 = .ok (.invokevirtual 427, 3) := dk_182 1 171 (dk_at dksX0_layForm_11 2 rfl rfl)
theorem dX0_layForm_260 : decode cX0_layForm 260 = .ok (.ifCond .eq 7, 3) := dk_153 0 7 (dk_at dksX0_layForm_11 5 rfl rfl)
theorem dX0_layForm_263 : decode cX0_layForm 263 = .ok (.iconst 1, 1) := dk_4 (dk_at dksX0_layForm_11 8 rfl rfl)
theorem dX0_layForm_264 : decode cX0_layForm 264 = .ok (.goto 4, 3) := dk_167 0 4 (dk_at dksX0_layForm_11 9 rfl rfl)
theorem dX0_layForm_267 : decode cX0_layForm 267 = .ok (.iconst 0, 1) := dk_3 (dk_at dksX0_layForm_11 12 rfl rfl)
theorem dX0_layForm_268 : decode cX0_layForm 268 = .ok (.ireturn, 1) := dk_172 (dk_at dksX0_layForm_11 13 rfl rfl)
theorem dX0_layForm_269 : decode cX0_layForm 269 = .ok (.iload_n 2, 1) := dk_28 (dk_at dksX0_layForm_11 14 rfl rfl)
theorem dX0_layForm_270 : decode cX0_layForm 270 = .ok (.iload 4, 2) := dk_21 4 (dk_at dksX0_layForm_11 15 rfl rfl)
theorem dX0_layForm_272 : decode cX0_layForm 272 = .ok (.if_icmp .ne 21, 3) := dk_160 0 21 (dk_at dksX0_layForm_11 17 rfl rfl)
theorem dX0_layForm_275 : decode cX0_layForm 275 = .ok (.iload_n 2, 1) := dk_28 (dk_at dksX0_layForm_11 20 rfl rfl)
theorem dX0_layForm_276 : decode cX0_layForm 276 = .ok (.ifCond .eq 13, 3) := dk_153 0 13 (dk_at dksX0_layForm_11 21 rfl rfl)
theorem dX0_layForm_279 : decode cX0_layForm 279 = .ok (.aload_n 0, 1) := dk_42 (dk_at dksX0_layForm_12 0 rfl rfl)
theorem dX0_layForm_280 : decode cX0_layForm 280 = .ok (.getfield 418, 3) := dk_180 1 162 (dk_at dksX0_layForm_12 1 rfl rfl)
theorem dX0_layForm_283 : decode cX0_layForm 283 = .ok (.iload_n 1, 1) := dk_27 (dk_at dksX0_layForm_12 4 rfl rfl)
theorem dX0_layForm_284 : decode cX0_layForm 284 = .ok (.iaload, 1) := dk_46 (dk_at dksX0_layForm_12 5 rfl rfl)
theorem dX0_layForm_285 : decode cX0_layForm 285 = .ok (.iconst 1, 1) := dk_4 (dk_at dksX0_layForm_12 6 rfl rfl)
theorem dX0_layForm_286 : decode cX0_layForm 286 = .ok (.if_icmp .le 7, 3) := dk_164 0 7 (dk_at dksX0_layForm_12 7 rfl rfl)
theorem dX0_layForm_289 : decode cX0_layForm 289 = .ok (.iconst 1, 1) := dk_4 (dk_at dksX0_layForm_12 10 rfl rfl)
theorem dX0_layForm_290 : decode cX0_layForm 290 = .ok (.goto 4, 3) := dk_167 0 4 (dk_at dksX0_layForm_12 11 rfl rfl)
theorem dX0_layForm_293 : decode cX0_layForm 293 = .ok (.iconst 0, 1) := dk_3 (dk_at dksX0_layForm_12 14 rfl rfl)
theorem dX0_layForm_294 : decode cX0_layForm 294 = .ok (.ireturn, 1) := dk_172 (dk_at dksX0_layForm_12 15 rfl rfl)
abbrev cX0_addPart : ByteArray := prog_1_method_47_code
def yX0_addPart : MethodName := ⟨RX0, "addPart", "(II)Z"⟩
def dkwX0_addPart_1 : List UInt8 := [180, 1, 162, 27, 92, 46, 91, 4, 96, 79, 96, 28, 79, 4, 172]
abbrev dktX0_addPart_1 : List UInt8 := dkwX0_addPart_1 ++ []
def dkwX0_addPart_0 : List UInt8 := [42, 180, 1, 162, 27, 46, 16, 12, 160, 0, 5, 3, 172, 42, 180, 1, 165, 16, 12, 27, 104, 42]
abbrev dktX0_addPart_0 : List UInt8 := dkwX0_addPart_0 ++ dktX0_addPart_1
theorem dksX0_addPart_0 : cX0_addPart.data.toList.drop 0 = dktX0_addPart_0 := by decide +kernel
theorem dksX0_addPart_1 : cX0_addPart.data.toList.drop 22 = dktX0_addPart_1 := dk_seg dksX0_addPart_0 22 rfl rfl
theorem dX0_addPart_0 : decode cX0_addPart 0 = .ok (.aload_n 0, 1) := dk_42 (dk_at dksX0_addPart_0 0 rfl rfl)
theorem dX0_addPart_1 : decode cX0_addPart 1 = .ok (.getfield 418, 3) := dk_180 1 162 (dk_at dksX0_addPart_0 1 rfl rfl)
theorem dX0_addPart_4 : decode cX0_addPart 4 = .ok (.iload_n 1, 1) := dk_27 (dk_at dksX0_addPart_0 4 rfl rfl)
theorem dX0_addPart_5 : decode cX0_addPart 5 = .ok (.iaload, 1) := dk_46 (dk_at dksX0_addPart_0 5 rfl rfl)
theorem dX0_addPart_6 : decode cX0_addPart 6 = .ok (.bipush 12, 2) := dk_16 12 (dk_at dksX0_addPart_0 6 rfl rfl)
theorem dX0_addPart_8 : decode cX0_addPart 8 = .ok (.if_icmp .ne 5, 3) := dk_160 0 5 (dk_at dksX0_addPart_0 8 rfl rfl)
theorem dX0_addPart_11 : decode cX0_addPart 11 = .ok (.iconst 0, 1) := dk_3 (dk_at dksX0_addPart_0 11 rfl rfl)
theorem dX0_addPart_12 : decode cX0_addPart 12 = .ok (.ireturn, 1) := dk_172 (dk_at dksX0_addPart_0 12 rfl rfl)
theorem dX0_addPart_13 : decode cX0_addPart 13 = .ok (.aload_n 0, 1) := dk_42 (dk_at dksX0_addPart_0 13 rfl rfl)
theorem dX0_addPart_14 : decode cX0_addPart 14 = .ok (.getfield 421, 3) := dk_180 1 165 (dk_at dksX0_addPart_0 14 rfl rfl)
theorem dX0_addPart_17 : decode cX0_addPart 17 = .ok (.bipush 12, 2) := dk_16 12 (dk_at dksX0_addPart_0 17 rfl rfl)
theorem dX0_addPart_19 : decode cX0_addPart 19 = .ok (.iload_n 1, 1) := dk_27 (dk_at dksX0_addPart_0 19 rfl rfl)
theorem dX0_addPart_20 : decode cX0_addPart 20 = .ok (.imul, 1) := dk_104 (dk_at dksX0_addPart_0 20 rfl rfl)
theorem dX0_addPart_21 : decode cX0_addPart 21 = .ok (.aload_n 0, 1) := dk_42 (dk_at dksX0_addPart_0 21 rfl rfl)
theorem dX0_addPart_22 : decode cX0_addPart 22 = .ok (.getfield 418, 3) := dk_180 1 162 (dk_at dksX0_addPart_1 0 rfl rfl)
theorem dX0_addPart_25 : decode cX0_addPart 25 = .ok (.iload_n 1, 1) := dk_27 (dk_at dksX0_addPart_1 3 rfl rfl)
theorem dX0_addPart_26 : decode cX0_addPart 26 = .ok (.dup2, 1) := dk_92 (dk_at dksX0_addPart_1 4 rfl rfl)
theorem dX0_addPart_27 : decode cX0_addPart 27 = .ok (.iaload, 1) := dk_46 (dk_at dksX0_addPart_1 5 rfl rfl)
theorem dX0_addPart_28 : decode cX0_addPart 28 = .ok (.dup_x2, 1) := dk_91 (dk_at dksX0_addPart_1 6 rfl rfl)
theorem dX0_addPart_29 : decode cX0_addPart 29 = .ok (.iconst 1, 1) := dk_4 (dk_at dksX0_addPart_1 7 rfl rfl)
theorem dX0_addPart_30 : decode cX0_addPart 30 = .ok (.iadd, 1) := dk_96 (dk_at dksX0_addPart_1 8 rfl rfl)
theorem dX0_addPart_31 : decode cX0_addPart 31 = .ok (.iastore, 1) := dk_79 (dk_at dksX0_addPart_1 9 rfl rfl)
theorem dX0_addPart_32 : decode cX0_addPart 32 = .ok (.iadd, 1) := dk_96 (dk_at dksX0_addPart_1 10 rfl rfl)
theorem dX0_addPart_33 : decode cX0_addPart 33 = .ok (.iload_n 2, 1) := dk_28 (dk_at dksX0_addPart_1 11 rfl rfl)
theorem dX0_addPart_34 : decode cX0_addPart 34 = .ok (.iastore, 1) := dk_79 (dk_at dksX0_addPart_1 12 rfl rfl)
theorem dX0_addPart_35 : decode cX0_addPart 35 = .ok (.iconst 1, 1) := dk_4 (dk_at dksX0_addPart_1 13 rfl rfl)
theorem dX0_addPart_36 : decode cX0_addPart 36 = .ok (.ireturn, 1) := dk_172 (dk_at dksX0_addPart_1 14 rfl rfl)
abbrev cX0_layPrefix : ByteArray := prog_1_method_50_code
def yX0_layPrefix : MethodName := ⟨RX0, "layPrefix", "(II)Z"⟩
def dkwX0_layPrefix_3 : List UInt8 := [16, 41, 182, 1, 177, 182, 1, 168, 153, 0, 7, 4, 167, 0, 4, 3, 172]
abbrev dktX0_layPrefix_3 : List UInt8 := dkwX0_layPrefix_3 ++ []
def dkwX0_layPrefix_2 : List UInt8 := [153, 0, 7, 4, 167, 0, 4, 3, 126, 62, 132, 4, 1, 167, 255, 211, 29, 153, 0, 21, 42, 27, 42]
abbrev dktX0_layPrefix_2 : List UInt8 := dkwX0_layPrefix_2 ++ dktX0_layPrefix_3
def dkwX0_layPrefix_1 : List UInt8 := [153, 0, 17, 42, 27, 42, 16, 44, 182, 1, 177, 182, 1, 168, 153, 0, 16, 42, 27, 2, 182, 1, 168]
abbrev dktX0_layPrefix_1 : List UInt8 := dkwX0_layPrefix_1 ++ dktX0_layPrefix_2
def dkwX0_layPrefix_0 : List UInt8 := [42, 27, 42, 16, 40, 182, 1, 177, 182, 1, 168, 62, 3, 54, 4, 21, 4, 28, 162, 0, 45, 29, 21, 4]
abbrev dktX0_layPrefix_0 : List UInt8 := dkwX0_layPrefix_0 ++ dktX0_layPrefix_1
theorem dksX0_layPrefix_0 : cX0_layPrefix.data.toList.drop 0 = dktX0_layPrefix_0 := by decide +kernel
theorem dksX0_layPrefix_1 : cX0_layPrefix.data.toList.drop 24 = dktX0_layPrefix_1 := dk_seg dksX0_layPrefix_0 24 rfl rfl
theorem dksX0_layPrefix_2 : cX0_layPrefix.data.toList.drop 47 = dktX0_layPrefix_2 := dk_seg dksX0_layPrefix_1 23 rfl rfl
theorem dksX0_layPrefix_3 : cX0_layPrefix.data.toList.drop 70 = dktX0_layPrefix_3 := dk_seg dksX0_layPrefix_2 23 rfl rfl
theorem dX0_layPrefix_0 : decode cX0_layPrefix 0 = .ok (.aload_n 0, 1) := dk_42 (dk_at dksX0_layPrefix_0 0 rfl rfl)
theorem dX0_layPrefix_1 : decode cX0_layPrefix 1 = .ok (.iload_n 1, 1) := dk_27 (dk_at dksX0_layPrefix_0 1 rfl rfl)
theorem dX0_layPrefix_2 : decode cX0_layPrefix 2 = .ok (.aload_n 0, 1) := dk_42 (dk_at dksX0_layPrefix_0 2 rfl rfl)
theorem dX0_layPrefix_3 : decode cX0_layPrefix 3 = .ok (.bipush 40, 2) := dk_16 40 (dk_at dksX0_layPrefix_0 3 rfl rfl)
theorem dX0_layPrefix_5 : decode cX0_layPrefix 5 = .ok (.invokevirtual 433, 3) := dk_182 1 177 (dk_at dksX0_layPrefix_0 5 rfl rfl)
theorem dX0_layPrefix_8 : decode cX0_layPrefix 8 = .ok (.invokevirtual 424, 3) := dk_182 1 168 (dk_at dksX0_layPrefix_0 8 rfl rfl)
theorem dX0_layPrefix_11 : decode cX0_layPrefix 11 = .ok (.istore_n 3, 1) := dk_62 (dk_at dksX0_layPrefix_0 11 rfl rfl)
theorem dX0_layPrefix_12 : decode cX0_layPrefix 12 = .ok (.iconst 0, 1) := dk_3 (dk_at dksX0_layPrefix_0 12 rfl rfl)
theorem dX0_layPrefix_13 : decode cX0_layPrefix 13 = .ok (.istore 4, 2) := dk_54 4 (dk_at dksX0_layPrefix_0 13 rfl rfl)
theorem dX0_layPrefix_15 : decode cX0_layPrefix 15 = .ok (.iload 4, 2) := dk_21 4 (dk_at dksX0_layPrefix_0 15 rfl rfl)
theorem dX0_layPrefix_17 : decode cX0_layPrefix 17 = .ok (.iload_n 2, 1) := dk_28 (dk_at dksX0_layPrefix_0 17 rfl rfl)
theorem dX0_layPrefix_18 : decode cX0_layPrefix 18 = .ok (.if_icmp .ge 45, 3) := dk_162 0 45 (dk_at dksX0_layPrefix_0 18 rfl rfl)
theorem dX0_layPrefix_21 : decode cX0_layPrefix 21 = .ok (.iload_n 3, 1) := dk_29 (dk_at dksX0_layPrefix_0 21 rfl rfl)
theorem dX0_layPrefix_22 : decode cX0_layPrefix 22 = .ok (.iload 4, 2) := dk_21 4 (dk_at dksX0_layPrefix_0 22 rfl rfl)
theorem dX0_layPrefix_24 : decode cX0_layPrefix 24 = .ok (.ifCond .eq 17, 3) := dk_153 0 17 (dk_at dksX0_layPrefix_1 0 rfl rfl)
theorem dX0_layPrefix_27 : decode cX0_layPrefix 27 = .ok (.aload_n 0, 1) := dk_42 (dk_at dksX0_layPrefix_1 3 rfl rfl)
theorem dX0_layPrefix_28 : decode cX0_layPrefix 28 = .ok (.iload_n 1, 1) := dk_27 (dk_at dksX0_layPrefix_1 4 rfl rfl)
theorem dX0_layPrefix_29 : decode cX0_layPrefix 29 = .ok (.aload_n 0, 1) := dk_42 (dk_at dksX0_layPrefix_1 5 rfl rfl)
theorem dX0_layPrefix_30 : decode cX0_layPrefix 30 = .ok (.bipush 44, 2) := dk_16 44 (dk_at dksX0_layPrefix_1 6 rfl rfl)
theorem dX0_layPrefix_32 : decode cX0_layPrefix 32 = .ok (.invokevirtual 433, 3) := dk_182 1 177 (dk_at dksX0_layPrefix_1 8 rfl rfl)
theorem dX0_layPrefix_35 : decode cX0_layPrefix 35 = .ok (.invokevirtual 424, 3) := dk_182 1 168 (dk_at dksX0_layPrefix_1 11 rfl rfl)
theorem dX0_layPrefix_38 : decode cX0_layPrefix 38 = .ok (.ifCond .eq 16, 3) := dk_153 0 16 (dk_at dksX0_layPrefix_1 14 rfl rfl)
theorem dX0_layPrefix_41 : decode cX0_layPrefix 41 = .ok (.aload_n 0, 1) := dk_42 (dk_at dksX0_layPrefix_1 17 rfl rfl)
theorem dX0_layPrefix_42 : decode cX0_layPrefix 42 = .ok (.iload_n 1, 1) := dk_27 (dk_at dksX0_layPrefix_1 18 rfl rfl)
theorem dX0_layPrefix_43 : decode cX0_layPrefix 43 = .ok (.iconst (-1), 1) := dk_2 (dk_at dksX0_layPrefix_1 19 rfl rfl)
theorem dX0_layPrefix_44 : decode cX0_layPrefix 44 = .ok (.invokevirtual 424, 3) := dk_182 1 168 (dk_at dksX0_layPrefix_1 20 rfl rfl)
theorem dX0_layPrefix_47 : decode cX0_layPrefix 47 = .ok (.ifCond .eq 7, 3) := dk_153 0 7 (dk_at dksX0_layPrefix_2 0 rfl rfl)
theorem dX0_layPrefix_50 : decode cX0_layPrefix 50 = .ok (.iconst 1, 1) := dk_4 (dk_at dksX0_layPrefix_2 3 rfl rfl)
theorem dX0_layPrefix_51 : decode cX0_layPrefix 51 = .ok (.goto 4, 3) := dk_167 0 4 (dk_at dksX0_layPrefix_2 4 rfl rfl)
theorem dX0_layPrefix_54 : decode cX0_layPrefix 54 = .ok (.iconst 0, 1) := dk_3 (dk_at dksX0_layPrefix_2 7 rfl rfl)
theorem dX0_layPrefix_55 : decode cX0_layPrefix 55 = .ok (.iand, 1) := dk_126 (dk_at dksX0_layPrefix_2 8 rfl rfl)
theorem dX0_layPrefix_56 : decode cX0_layPrefix 56 = .ok (.istore_n 3, 1) := dk_62 (dk_at dksX0_layPrefix_2 9 rfl rfl)
theorem dX0_layPrefix_57 : decode cX0_layPrefix 57 = .ok (.iinc 4 1, 3) := dk_132 4 1 (dk_at dksX0_layPrefix_2 10 rfl rfl)
theorem dX0_layPrefix_60 : decode cX0_layPrefix 60 = .ok (.goto (-45), 3) := dk_167 255 211 (dk_at dksX0_layPrefix_2 13 rfl rfl)
theorem dX0_layPrefix_63 : decode cX0_layPrefix 63 = .ok (.iload_n 3, 1) := dk_29 (dk_at dksX0_layPrefix_2 16 rfl rfl)
theorem dX0_layPrefix_64 : decode cX0_layPrefix 64 = .ok (.ifCond .eq 21, 3) := dk_153 0 21 (dk_at dksX0_layPrefix_2 17 rfl rfl)
theorem dX0_layPrefix_67 : decode cX0_layPrefix 67 = .ok (.aload_n 0, 1) := dk_42 (dk_at dksX0_layPrefix_2 20 rfl rfl)
theorem dX0_layPrefix_68 : decode cX0_layPrefix 68 = .ok (.iload_n 1, 1) := dk_27 (dk_at dksX0_layPrefix_2 21 rfl rfl)
theorem dX0_layPrefix_69 : decode cX0_layPrefix 69 = .ok (.aload_n 0, 1) := dk_42 (dk_at dksX0_layPrefix_2 22 rfl rfl)
theorem dX0_layPrefix_70 : decode cX0_layPrefix 70 = .ok (.bipush 41, 2) := dk_16 41 (dk_at dksX0_layPrefix_3 0 rfl rfl)
theorem dX0_layPrefix_72 : decode cX0_layPrefix 72 = .ok (.invokevirtual 433, 3) := dk_182 1 177 (dk_at dksX0_layPrefix_3 2 rfl rfl)
theorem dX0_layPrefix_75 : decode cX0_layPrefix 75 = .ok (.invokevirtual 424, 3) := dk_182 1 168 (dk_at dksX0_layPrefix_3 5 rfl rfl)
theorem dX0_layPrefix_78 : decode cX0_layPrefix 78 = .ok (.ifCond .eq 7, 3) := dk_153 0 7 (dk_at dksX0_layPrefix_3 8 rfl rfl)
theorem dX0_layPrefix_81 : decode cX0_layPrefix 81 = .ok (.iconst 1, 1) := dk_4 (dk_at dksX0_layPrefix_3 11 rfl rfl)
theorem dX0_layPrefix_82 : decode cX0_layPrefix 82 = .ok (.goto 4, 3) := dk_167 0 4 (dk_at dksX0_layPrefix_3 12 rfl rfl)
theorem dX0_layPrefix_85 : decode cX0_layPrefix 85 = .ok (.iconst 0, 1) := dk_3 (dk_at dksX0_layPrefix_3 15 rfl rfl)
theorem dX0_layPrefix_86 : decode cX0_layPrefix 86 = .ok (.ireturn, 1) := dk_172 (dk_at dksX0_layPrefix_3 16 rfl rfl)
abbrev cX0_signId : ByteArray := prog_1_method_49_code
def yX0_signId : MethodName := ⟨RX0, "signId", "(I)I"⟩
def dkwX0_signId_0 : List UInt8 := [42, 180, 1, 174, 3, 27, 145, 84, 42, 42, 180, 1, 174, 3, 4, 182, 0, 120, 172]
abbrev dktX0_signId_0 : List UInt8 := dkwX0_signId_0 ++ []
theorem dksX0_signId_0 : cX0_signId.data.toList.drop 0 = dktX0_signId_0 := by decide +kernel
theorem dX0_signId_0 : decode cX0_signId 0 = .ok (.aload_n 0, 1) := dk_42 (dk_at dksX0_signId_0 0 rfl rfl)
theorem dX0_signId_1 : decode cX0_signId 1 = .ok (.getfield 430, 3) := dk_180 1 174 (dk_at dksX0_signId_0 1 rfl rfl)
theorem dX0_signId_4 : decode cX0_signId 4 = .ok (.iconst 0, 1) := dk_3 (dk_at dksX0_signId_0 4 rfl rfl)
theorem dX0_signId_5 : decode cX0_signId 5 = .ok (.iload_n 1, 1) := dk_27 (dk_at dksX0_signId_0 5 rfl rfl)
theorem dX0_signId_6 : decode cX0_signId 6 = .ok (.i2b, 1) := dk_145 (dk_at dksX0_signId_0 6 rfl rfl)
theorem dX0_signId_7 : decode cX0_signId 7 = .ok (.bastore, 1) := dk_84 (dk_at dksX0_signId_0 7 rfl rfl)
theorem dX0_signId_8 : decode cX0_signId 8 = .ok (.aload_n 0, 1) := dk_42 (dk_at dksX0_signId_0 8 rfl rfl)
theorem dX0_signId_9 : decode cX0_signId 9 = .ok (.aload_n 0, 1) := dk_42 (dk_at dksX0_signId_0 9 rfl rfl)
theorem dX0_signId_10 : decode cX0_signId 10 = .ok (.getfield 430, 3) := dk_180 1 174 (dk_at dksX0_signId_0 10 rfl rfl)
theorem dX0_signId_13 : decode cX0_signId 13 = .ok (.iconst 0, 1) := dk_3 (dk_at dksX0_signId_0 13 rfl rfl)
theorem dX0_signId_14 : decode cX0_signId 14 = .ok (.iconst 1, 1) := dk_4 (dk_at dksX0_signId_0 14 rfl rfl)
theorem dX0_signId_15 : decode cX0_signId 15 = .ok (.invokevirtual 120, 3) := dk_182 0 120 (dk_at dksX0_signId_0 15 rfl rfl)
theorem dX0_signId_18 : decode cX0_signId 18 = .ok (.ireturn, 1) := dk_172 (dk_at dksX0_signId_0 18 rfl rfl)
abbrev cX0_layOperators : ByteArray := prog_1_method_53_code
def yX0_layOperators : MethodName := ⟨RX0, "layOperators", "()V"⟩
def dkwX0_layOperators_7 : List UInt8 := [132, 1, 1, 167, 255, 240, 177]
abbrev dktX0_layOperators_7 : List UInt8 := dkwX0_layOperators_7 ++ []
def dkwX0_layOperators_6 : List UInt8 := [182, 1, 210, 132, 1, 1, 167, 255, 117, 3, 60, 27, 42, 180, 0, 166, 162, 0, 14, 42, 27, 182, 1, 213]
abbrev dktX0_layOperators_6 : List UInt8 := dkwX0_layOperators_6 ++ dktX0_layOperators_7
def dkwX0_layOperators_5 : List UInt8 := [181, 0, 166, 27, 182, 1, 207, 167, 0, 19, 42, 27, 42, 180, 1, 204, 42, 180, 1, 195, 27, 46, 46]
abbrev dktX0_layOperators_5 : List UInt8 := dkwX0_layOperators_5 ++ dktX0_layOperators_6
def dkwX0_layOperators_4 : List UInt8 := [180, 0, 166, 79, 42, 180, 1, 204, 42, 180, 0, 166, 27, 79, 42, 42, 89, 180, 0, 166, 90, 4, 96]
abbrev dktX0_layOperators_4 : List UInt8 := dkwX0_layOperators_4 ++ dktX0_layOperators_5
def dkwX0_layOperators_3 : List UInt8 := [132, 2, 1, 167, 255, 207, 42, 180, 1, 195, 27, 46, 16, 254, 160, 0, 42, 42, 180, 1, 195, 27, 42]
abbrev dktX0_layOperators_3 : List UInt8 := dkwX0_layOperators_3 ++ dktX0_layOperators_4
def dkwX0_layOperators_2 : List UInt8 := [153, 0, 24, 42, 27, 28, 182, 1, 201, 153, 0, 15, 42, 180, 1, 195, 27, 42, 180, 1, 195, 28, 46, 79]
abbrev dktX0_layOperators_2 : List UInt8 := dkwX0_layOperators_2 ++ dktX0_layOperators_3
def dkwX0_layOperators_1 : List UInt8 := [61, 28, 27, 162, 0, 50, 42, 180, 1, 195, 27, 46, 16, 254, 160, 0, 39, 42, 27, 28, 182, 1, 198]
abbrev dktX0_layOperators_1 : List UInt8 := dkwX0_layOperators_1 ++ dktX0_layOperators_2
def dkwX0_layOperators_0 : List UInt8 := [42, 3, 181, 0, 166, 3, 60, 27, 42, 180, 0, 151, 162, 0, 137, 42, 180, 1, 195, 27, 16, 254, 79, 3]
abbrev dktX0_layOperators_0 : List UInt8 := dkwX0_layOperators_0 ++ dktX0_layOperators_1
theorem dksX0_layOperators_0 : cX0_layOperators.data.toList.drop 0 = dktX0_layOperators_0 := by decide +kernel
theorem dksX0_layOperators_1 : cX0_layOperators.data.toList.drop 24 = dktX0_layOperators_1 := dk_seg dksX0_layOperators_0 24 rfl rfl
theorem dksX0_layOperators_2 : cX0_layOperators.data.toList.drop 47 = dktX0_layOperators_2 := dk_seg dksX0_layOperators_1 23 rfl rfl
theorem dksX0_layOperators_3 : cX0_layOperators.data.toList.drop 71 = dktX0_layOperators_3 := dk_seg dksX0_layOperators_2 24 rfl rfl
theorem dksX0_layOperators_4 : cX0_layOperators.data.toList.drop 94 = dktX0_layOperators_4 := dk_seg dksX0_layOperators_3 23 rfl rfl
theorem dksX0_layOperators_5 : cX0_layOperators.data.toList.drop 117 = dktX0_layOperators_5 := dk_seg dksX0_layOperators_4 23 rfl rfl
theorem dksX0_layOperators_6 : cX0_layOperators.data.toList.drop 140 = dktX0_layOperators_6 := dk_seg dksX0_layOperators_5 23 rfl rfl
theorem dksX0_layOperators_7 : cX0_layOperators.data.toList.drop 164 = dktX0_layOperators_7 := dk_seg dksX0_layOperators_6 24 rfl rfl
theorem dX0_layOperators_0 : decode cX0_layOperators 0 = .ok (.aload_n 0, 1) := dk_42 (dk_at dksX0_layOperators_0 0 rfl rfl)
theorem dX0_layOperators_1 : decode cX0_layOperators 1 = .ok (.iconst 0, 1) := dk_3 (dk_at dksX0_layOperators_0 1 rfl rfl)
theorem dX0_layOperators_2 : decode cX0_layOperators 2 = .ok (.putfield 166, 3) := dk_181 0 166 (dk_at dksX0_layOperators_0 2 rfl rfl)
theorem dX0_layOperators_5 : decode cX0_layOperators 5 = .ok (.iconst 0, 1) := dk_3 (dk_at dksX0_layOperators_0 5 rfl rfl)
theorem dX0_layOperators_6 : decode cX0_layOperators 6 = .ok (.istore_n 1, 1) := dk_60 (dk_at dksX0_layOperators_0 6 rfl rfl)
theorem dX0_layOperators_7 : decode cX0_layOperators 7 = .ok (.iload_n 1, 1) := dk_27 (dk_at dksX0_layOperators_0 7 rfl rfl)
theorem dX0_layOperators_8 : decode cX0_layOperators 8 = .ok (.aload_n 0, 1) := dk_42 (dk_at dksX0_layOperators_0 8 rfl rfl)
theorem dX0_layOperators_9 : decode cX0_layOperators 9 = .ok (.getfield 151, 3) := dk_180 0 151 (dk_at dksX0_layOperators_0 9 rfl rfl)
theorem dX0_layOperators_12 : decode cX0_layOperators 12 = .ok (.if_icmp .ge 137, 3) := dk_162 0 137 (dk_at dksX0_layOperators_0 12 rfl rfl)
theorem dX0_layOperators_15 : decode cX0_layOperators 15 = .ok (.aload_n 0, 1) := dk_42 (dk_at dksX0_layOperators_0 15 rfl rfl)
theorem dX0_layOperators_16 : decode cX0_layOperators 16 = .ok (.getfield 451, 3) := dk_180 1 195 (dk_at dksX0_layOperators_0 16 rfl rfl)
theorem dX0_layOperators_19 : decode cX0_layOperators 19 = .ok (.iload_n 1, 1) := dk_27 (dk_at dksX0_layOperators_0 19 rfl rfl)
theorem dX0_layOperators_20 : decode cX0_layOperators 20 = .ok (.bipush (-2), 2) := dk_16 254 (dk_at dksX0_layOperators_0 20 rfl rfl)
theorem dX0_layOperators_22 : decode cX0_layOperators 22 = .ok (.iastore, 1) := dk_79 (dk_at dksX0_layOperators_0 22 rfl rfl)
theorem dX0_layOperators_23 : decode cX0_layOperators 23 = .ok (.iconst 0, 1) := dk_3 (dk_at dksX0_layOperators_0 23 rfl rfl)
theorem dX0_layOperators_24 : decode cX0_layOperators 24 = .ok (.istore_n 2, 1) := dk_61 (dk_at dksX0_layOperators_1 0 rfl rfl)
theorem dX0_layOperators_25 : decode cX0_layOperators 25 = .ok (.iload_n 2, 1) := dk_28 (dk_at dksX0_layOperators_1 1 rfl rfl)
theorem dX0_layOperators_26 : decode cX0_layOperators 26 = .ok (.iload_n 1, 1) := dk_27 (dk_at dksX0_layOperators_1 2 rfl rfl)
theorem dX0_layOperators_27 : decode cX0_layOperators 27 = .ok (.if_icmp .ge 50, 3) := dk_162 0 50 (dk_at dksX0_layOperators_1 3 rfl rfl)
theorem dX0_layOperators_30 : decode cX0_layOperators 30 = .ok (.aload_n 0, 1) := dk_42 (dk_at dksX0_layOperators_1 6 rfl rfl)
theorem dX0_layOperators_31 : decode cX0_layOperators 31 = .ok (.getfield 451, 3) := dk_180 1 195 (dk_at dksX0_layOperators_1 7 rfl rfl)
theorem dX0_layOperators_34 : decode cX0_layOperators 34 = .ok (.iload_n 1, 1) := dk_27 (dk_at dksX0_layOperators_1 10 rfl rfl)
theorem dX0_layOperators_35 : decode cX0_layOperators 35 = .ok (.iaload, 1) := dk_46 (dk_at dksX0_layOperators_1 11 rfl rfl)
theorem dX0_layOperators_36 : decode cX0_layOperators 36 = .ok (.bipush (-2), 2) := dk_16 254 (dk_at dksX0_layOperators_1 12 rfl rfl)
theorem dX0_layOperators_38 : decode cX0_layOperators 38 = .ok (.if_icmp .ne 39, 3) := dk_160 0 39 (dk_at dksX0_layOperators_1 14 rfl rfl)
theorem dX0_layOperators_41 : decode cX0_layOperators 41 = .ok (.aload_n 0, 1) := dk_42 (dk_at dksX0_layOperators_1 17 rfl rfl)
theorem dX0_layOperators_42 : decode cX0_layOperators 42 = .ok (.iload_n 1, 1) := dk_27 (dk_at dksX0_layOperators_1 18 rfl rfl)
theorem dX0_layOperators_43 : decode cX0_layOperators 43 = .ok (.iload_n 2, 1) := dk_28 (dk_at dksX0_layOperators_1 19 rfl rfl)
theorem dX0_layOperators_44 : decode cX0_layOperators 44 = .ok (.invokevirtual 454, 3) := dk_182 1 198 (dk_at dksX0_layOperators_1 20 rfl rfl)
theorem dX0_layOperators_47 : decode cX0_layOperators 47 = .ok (.ifCond .eq 24, 3) := dk_153 0 24 (dk_at dksX0_layOperators_2 0 rfl rfl)
theorem dX0_layOperators_50 : decode cX0_layOperators 50 = .ok (.aload_n 0, 1) := dk_42 (dk_at dksX0_layOperators_2 3 rfl rfl)
theorem dX0_layOperators_51 : decode cX0_layOperators 51 = .ok (.iload_n 1, 1) := dk_27 (dk_at dksX0_layOperators_2 4 rfl rfl)
theorem dX0_layOperators_52 : decode cX0_layOperators 52 = .ok (.iload_n 2, 1) := dk_28 (dk_at dksX0_layOperators_2 5 rfl rfl)
theorem dX0_layOperators_53 : decode cX0_layOperators 53 = .ok (.invokevirtual 457, 3) := dk_182 1 201 (dk_at dksX0_layOperators_2 6 rfl rfl)
theorem dX0_layOperators_56 : decode cX0_layOperators 56 = .ok (.ifCond .eq 15, 3) := dk_153 0 15 (dk_at dksX0_layOperators_2 9 rfl rfl)
theorem dX0_layOperators_59 : decode cX0_layOperators 59 = .ok (.aload_n 0, 1) := dk_42 (dk_at dksX0_layOperators_2 12 rfl rfl)
theorem dX0_layOperators_60 : decode cX0_layOperators 60 = .ok (.getfield 451, 3) := dk_180 1 195 (dk_at dksX0_layOperators_2 13 rfl rfl)
theorem dX0_layOperators_63 : decode cX0_layOperators 63 = .ok (.iload_n 1, 1) := dk_27 (dk_at dksX0_layOperators_2 16 rfl rfl)
theorem dX0_layOperators_64 : decode cX0_layOperators 64 = .ok (.aload_n 0, 1) := dk_42 (dk_at dksX0_layOperators_2 17 rfl rfl)
theorem dX0_layOperators_65 : decode cX0_layOperators 65 = .ok (.getfield 451, 3) := dk_180 1 195 (dk_at dksX0_layOperators_2 18 rfl rfl)
theorem dX0_layOperators_68 : decode cX0_layOperators 68 = .ok (.iload_n 2, 1) := dk_28 (dk_at dksX0_layOperators_2 21 rfl rfl)
theorem dX0_layOperators_69 : decode cX0_layOperators 69 = .ok (.iaload, 1) := dk_46 (dk_at dksX0_layOperators_2 22 rfl rfl)
theorem dX0_layOperators_70 : decode cX0_layOperators 70 = .ok (.iastore, 1) := dk_79 (dk_at dksX0_layOperators_2 23 rfl rfl)
theorem dX0_layOperators_71 : decode cX0_layOperators 71 = .ok (.iinc 2 1, 3) := dk_132 2 1 (dk_at dksX0_layOperators_3 0 rfl rfl)
theorem dX0_layOperators_74 : decode cX0_layOperators 74 = .ok (.goto (-49), 3) := dk_167 255 207 (dk_at dksX0_layOperators_3 3 rfl rfl)
theorem dX0_layOperators_77 : decode cX0_layOperators 77 = .ok (.aload_n 0, 1) := dk_42 (dk_at dksX0_layOperators_3 6 rfl rfl)
theorem dX0_layOperators_78 : decode cX0_layOperators 78 = .ok (.getfield 451, 3) := dk_180 1 195 (dk_at dksX0_layOperators_3 7 rfl rfl)
theorem dX0_layOperators_81 : decode cX0_layOperators 81 = .ok (.iload_n 1, 1) := dk_27 (dk_at dksX0_layOperators_3 10 rfl rfl)
theorem dX0_layOperators_82 : decode cX0_layOperators 82 = .ok (.iaload, 1) := dk_46 (dk_at dksX0_layOperators_3 11 rfl rfl)
theorem dX0_layOperators_83 : decode cX0_layOperators 83 = .ok (.bipush (-2), 2) := dk_16 254 (dk_at dksX0_layOperators_3 12 rfl rfl)
theorem dX0_layOperators_85 : decode cX0_layOperators 85 = .ok (.if_icmp .ne 42, 3) := dk_160 0 42 (dk_at dksX0_layOperators_3 14 rfl rfl)
theorem dX0_layOperators_88 : decode cX0_layOperators 88 = .ok (.aload_n 0, 1) := dk_42 (dk_at dksX0_layOperators_3 17 rfl rfl)
theorem dX0_layOperators_89 : decode cX0_layOperators 89 = .ok (.getfield 451, 3) := dk_180 1 195 (dk_at dksX0_layOperators_3 18 rfl rfl)
theorem dX0_layOperators_92 : decode cX0_layOperators 92 = .ok (.iload_n 1, 1) := dk_27 (dk_at dksX0_layOperators_3 21 rfl rfl)
theorem dX0_layOperators_93 : decode cX0_layOperators 93 = .ok (.aload_n 0, 1) := dk_42 (dk_at dksX0_layOperators_3 22 rfl rfl)
theorem dX0_layOperators_94 : decode cX0_layOperators 94 = .ok (.getfield 166, 3) := dk_180 0 166 (dk_at dksX0_layOperators_4 0 rfl rfl)
theorem dX0_layOperators_97 : decode cX0_layOperators 97 = .ok (.iastore, 1) := dk_79 (dk_at dksX0_layOperators_4 3 rfl rfl)
theorem dX0_layOperators_98 : decode cX0_layOperators 98 = .ok (.aload_n 0, 1) := dk_42 (dk_at dksX0_layOperators_4 4 rfl rfl)
theorem dX0_layOperators_99 : decode cX0_layOperators 99 = .ok (.getfield 460, 3) := dk_180 1 204 (dk_at dksX0_layOperators_4 5 rfl rfl)
theorem dX0_layOperators_102 : decode cX0_layOperators 102 = .ok (.aload_n 0, 1) := dk_42 (dk_at dksX0_layOperators_4 8 rfl rfl)
theorem dX0_layOperators_103 : decode cX0_layOperators 103 = .ok (.getfield 166, 3) := dk_180 0 166 (dk_at dksX0_layOperators_4 9 rfl rfl)
theorem dX0_layOperators_106 : decode cX0_layOperators 106 = .ok (.iload_n 1, 1) := dk_27 (dk_at dksX0_layOperators_4 12 rfl rfl)
theorem dX0_layOperators_107 : decode cX0_layOperators 107 = .ok (.iastore, 1) := dk_79 (dk_at dksX0_layOperators_4 13 rfl rfl)
theorem dX0_layOperators_108 : decode cX0_layOperators 108 = .ok (.aload_n 0, 1) := dk_42 (dk_at dksX0_layOperators_4 14 rfl rfl)
theorem dX0_layOperators_109 : decode cX0_layOperators 109 = .ok (.aload_n 0, 1) := dk_42 (dk_at dksX0_layOperators_4 15 rfl rfl)
theorem dX0_layOperators_110 : decode cX0_layOperators 110 = .ok (.dup, 1) := dk_89 (dk_at dksX0_layOperators_4 16 rfl rfl)
theorem dX0_layOperators_111 : decode cX0_layOperators 111 = .ok (.getfield 166, 3) := dk_180 0 166 (dk_at dksX0_layOperators_4 17 rfl rfl)
theorem dX0_layOperators_114 : decode cX0_layOperators 114 = .ok (.dup_x1, 1) := dk_90 (dk_at dksX0_layOperators_4 20 rfl rfl)
theorem dX0_layOperators_115 : decode cX0_layOperators 115 = .ok (.iconst 1, 1) := dk_4 (dk_at dksX0_layOperators_4 21 rfl rfl)
theorem dX0_layOperators_116 : decode cX0_layOperators 116 = .ok (.iadd, 1) := dk_96 (dk_at dksX0_layOperators_4 22 rfl rfl)
theorem dX0_layOperators_117 : decode cX0_layOperators 117 = .ok (.putfield 166, 3) := dk_181 0 166 (dk_at dksX0_layOperators_5 0 rfl rfl)
theorem dX0_layOperators_120 : decode cX0_layOperators 120 = .ok (.iload_n 1, 1) := dk_27 (dk_at dksX0_layOperators_5 3 rfl rfl)
theorem dX0_layOperators_121 : decode cX0_layOperators 121 = .ok (.invokevirtual 463, 3) := dk_182 1 207 (dk_at dksX0_layOperators_5 4 rfl rfl)
theorem dX0_layOperators_124 : decode cX0_layOperators 124 = .ok (.goto 19, 3) := dk_167 0 19 (dk_at dksX0_layOperators_5 7 rfl rfl)
theorem dX0_layOperators_127 : decode cX0_layOperators 127 = .ok (.aload_n 0, 1) := dk_42 (dk_at dksX0_layOperators_5 10 rfl rfl)
theorem dX0_layOperators_128 : decode cX0_layOperators 128 = .ok (.iload_n 1, 1) := dk_27 (dk_at dksX0_layOperators_5 11 rfl rfl)
theorem dX0_layOperators_129 : decode cX0_layOperators 129 = .ok (.aload_n 0, 1) := dk_42 (dk_at dksX0_layOperators_5 12 rfl rfl)
theorem dX0_layOperators_130 : decode cX0_layOperators 130 = .ok (.getfield 460, 3) := dk_180 1 204 (dk_at dksX0_layOperators_5 13 rfl rfl)
theorem dX0_layOperators_133 : decode cX0_layOperators 133 = .ok (.aload_n 0, 1) := dk_42 (dk_at dksX0_layOperators_5 16 rfl rfl)
theorem dX0_layOperators_134 : decode cX0_layOperators 134 = .ok (.getfield 451, 3) := dk_180 1 195 (dk_at dksX0_layOperators_5 17 rfl rfl)
theorem dX0_layOperators_137 : decode cX0_layOperators 137 = .ok (.iload_n 1, 1) := dk_27 (dk_at dksX0_layOperators_5 20 rfl rfl)
theorem dX0_layOperators_138 : decode cX0_layOperators 138 = .ok (.iaload, 1) := dk_46 (dk_at dksX0_layOperators_5 21 rfl rfl)
theorem dX0_layOperators_139 : decode cX0_layOperators 139 = .ok (.iaload, 1) := dk_46 (dk_at dksX0_layOperators_5 22 rfl rfl)
theorem dX0_layOperators_140 : decode cX0_layOperators 140 = .ok (.invokevirtual 466, 3) := dk_182 1 210 (dk_at dksX0_layOperators_6 0 rfl rfl)
theorem dX0_layOperators_143 : decode cX0_layOperators 143 = .ok (.iinc 1 1, 3) := dk_132 1 1 (dk_at dksX0_layOperators_6 3 rfl rfl)
theorem dX0_layOperators_146 : decode cX0_layOperators 146 = .ok (.goto (-139), 3) := dk_167 255 117 (dk_at dksX0_layOperators_6 6 rfl rfl)
theorem dX0_layOperators_149 : decode cX0_layOperators 149 = .ok (.iconst 0, 1) := dk_3 (dk_at dksX0_layOperators_6 9 rfl rfl)
theorem dX0_layOperators_150 : decode cX0_layOperators 150 = .ok (.istore_n 1, 1) := dk_60 (dk_at dksX0_layOperators_6 10 rfl rfl)
theorem dX0_layOperators_151 : decode cX0_layOperators 151 = .ok (.iload_n 1, 1) := dk_27 (dk_at dksX0_layOperators_6 11 rfl rfl)
theorem dX0_layOperators_152 : decode cX0_layOperators 152 = .ok (.aload_n 0, 1) := dk_42 (dk_at dksX0_layOperators_6 12 rfl rfl)
theorem dX0_layOperators_153 : decode cX0_layOperators 153 = .ok (.getfield 166, 3) := dk_180 0 166 (dk_at dksX0_layOperators_6 13 rfl rfl)
theorem dX0_layOperators_156 : decode cX0_layOperators 156 = .ok (.if_icmp .ge 14, 3) := dk_162 0 14 (dk_at dksX0_layOperators_6 16 rfl rfl)
theorem dX0_layOperators_159 : decode cX0_layOperators 159 = .ok (.aload_n 0, 1) := dk_42 (dk_at dksX0_layOperators_6 19 rfl rfl)
theorem dX0_layOperators_160 : decode cX0_layOperators 160 = .ok (.iload_n 1, 1) := dk_27 (dk_at dksX0_layOperators_6 20 rfl rfl)
theorem dX0_layOperators_161 : decode cX0_layOperators 161 = .ok (.invokevirtual 469, 3) := dk_182 1 213 (dk_at dksX0_layOperators_6 21 rfl rfl)
theorem dX0_layOperators_164 : decode cX0_layOperators 164 = .ok (.iinc 1 1, 3) := dk_132 1 1 (dk_at dksX0_layOperators_7 0 rfl rfl)
theorem dX0_layOperators_167 : decode cX0_layOperators 167 = .ok (.goto (-16), 3) := dk_167 255 240 (dk_at dksX0_layOperators_7 3 rfl rfl)
theorem dX0_layOperators_170 : decode cX0_layOperators 170 = .ok (.return_, 1) := dk_177 (dk_at dksX0_layOperators_7 6 rfl rfl)
abbrev cX0_isSameForm : ByteArray := prog_1_method_51_code
def yX0_isSameForm : MethodName := ⟨RX0, "isSameForm", "(II)Z"⟩
def dkwX0_isSameForm_4 : List UInt8 := [172]
abbrev dktX0_isSameForm_4 : List UInt8 := dkwX0_isSameForm_4 ++ []
def dkwX0_isSameForm_3 : List UInt8 := [16, 12, 28, 104, 21, 4, 96, 46, 160, 0, 7, 4, 167, 0, 4, 3, 62, 132, 4, 1, 167, 255, 205, 29]
abbrev dktX0_isSameForm_3 : List UInt8 := dkwX0_isSameForm_3 ++ dktX0_isSameForm_4
def dkwX0_isSameForm_2 : List UInt8 := [46, 162, 0, 46, 29, 153, 0, 42, 42, 180, 1, 165, 16, 12, 27, 104, 21, 4, 96, 46, 42, 180, 1, 165]
abbrev dktX0_isSameForm_2 : List UInt8 := dkwX0_isSameForm_2 ++ dktX0_isSameForm_3
def dkwX0_isSameForm_1 : List UInt8 := [180, 1, 180, 28, 46, 160, 0, 7, 4, 167, 0, 4, 3, 62, 3, 54, 4, 21, 4, 42, 180, 1, 162, 27]
abbrev dktX0_isSameForm_1 : List UInt8 := dkwX0_isSameForm_1 ++ dktX0_isSameForm_2
def dkwX0_isSameForm_0 : List UInt8 := [42, 180, 1, 162, 27, 46, 42, 180, 1, 162, 28, 46, 160, 0, 22, 42, 180, 1, 180, 27, 46, 42]
abbrev dktX0_isSameForm_0 : List UInt8 := dkwX0_isSameForm_0 ++ dktX0_isSameForm_1
theorem dksX0_isSameForm_0 : cX0_isSameForm.data.toList.drop 0 = dktX0_isSameForm_0 := by decide +kernel
theorem dksX0_isSameForm_1 : cX0_isSameForm.data.toList.drop 22 = dktX0_isSameForm_1 := dk_seg dksX0_isSameForm_0 22 rfl rfl
theorem dksX0_isSameForm_2 : cX0_isSameForm.data.toList.drop 46 = dktX0_isSameForm_2 := dk_seg dksX0_isSameForm_1 24 rfl rfl
theorem dksX0_isSameForm_3 : cX0_isSameForm.data.toList.drop 70 = dktX0_isSameForm_3 := dk_seg dksX0_isSameForm_2 24 rfl rfl
theorem dksX0_isSameForm_4 : cX0_isSameForm.data.toList.drop 94 = dktX0_isSameForm_4 := dk_seg dksX0_isSameForm_3 24 rfl rfl
theorem dX0_isSameForm_0 : decode cX0_isSameForm 0 = .ok (.aload_n 0, 1) := dk_42 (dk_at dksX0_isSameForm_0 0 rfl rfl)
theorem dX0_isSameForm_1 : decode cX0_isSameForm 1 = .ok (.getfield 418, 3) := dk_180 1 162 (dk_at dksX0_isSameForm_0 1 rfl rfl)
theorem dX0_isSameForm_4 : decode cX0_isSameForm 4 = .ok (.iload_n 1, 1) := dk_27 (dk_at dksX0_isSameForm_0 4 rfl rfl)
theorem dX0_isSameForm_5 : decode cX0_isSameForm 5 = .ok (.iaload, 1) := dk_46 (dk_at dksX0_isSameForm_0 5 rfl rfl)
theorem dX0_isSameForm_6 : decode cX0_isSameForm 6 = .ok (.aload_n 0, 1) := dk_42 (dk_at dksX0_isSameForm_0 6 rfl rfl)
theorem dX0_isSameForm_7 : decode cX0_isSameForm 7 = .ok (.getfield 418, 3) := dk_180 1 162 (dk_at dksX0_isSameForm_0 7 rfl rfl)
theorem dX0_isSameForm_10 : decode cX0_isSameForm 10 = .ok (.iload_n 2, 1) := dk_28 (dk_at dksX0_isSameForm_0 10 rfl rfl)
theorem dX0_isSameForm_11 : decode cX0_isSameForm 11 = .ok (.iaload, 1) := dk_46 (dk_at dksX0_isSameForm_0 11 rfl rfl)
theorem dX0_isSameForm_12 : decode cX0_isSameForm 12 = .ok (.if_icmp .ne 22, 3) := dk_160 0 22 (dk_at dksX0_isSameForm_0 12 rfl rfl)
theorem dX0_isSameForm_15 : decode cX0_isSameForm 15 = .ok (.aload_n 0, 1) := dk_42 (dk_at dksX0_isSameForm_0 15 rfl rfl)
theorem dX0_isSameForm_16 : decode cX0_isSameForm 16 = .ok (.getfield 436, 3) := dk_180 1 180 (dk_at dksX0_isSameForm_0 16 rfl rfl)
theorem dX0_isSameForm_19 : decode cX0_isSameForm 19 = .ok (.iload_n 1, 1) := dk_27 (dk_at dksX0_isSameForm_0 19 rfl rfl)
theorem dX0_isSameForm_20 : decode cX0_isSameForm 20 = .ok (.iaload, 1) := dk_46 (dk_at dksX0_isSameForm_0 20 rfl rfl)
theorem dX0_isSameForm_21 : decode cX0_isSameForm 21 = .ok (.aload_n 0, 1) := dk_42 (dk_at dksX0_isSameForm_0 21 rfl rfl)
theorem dX0_isSameForm_22 : decode cX0_isSameForm 22 = .ok (.getfield 436, 3) := dk_180 1 180 (dk_at dksX0_isSameForm_1 0 rfl rfl)
theorem dX0_isSameForm_25 : decode cX0_isSameForm 25 = .ok (.iload_n 2, 1) := dk_28 (dk_at dksX0_isSameForm_1 3 rfl rfl)
theorem dX0_isSameForm_26 : decode cX0_isSameForm 26 = .ok (.iaload, 1) := dk_46 (dk_at dksX0_isSameForm_1 4 rfl rfl)
theorem dX0_isSameForm_27 : decode cX0_isSameForm 27 = .ok (.if_icmp .ne 7, 3) := dk_160 0 7 (dk_at dksX0_isSameForm_1 5 rfl rfl)
theorem dX0_isSameForm_30 : decode cX0_isSameForm 30 = .ok (.iconst 1, 1) := dk_4 (dk_at dksX0_isSameForm_1 8 rfl rfl)
theorem dX0_isSameForm_31 : decode cX0_isSameForm 31 = .ok (.goto 4, 3) := dk_167 0 4 (dk_at dksX0_isSameForm_1 9 rfl rfl)
theorem dX0_isSameForm_34 : decode cX0_isSameForm 34 = .ok (.iconst 0, 1) := dk_3 (dk_at dksX0_isSameForm_1 12 rfl rfl)
theorem dX0_isSameForm_35 : decode cX0_isSameForm 35 = .ok (.istore_n 3, 1) := dk_62 (dk_at dksX0_isSameForm_1 13 rfl rfl)
theorem dX0_isSameForm_36 : decode cX0_isSameForm 36 = .ok (.iconst 0, 1) := dk_3 (dk_at dksX0_isSameForm_1 14 rfl rfl)
theorem dX0_isSameForm_37 : decode cX0_isSameForm 37 = .ok (.istore 4, 2) := dk_54 4 (dk_at dksX0_isSameForm_1 15 rfl rfl)
theorem dX0_isSameForm_39 : decode cX0_isSameForm 39 = .ok (.iload 4, 2) := dk_21 4 (dk_at dksX0_isSameForm_1 17 rfl rfl)
theorem dX0_isSameForm_41 : decode cX0_isSameForm 41 = .ok (.aload_n 0, 1) := dk_42 (dk_at dksX0_isSameForm_1 19 rfl rfl)
theorem dX0_isSameForm_42 : decode cX0_isSameForm 42 = .ok (.getfield 418, 3) := dk_180 1 162 (dk_at dksX0_isSameForm_1 20 rfl rfl)
theorem dX0_isSameForm_45 : decode cX0_isSameForm 45 = .ok (.iload_n 1, 1) := dk_27 (dk_at dksX0_isSameForm_1 23 rfl rfl)
theorem dX0_isSameForm_46 : decode cX0_isSameForm 46 = .ok (.iaload, 1) := dk_46 (dk_at dksX0_isSameForm_2 0 rfl rfl)
theorem dX0_isSameForm_47 : decode cX0_isSameForm 47 = .ok (.if_icmp .ge 46, 3) := dk_162 0 46 (dk_at dksX0_isSameForm_2 1 rfl rfl)
theorem dX0_isSameForm_50 : decode cX0_isSameForm 50 = .ok (.iload_n 3, 1) := dk_29 (dk_at dksX0_isSameForm_2 4 rfl rfl)
theorem dX0_isSameForm_51 : decode cX0_isSameForm 51 = .ok (.ifCond .eq 42, 3) := dk_153 0 42 (dk_at dksX0_isSameForm_2 5 rfl rfl)
theorem dX0_isSameForm_54 : decode cX0_isSameForm 54 = .ok (.aload_n 0, 1) := dk_42 (dk_at dksX0_isSameForm_2 8 rfl rfl)
theorem dX0_isSameForm_55 : decode cX0_isSameForm 55 = .ok (.getfield 421, 3) := dk_180 1 165 (dk_at dksX0_isSameForm_2 9 rfl rfl)
theorem dX0_isSameForm_58 : decode cX0_isSameForm 58 = .ok (.bipush 12, 2) := dk_16 12 (dk_at dksX0_isSameForm_2 12 rfl rfl)
theorem dX0_isSameForm_60 : decode cX0_isSameForm 60 = .ok (.iload_n 1, 1) := dk_27 (dk_at dksX0_isSameForm_2 14 rfl rfl)
theorem dX0_isSameForm_61 : decode cX0_isSameForm 61 = .ok (.imul, 1) := dk_104 (dk_at dksX0_isSameForm_2 15 rfl rfl)
theorem dX0_isSameForm_62 : decode cX0_isSameForm 62 = .ok (.iload 4, 2) := dk_21 4 (dk_at dksX0_isSameForm_2 16 rfl rfl)
theorem dX0_isSameForm_64 : decode cX0_isSameForm 64 = .ok (.iadd, 1) := dk_96 (dk_at dksX0_isSameForm_2 18 rfl rfl)
theorem dX0_isSameForm_65 : decode cX0_isSameForm 65 = .ok (.iaload, 1) := dk_46 (dk_at dksX0_isSameForm_2 19 rfl rfl)
theorem dX0_isSameForm_66 : decode cX0_isSameForm 66 = .ok (.aload_n 0, 1) := dk_42 (dk_at dksX0_isSameForm_2 20 rfl rfl)
theorem dX0_isSameForm_67 : decode cX0_isSameForm 67 = .ok (.getfield 421, 3) := dk_180 1 165 (dk_at dksX0_isSameForm_2 21 rfl rfl)
theorem dX0_isSameForm_70 : decode cX0_isSameForm 70 = .ok (.bipush 12, 2) := dk_16 12 (dk_at dksX0_isSameForm_3 0 rfl rfl)
theorem dX0_isSameForm_72 : decode cX0_isSameForm 72 = .ok (.iload_n 2, 1) := dk_28 (dk_at dksX0_isSameForm_3 2 rfl rfl)
theorem dX0_isSameForm_73 : decode cX0_isSameForm 73 = .ok (.imul, 1) := dk_104 (dk_at dksX0_isSameForm_3 3 rfl rfl)
theorem dX0_isSameForm_74 : decode cX0_isSameForm 74 = .ok (.iload 4, 2) := dk_21 4 (dk_at dksX0_isSameForm_3 4 rfl rfl)
theorem dX0_isSameForm_76 : decode cX0_isSameForm 76 = .ok (.iadd, 1) := dk_96 (dk_at dksX0_isSameForm_3 6 rfl rfl)
theorem dX0_isSameForm_77 : decode cX0_isSameForm 77 = .ok (.iaload, 1) := dk_46 (dk_at dksX0_isSameForm_3 7 rfl rfl)
theorem dX0_isSameForm_78 : decode cX0_isSameForm 78 = .ok (.if_icmp .ne 7, 3) := dk_160 0 7 (dk_at dksX0_isSameForm_3 8 rfl rfl)
theorem dX0_isSameForm_81 : decode cX0_isSameForm 81 = .ok (.iconst 1, 1) := dk_4 (dk_at dksX0_isSameForm_3 11 rfl rfl)
theorem dX0_isSameForm_82 : decode cX0_isSameForm 82 = .ok (.goto 4, 3) := dk_167 0 4 (dk_at dksX0_isSameForm_3 12 rfl rfl)
theorem dX0_isSameForm_85 : decode cX0_isSameForm 85 = .ok (.iconst 0, 1) := dk_3 (dk_at dksX0_isSameForm_3 15 rfl rfl)
theorem dX0_isSameForm_86 : decode cX0_isSameForm 86 = .ok (.istore_n 3, 1) := dk_62 (dk_at dksX0_isSameForm_3 16 rfl rfl)
theorem dX0_isSameForm_87 : decode cX0_isSameForm 87 = .ok (.iinc 4 1, 3) := dk_132 4 1 (dk_at dksX0_isSameForm_3 17 rfl rfl)
theorem dX0_isSameForm_90 : decode cX0_isSameForm 90 = .ok (.goto (-51), 3) := dk_167 255 205 (dk_at dksX0_isSameForm_3 20 rfl rfl)
theorem dX0_isSameForm_93 : decode cX0_isSameForm 93 = .ok (.iload_n 3, 1) := dk_29 (dk_at dksX0_isSameForm_3 23 rfl rfl)
theorem dX0_isSameForm_94 : decode cX0_isSameForm 94 = .ok (.ireturn, 1) := dk_172 (dk_at dksX0_isSameForm_4 0 rfl rfl)
abbrev cX0_isSameKinds : ByteArray := prog_1_method_54_code
def yX0_isSameKinds : MethodName := ⟨RX0, "isSameKinds", "(II)Z"⟩
def dkwX0_isSameKinds_2 : List UInt8 := [96, 46, 46, 160, 0, 7, 4, 167, 0, 4, 3, 126, 62, 132, 4, 1, 167, 255, 199, 29, 172]
abbrev dktX0_isSameKinds_2 : List UInt8 := dkwX0_isSameKinds_2 ++ []
def dkwX0_isSameKinds_1 : List UInt8 := [180, 1, 189, 6, 27, 104, 21, 4, 96, 46, 46, 42, 180, 1, 145, 42, 180, 1, 189, 6, 28, 104, 21, 4]
abbrev dktX0_isSameKinds_1 : List UInt8 := dkwX0_isSameKinds_1 ++ dktX0_isSameKinds_2
def dkwX0_isSameKinds_0 : List UInt8 := [4, 62, 3, 54, 4, 21, 4, 42, 180, 1, 180, 27, 46, 162, 0, 52, 29, 42, 180, 1, 145, 42]
abbrev dktX0_isSameKinds_0 : List UInt8 := dkwX0_isSameKinds_0 ++ dktX0_isSameKinds_1
theorem dksX0_isSameKinds_0 : cX0_isSameKinds.data.toList.drop 0 = dktX0_isSameKinds_0 := by decide +kernel
theorem dksX0_isSameKinds_1 : cX0_isSameKinds.data.toList.drop 22 = dktX0_isSameKinds_1 := dk_seg dksX0_isSameKinds_0 22 rfl rfl
theorem dksX0_isSameKinds_2 : cX0_isSameKinds.data.toList.drop 46 = dktX0_isSameKinds_2 := dk_seg dksX0_isSameKinds_1 24 rfl rfl
theorem dX0_isSameKinds_0 : decode cX0_isSameKinds 0 = .ok (.iconst 1, 1) := dk_4 (dk_at dksX0_isSameKinds_0 0 rfl rfl)
theorem dX0_isSameKinds_1 : decode cX0_isSameKinds 1 = .ok (.istore_n 3, 1) := dk_62 (dk_at dksX0_isSameKinds_0 1 rfl rfl)
theorem dX0_isSameKinds_2 : decode cX0_isSameKinds 2 = .ok (.iconst 0, 1) := dk_3 (dk_at dksX0_isSameKinds_0 2 rfl rfl)
theorem dX0_isSameKinds_3 : decode cX0_isSameKinds 3 = .ok (.istore 4, 2) := dk_54 4 (dk_at dksX0_isSameKinds_0 3 rfl rfl)
theorem dX0_isSameKinds_5 : decode cX0_isSameKinds 5 = .ok (.iload 4, 2) := dk_21 4 (dk_at dksX0_isSameKinds_0 5 rfl rfl)
theorem dX0_isSameKinds_7 : decode cX0_isSameKinds 7 = .ok (.aload_n 0, 1) := dk_42 (dk_at dksX0_isSameKinds_0 7 rfl rfl)
theorem dX0_isSameKinds_8 : decode cX0_isSameKinds 8 = .ok (.getfield 436, 3) := dk_180 1 180 (dk_at dksX0_isSameKinds_0 8 rfl rfl)
theorem dX0_isSameKinds_11 : decode cX0_isSameKinds 11 = .ok (.iload_n 1, 1) := dk_27 (dk_at dksX0_isSameKinds_0 11 rfl rfl)
theorem dX0_isSameKinds_12 : decode cX0_isSameKinds 12 = .ok (.iaload, 1) := dk_46 (dk_at dksX0_isSameKinds_0 12 rfl rfl)
theorem dX0_isSameKinds_13 : decode cX0_isSameKinds 13 = .ok (.if_icmp .ge 52, 3) := dk_162 0 52 (dk_at dksX0_isSameKinds_0 13 rfl rfl)
theorem dX0_isSameKinds_16 : decode cX0_isSameKinds 16 = .ok (.iload_n 3, 1) := dk_29 (dk_at dksX0_isSameKinds_0 16 rfl rfl)
theorem dX0_isSameKinds_17 : decode cX0_isSameKinds 17 = .ok (.aload_n 0, 1) := dk_42 (dk_at dksX0_isSameKinds_0 17 rfl rfl)
theorem dX0_isSameKinds_18 : decode cX0_isSameKinds 18 = .ok (.getfield 401, 3) := dk_180 1 145 (dk_at dksX0_isSameKinds_0 18 rfl rfl)
theorem dX0_isSameKinds_21 : decode cX0_isSameKinds 21 = .ok (.aload_n 0, 1) := dk_42 (dk_at dksX0_isSameKinds_0 21 rfl rfl)
theorem dX0_isSameKinds_22 : decode cX0_isSameKinds 22 = .ok (.getfield 445, 3) := dk_180 1 189 (dk_at dksX0_isSameKinds_1 0 rfl rfl)
theorem dX0_isSameKinds_25 : decode cX0_isSameKinds 25 = .ok (.iconst 3, 1) := dk_6 (dk_at dksX0_isSameKinds_1 3 rfl rfl)
theorem dX0_isSameKinds_26 : decode cX0_isSameKinds 26 = .ok (.iload_n 1, 1) := dk_27 (dk_at dksX0_isSameKinds_1 4 rfl rfl)
theorem dX0_isSameKinds_27 : decode cX0_isSameKinds 27 = .ok (.imul, 1) := dk_104 (dk_at dksX0_isSameKinds_1 5 rfl rfl)
theorem dX0_isSameKinds_28 : decode cX0_isSameKinds 28 = .ok (.iload 4, 2) := dk_21 4 (dk_at dksX0_isSameKinds_1 6 rfl rfl)
theorem dX0_isSameKinds_30 : decode cX0_isSameKinds 30 = .ok (.iadd, 1) := dk_96 (dk_at dksX0_isSameKinds_1 8 rfl rfl)
theorem dX0_isSameKinds_31 : decode cX0_isSameKinds 31 = .ok (.iaload, 1) := dk_46 (dk_at dksX0_isSameKinds_1 9 rfl rfl)
theorem dX0_isSameKinds_32 : decode cX0_isSameKinds 32 = .ok (.iaload, 1) := dk_46 (dk_at dksX0_isSameKinds_1 10 rfl rfl)
theorem dX0_isSameKinds_33 : decode cX0_isSameKinds 33 = .ok (.aload_n 0, 1) := dk_42 (dk_at dksX0_isSameKinds_1 11 rfl rfl)
theorem dX0_isSameKinds_34 : decode cX0_isSameKinds 34 = .ok (.getfield 401, 3) := dk_180 1 145 (dk_at dksX0_isSameKinds_1 12 rfl rfl)
theorem dX0_isSameKinds_37 : decode cX0_isSameKinds 37 = .ok (.aload_n 0, 1) := dk_42 (dk_at dksX0_isSameKinds_1 15 rfl rfl)
theorem dX0_isSameKinds_38 : decode cX0_isSameKinds 38 = .ok (.getfield 445, 3) := dk_180 1 189 (dk_at dksX0_isSameKinds_1 16 rfl rfl)
theorem dX0_isSameKinds_41 : decode cX0_isSameKinds 41 = .ok (.iconst 3, 1) := dk_6 (dk_at dksX0_isSameKinds_1 19 rfl rfl)
theorem dX0_isSameKinds_42 : decode cX0_isSameKinds 42 = .ok (.iload_n 2, 1) := dk_28 (dk_at dksX0_isSameKinds_1 20 rfl rfl)
theorem dX0_isSameKinds_43 : decode cX0_isSameKinds 43 = .ok (.imul, 1) := dk_104 (dk_at dksX0_isSameKinds_1 21 rfl rfl)
theorem dX0_isSameKinds_44 : decode cX0_isSameKinds 44 = .ok (.iload 4, 2) := dk_21 4 (dk_at dksX0_isSameKinds_1 22 rfl rfl)
theorem dX0_isSameKinds_46 : decode cX0_isSameKinds 46 = .ok (.iadd, 1) := dk_96 (dk_at dksX0_isSameKinds_2 0 rfl rfl)
theorem dX0_isSameKinds_47 : decode cX0_isSameKinds 47 = .ok (.iaload, 1) := dk_46 (dk_at dksX0_isSameKinds_2 1 rfl rfl)
theorem dX0_isSameKinds_48 : decode cX0_isSameKinds 48 = .ok (.iaload, 1) := dk_46 (dk_at dksX0_isSameKinds_2 2 rfl rfl)
theorem dX0_isSameKinds_49 : decode cX0_isSameKinds 49 = .ok (.if_icmp .ne 7, 3) := dk_160 0 7 (dk_at dksX0_isSameKinds_2 3 rfl rfl)
theorem dX0_isSameKinds_52 : decode cX0_isSameKinds 52 = .ok (.iconst 1, 1) := dk_4 (dk_at dksX0_isSameKinds_2 6 rfl rfl)
theorem dX0_isSameKinds_53 : decode cX0_isSameKinds 53 = .ok (.goto 4, 3) := dk_167 0 4 (dk_at dksX0_isSameKinds_2 7 rfl rfl)
theorem dX0_isSameKinds_56 : decode cX0_isSameKinds 56 = .ok (.iconst 0, 1) := dk_3 (dk_at dksX0_isSameKinds_2 10 rfl rfl)
theorem dX0_isSameKinds_57 : decode cX0_isSameKinds 57 = .ok (.iand, 1) := dk_126 (dk_at dksX0_isSameKinds_2 11 rfl rfl)
theorem dX0_isSameKinds_58 : decode cX0_isSameKinds 58 = .ok (.istore_n 3, 1) := dk_62 (dk_at dksX0_isSameKinds_2 12 rfl rfl)
theorem dX0_isSameKinds_59 : decode cX0_isSameKinds 59 = .ok (.iinc 4 1, 3) := dk_132 4 1 (dk_at dksX0_isSameKinds_2 13 rfl rfl)
theorem dX0_isSameKinds_62 : decode cX0_isSameKinds 62 = .ok (.goto (-57), 3) := dk_167 255 199 (dk_at dksX0_isSameKinds_2 16 rfl rfl)
theorem dX0_isSameKinds_65 : decode cX0_isSameKinds 65 = .ok (.iload_n 3, 1) := dk_29 (dk_at dksX0_isSameKinds_2 19 rfl rfl)
theorem dX0_isSameKinds_66 : decode cX0_isSameKinds 66 = .ok (.ireturn, 1) := dk_172 (dk_at dksX0_isSameKinds_2 20 rfl rfl)
abbrev cX0_layFirst : ByteArray := prog_1_method_56_code
def yX0_layFirst : MethodName := ⟨RX0, "layFirst", "(II)V"⟩
def dkwX0_layFirst_22 : List UInt8 := [54, 11, 177]
abbrev dktX0_layFirst_22 : List UInt8 := dkwX0_layFirst_22 ++ []
def dkwX0_layFirst_21 : List UInt8 := [4, 167, 0, 4, 3, 126, 54, 8, 21, 8, 154, 0, 16, 42, 8, 42, 180, 1, 25, 28, 46, 182, 0, 132]
abbrev dktX0_layFirst_21 : List UInt8 := dkwX0_layFirst_21 ++ dktX0_layFirst_22
def dkwX0_layFirst_20 : List UInt8 := [153, 0, 8, 21, 9, 153, 0, 23, 42, 180, 1, 37, 28, 46, 7, 126, 153, 0, 8, 21, 10, 153, 0, 7]
abbrev dktX0_layFirst_20 : List UInt8 := dkwX0_layFirst_20 ++ dktX0_layFirst_21
def dkwX0_layFirst_19 : List UInt8 := [154, 0, 51, 42, 180, 1, 229, 27, 51, 153, 0, 8, 21, 10, 153, 0, 37, 42, 180, 1, 232, 27, 51]
abbrev dktX0_layFirst_19 : List UInt8 := dkwX0_layFirst_19 ++ dktX0_layFirst_20
def dkwX0_layFirst_18 : List UInt8 := [27, 46, 160, 0, 7, 4, 167, 0, 4, 3, 54, 10, 21, 8, 42, 180, 1, 37, 28, 46, 16, 32, 126]
abbrev dktX0_layFirst_18 : List UInt8 := dkwX0_layFirst_18 ++ dktX0_layFirst_19
def dkwX0_layFirst_17 : List UInt8 := [54, 9, 21, 9, 153, 0, 29, 42, 180, 1, 145, 42, 180, 1, 189, 6, 28, 104, 46, 46, 42, 180, 1, 223]
abbrev dktX0_layFirst_17 : List UInt8 := dkwX0_layFirst_17 ++ dktX0_layFirst_18
def dkwX0_layFirst_16 : List UInt8 := [42, 180, 1, 145, 42, 180, 1, 189, 6, 28, 104, 4, 96, 46, 46, 160, 0, 7, 4, 167, 0, 4, 3]
abbrev dktX0_layFirst_16 : List UInt8 := dkwX0_layFirst_16 ++ dktX0_layFirst_17
def dkwX0_layFirst_15 : List UInt8 := [132, 9, 1, 167, 255, 104, 29, 5, 160, 0, 38, 42, 180, 1, 145, 42, 180, 1, 189, 6, 28, 104, 46, 46]
abbrev dktX0_layFirst_15 : List UInt8 := dkwX0_layFirst_15 ++ dktX0_layFirst_16
def dkwX0_layFirst_14 : List UInt8 := [180, 1, 226, 27, 46, 4, 100, 54, 10, 42, 180, 1, 238, 6, 27, 104, 21, 9, 96, 21, 10, 79]
abbrev dktX0_layFirst_14 : List UInt8 := dkwX0_layFirst_14 ++ dktX0_layFirst_15
def dkwX0_layFirst_13 : List UInt8 := [16, 99, 167, 0, 27, 21, 11, 16, 101, 160, 0, 12, 42, 180, 1, 226, 27, 46, 167, 0, 11, 42]
abbrev dktX0_layFirst_13 : List UInt8 := dkwX0_layFirst_13 ++ dktX0_layFirst_14
def dkwX0_layFirst_12 : List UInt8 := [180, 0, 111, 42, 180, 1, 69, 28, 46, 21, 9, 96, 46, 51, 54, 11, 21, 11, 16, 38, 160, 0, 8]
abbrev dktX0_layFirst_12 : List UInt8 := dkwX0_layFirst_12 ++ dktX0_layFirst_13
def dkwX0_layFirst_11 : List UInt8 := [46, 167, 0, 5, 16, 99, 54, 10, 21, 7, 153, 0, 67, 21, 8, 153, 0, 62, 42, 180, 0, 27, 42]
abbrev dktX0_layFirst_11 : List UInt8 := dkwX0_layFirst_11 ++ dktX0_layFirst_12
def dkwX0_layFirst_10 : List UInt8 := [153, 0, 28, 21, 5, 153, 0, 14, 42, 180, 1, 226, 27, 46, 4, 100, 167, 0, 14, 42, 180, 1, 226, 27]
abbrev dktX0_layFirst_10 : List UInt8 := dkwX0_layFirst_10 ++ dktX0_layFirst_11
def dkwX0_layFirst_9 : List UInt8 := [21, 5, 153, 0, 12, 42, 180, 1, 226, 27, 46, 167, 0, 43, 21, 9, 29, 4, 100, 160, 0, 33, 21, 6]
abbrev dktX0_layFirst_9 : List UInt8 := dkwX0_layFirst_9 ++ dktX0_layFirst_10
def dkwX0_layFirst_8 : List UInt8 := [160, 0, 7, 4, 167, 0, 4, 3, 54, 8, 3, 54, 9, 21, 9, 29, 162, 0, 152, 21, 9, 154, 0, 17]
abbrev dktX0_layFirst_8 : List UInt8 := dkwX0_layFirst_8 ++ dktX0_layFirst_9
def dkwX0_layFirst_7 : List UInt8 := [153, 0, 7, 4, 167, 0, 4, 3, 54, 7, 21, 7, 153, 0, 13, 42, 180, 1, 78, 28, 46, 29]
abbrev dktX0_layFirst_7 : List UInt8 := dkwX0_layFirst_7 ++ dktX0_layFirst_8
def dkwX0_layFirst_6 : List UInt8 := [167, 0, 4, 3, 84, 42, 180, 1, 235, 27, 16, 254, 79, 42, 180, 1, 37, 28, 46, 16, 16, 126]
abbrev dktX0_layFirst_6 : List UInt8 := dkwX0_layFirst_6 ++ dktX0_layFirst_7
def dkwX0_layFirst_5 : List UInt8 := [167, 0, 4, 3, 84, 42, 180, 1, 232, 27, 42, 180, 1, 37, 28, 46, 5, 126, 153, 0, 7, 4]
abbrev dktX0_layFirst_5 : List UInt8 := dkwX0_layFirst_5 ++ dktX0_layFirst_6
def dkwX0_layFirst_4 : List UInt8 := [16, 41, 167, 0, 4, 3, 79, 42, 180, 1, 229, 27, 42, 180, 1, 37, 28, 46, 4, 126, 153, 0, 7, 4]
abbrev dktX0_layFirst_4 : List UInt8 := dkwX0_layFirst_4 ++ dktX0_layFirst_5
def dkwX0_layFirst_3 : List UInt8 := [126, 153, 0, 12, 42, 180, 1, 64, 28, 46, 167, 0, 19, 21, 5, 154, 0, 8, 21, 6, 153, 0, 8]
abbrev dktX0_layFirst_3 : List UInt8 := dkwX0_layFirst_3 ++ dktX0_layFirst_4
def dkwX0_layFirst_2 : List UInt8 := [180, 1, 145, 42, 180, 1, 192, 28, 46, 46, 79, 42, 180, 1, 226, 27, 42, 180, 1, 37, 28, 46, 16, 8]
abbrev dktX0_layFirst_2 : List UInt8 := dkwX0_layFirst_2 ++ dktX0_layFirst_3
def dkwX0_layFirst_1 : List UInt8 := [54, 5, 42, 28, 21, 4, 182, 1, 217, 54, 6, 42, 180, 1, 220, 27, 29, 79, 42, 180, 1, 223, 27, 42]
abbrev dktX0_layFirst_1 : List UInt8 := dkwX0_layFirst_1 ++ dktX0_layFirst_2
def dkwX0_layFirst_0 : List UInt8 := [42, 180, 1, 180, 28, 46, 62, 42, 180, 1, 162, 28, 46, 4, 100, 54, 4, 42, 28, 3, 182, 1, 217]
abbrev dktX0_layFirst_0 : List UInt8 := dkwX0_layFirst_0 ++ dktX0_layFirst_1
theorem dksX0_layFirst_0 : cX0_layFirst.data.toList.drop 0 = dktX0_layFirst_0 := by decide +kernel
theorem dksX0_layFirst_1 : cX0_layFirst.data.toList.drop 23 = dktX0_layFirst_1 := dk_seg dksX0_layFirst_0 23 rfl rfl
theorem dksX0_layFirst_2 : cX0_layFirst.data.toList.drop 47 = dktX0_layFirst_2 := dk_seg dksX0_layFirst_1 24 rfl rfl
theorem dksX0_layFirst_3 : cX0_layFirst.data.toList.drop 71 = dktX0_layFirst_3 := dk_seg dksX0_layFirst_2 24 rfl rfl
theorem dksX0_layFirst_4 : cX0_layFirst.data.toList.drop 94 = dktX0_layFirst_4 := dk_seg dksX0_layFirst_3 23 rfl rfl
theorem dksX0_layFirst_5 : cX0_layFirst.data.toList.drop 118 = dktX0_layFirst_5 := dk_seg dksX0_layFirst_4 24 rfl rfl
theorem dksX0_layFirst_6 : cX0_layFirst.data.toList.drop 140 = dktX0_layFirst_6 := dk_seg dksX0_layFirst_5 22 rfl rfl
theorem dksX0_layFirst_7 : cX0_layFirst.data.toList.drop 162 = dktX0_layFirst_7 := dk_seg dksX0_layFirst_6 22 rfl rfl
theorem dksX0_layFirst_8 : cX0_layFirst.data.toList.drop 184 = dktX0_layFirst_8 := dk_seg dksX0_layFirst_7 22 rfl rfl
theorem dksX0_layFirst_9 : cX0_layFirst.data.toList.drop 208 = dktX0_layFirst_9 := dk_seg dksX0_layFirst_8 24 rfl rfl
theorem dksX0_layFirst_10 : cX0_layFirst.data.toList.drop 232 = dktX0_layFirst_10 := dk_seg dksX0_layFirst_9 24 rfl rfl
theorem dksX0_layFirst_11 : cX0_layFirst.data.toList.drop 256 = dktX0_layFirst_11 := dk_seg dksX0_layFirst_10 24 rfl rfl
theorem dksX0_layFirst_12 : cX0_layFirst.data.toList.drop 279 = dktX0_layFirst_12 := dk_seg dksX0_layFirst_11 23 rfl rfl
theorem dksX0_layFirst_13 : cX0_layFirst.data.toList.drop 302 = dktX0_layFirst_13 := dk_seg dksX0_layFirst_12 23 rfl rfl
theorem dksX0_layFirst_14 : cX0_layFirst.data.toList.drop 324 = dktX0_layFirst_14 := dk_seg dksX0_layFirst_13 22 rfl rfl
theorem dksX0_layFirst_15 : cX0_layFirst.data.toList.drop 346 = dktX0_layFirst_15 := dk_seg dksX0_layFirst_14 22 rfl rfl
theorem dksX0_layFirst_16 : cX0_layFirst.data.toList.drop 370 = dktX0_layFirst_16 := dk_seg dksX0_layFirst_15 24 rfl rfl
theorem dksX0_layFirst_17 : cX0_layFirst.data.toList.drop 393 = dktX0_layFirst_17 := dk_seg dksX0_layFirst_16 23 rfl rfl
theorem dksX0_layFirst_18 : cX0_layFirst.data.toList.drop 417 = dktX0_layFirst_18 := dk_seg dksX0_layFirst_17 24 rfl rfl
theorem dksX0_layFirst_19 : cX0_layFirst.data.toList.drop 440 = dktX0_layFirst_19 := dk_seg dksX0_layFirst_18 23 rfl rfl
theorem dksX0_layFirst_20 : cX0_layFirst.data.toList.drop 463 = dktX0_layFirst_20 := dk_seg dksX0_layFirst_19 23 rfl rfl
theorem dksX0_layFirst_21 : cX0_layFirst.data.toList.drop 487 = dktX0_layFirst_21 := dk_seg dksX0_layFirst_20 24 rfl rfl
theorem dksX0_layFirst_22 : cX0_layFirst.data.toList.drop 511 = dktX0_layFirst_22 := dk_seg dksX0_layFirst_21 24 rfl rfl
theorem dX0_layFirst_0 : decode cX0_layFirst 0 = .ok (.aload_n 0, 1) := dk_42 (dk_at dksX0_layFirst_0 0 rfl rfl)
theorem dX0_layFirst_1 : decode cX0_layFirst 1 = .ok (.getfield 436, 3) := dk_180 1 180 (dk_at dksX0_layFirst_0 1 rfl rfl)
theorem dX0_layFirst_4 : decode cX0_layFirst 4 = .ok (.iload_n 2, 1) := dk_28 (dk_at dksX0_layFirst_0 4 rfl rfl)
theorem dX0_layFirst_5 : decode cX0_layFirst 5 = .ok (.iaload, 1) := dk_46 (dk_at dksX0_layFirst_0 5 rfl rfl)
theorem dX0_layFirst_6 : decode cX0_layFirst 6 = .ok (.istore_n 3, 1) := dk_62 (dk_at dksX0_layFirst_0 6 rfl rfl)
theorem dX0_layFirst_7 : decode cX0_layFirst 7 = .ok (.aload_n 0, 1) := dk_42 (dk_at dksX0_layFirst_0 7 rfl rfl)
theorem dX0_layFirst_8 : decode cX0_layFirst 8 = .ok (.getfield 418, 3) := dk_180 1 162 (dk_at dksX0_layFirst_0 8 rfl rfl)
theorem dX0_layFirst_11 : decode cX0_layFirst 11 = .ok (.iload_n 2, 1) := dk_28 (dk_at dksX0_layFirst_0 11 rfl rfl)
theorem dX0_layFirst_12 : decode cX0_layFirst 12 = .ok (.iaload, 1) := dk_46 (dk_at dksX0_layFirst_0 12 rfl rfl)
theorem dX0_layFirst_13 : decode cX0_layFirst 13 = .ok (.iconst 1, 1) := dk_4 (dk_at dksX0_layFirst_0 13 rfl rfl)
theorem dX0_layFirst_14 : decode cX0_layFirst 14 = .ok (.isub, 1) := dk_100 (dk_at dksX0_layFirst_0 14 rfl rfl)
theorem dX0_layFirst_15 : decode cX0_layFirst 15 = .ok (.istore 4, 2) := dk_54 4 (dk_at dksX0_layFirst_0 15 rfl rfl)
theorem dX0_layFirst_17 : decode cX0_layFirst 17 = .ok (.aload_n 0, 1) := dk_42 (dk_at dksX0_layFirst_0 17 rfl rfl)
theorem dX0_layFirst_18 : decode cX0_layFirst 18 = .ok (.iload_n 2, 1) := dk_28 (dk_at dksX0_layFirst_0 18 rfl rfl)
theorem dX0_layFirst_19 : decode cX0_layFirst 19 = .ok (.iconst 0, 1) := dk_3 (dk_at dksX0_layFirst_0 19 rfl rfl)
theorem dX0_layFirst_20 : decode cX0_layFirst 20 = .ok (.invokevirtual 473, 3) := dk_182 1 217 (dk_at dksX0_layFirst_0 20 rfl rfl)
theorem dX0_layFirst_23 : decode cX0_layFirst 23 = .ok (.istore 5, 2) := dk_54 5 (dk_at dksX0_layFirst_1 0 rfl rfl)
theorem dX0_layFirst_25 : decode cX0_layFirst 25 = .ok (.aload_n 0, 1) := dk_42 (dk_at dksX0_layFirst_1 2 rfl rfl)
theorem dX0_layFirst_26 : decode cX0_layFirst 26 = .ok (.iload_n 2, 1) := dk_28 (dk_at dksX0_layFirst_1 3 rfl rfl)
theorem dX0_layFirst_27 : decode cX0_layFirst 27 = .ok (.iload 4, 2) := dk_21 4 (dk_at dksX0_layFirst_1 4 rfl rfl)
theorem dX0_layFirst_29 : decode cX0_layFirst 29 = .ok (.invokevirtual 473, 3) := dk_182 1 217 (dk_at dksX0_layFirst_1 6 rfl rfl)
theorem dX0_layFirst_32 : decode cX0_layFirst 32 = .ok (.istore 6, 2) := dk_54 6 (dk_at dksX0_layFirst_1 9 rfl rfl)
theorem dX0_layFirst_34 : decode cX0_layFirst 34 = .ok (.aload_n 0, 1) := dk_42 (dk_at dksX0_layFirst_1 11 rfl rfl)
theorem dX0_layFirst_35 : decode cX0_layFirst 35 = .ok (.getfield 476, 3) := dk_180 1 220 (dk_at dksX0_layFirst_1 12 rfl rfl)
theorem dX0_layFirst_38 : decode cX0_layFirst 38 = .ok (.iload_n 1, 1) := dk_27 (dk_at dksX0_layFirst_1 15 rfl rfl)
theorem dX0_layFirst_39 : decode cX0_layFirst 39 = .ok (.iload_n 3, 1) := dk_29 (dk_at dksX0_layFirst_1 16 rfl rfl)
theorem dX0_layFirst_40 : decode cX0_layFirst 40 = .ok (.iastore, 1) := dk_79 (dk_at dksX0_layFirst_1 17 rfl rfl)
theorem dX0_layFirst_41 : decode cX0_layFirst 41 = .ok (.aload_n 0, 1) := dk_42 (dk_at dksX0_layFirst_1 18 rfl rfl)
theorem dX0_layFirst_42 : decode cX0_layFirst 42 = .ok (.getfield 479, 3) := dk_180 1 223 (dk_at dksX0_layFirst_1 19 rfl rfl)
theorem dX0_layFirst_45 : decode cX0_layFirst 45 = .ok (.iload_n 1, 1) := dk_27 (dk_at dksX0_layFirst_1 22 rfl rfl)
theorem dX0_layFirst_46 : decode cX0_layFirst 46 = .ok (.aload_n 0, 1) := dk_42 (dk_at dksX0_layFirst_1 23 rfl rfl)
theorem dX0_layFirst_47 : decode cX0_layFirst 47 = .ok (.getfield 401, 3) := dk_180 1 145 (dk_at dksX0_layFirst_2 0 rfl rfl)
theorem dX0_layFirst_50 : decode cX0_layFirst 50 = .ok (.aload_n 0, 1) := dk_42 (dk_at dksX0_layFirst_2 3 rfl rfl)
theorem dX0_layFirst_51 : decode cX0_layFirst 51 = .ok (.getfield 448, 3) := dk_180 1 192 (dk_at dksX0_layFirst_2 4 rfl rfl)
theorem dX0_layFirst_54 : decode cX0_layFirst 54 = .ok (.iload_n 2, 1) := dk_28 (dk_at dksX0_layFirst_2 7 rfl rfl)
theorem dX0_layFirst_55 : decode cX0_layFirst 55 = .ok (.iaload, 1) := dk_46 (dk_at dksX0_layFirst_2 8 rfl rfl)
theorem dX0_layFirst_56 : decode cX0_layFirst 56 = .ok (.iaload, 1) := dk_46 (dk_at dksX0_layFirst_2 9 rfl rfl)
theorem dX0_layFirst_57 : decode cX0_layFirst 57 = .ok (.iastore, 1) := dk_79 (dk_at dksX0_layFirst_2 10 rfl rfl)
theorem dX0_layFirst_58 : decode cX0_layFirst 58 = .ok (.aload_n 0, 1) := dk_42 (dk_at dksX0_layFirst_2 11 rfl rfl)
theorem dX0_layFirst_59 : decode cX0_layFirst 59 = .ok (.getfield 482, 3) := dk_180 1 226 (dk_at dksX0_layFirst_2 12 rfl rfl)
theorem dX0_layFirst_62 : decode cX0_layFirst 62 = .ok (.iload_n 1, 1) := dk_27 (dk_at dksX0_layFirst_2 15 rfl rfl)
theorem dX0_layFirst_63 : decode cX0_layFirst 63 = .ok (.aload_n 0, 1) := dk_42 (dk_at dksX0_layFirst_2 16 rfl rfl)
theorem dX0_layFirst_64 : decode cX0_layFirst 64 = .ok (.getfield 293, 3) := dk_180 1 37 (dk_at dksX0_layFirst_2 17 rfl rfl)
theorem dX0_layFirst_67 : decode cX0_layFirst 67 = .ok (.iload_n 2, 1) := dk_28 (dk_at dksX0_layFirst_2 20 rfl rfl)
theorem dX0_layFirst_68 : decode cX0_layFirst 68 = .ok (.iaload, 1) := dk_46 (dk_at dksX0_layFirst_2 21 rfl rfl)
theorem dX0_layFirst_69 : decode cX0_layFirst 69 = .ok (.bipush 8, 2) := dk_16 8 (dk_at dksX0_layFirst_2 22 rfl rfl)
theorem dX0_layFirst_71 : decode cX0_layFirst 71 = .ok (.iand, 1) := dk_126 (dk_at dksX0_layFirst_3 0 rfl rfl)
theorem dX0_layFirst_72 : decode cX0_layFirst 72 = .ok (.ifCond .eq 12, 3) := dk_153 0 12 (dk_at dksX0_layFirst_3 1 rfl rfl)
theorem dX0_layFirst_75 : decode cX0_layFirst 75 = .ok (.aload_n 0, 1) := dk_42 (dk_at dksX0_layFirst_3 4 rfl rfl)
theorem dX0_layFirst_76 : decode cX0_layFirst 76 = .ok (.getfield 320, 3) := dk_180 1 64 (dk_at dksX0_layFirst_3 5 rfl rfl)
theorem dX0_layFirst_79 : decode cX0_layFirst 79 = .ok (.iload_n 2, 1) := dk_28 (dk_at dksX0_layFirst_3 8 rfl rfl)
theorem dX0_layFirst_80 : decode cX0_layFirst 80 = .ok (.iaload, 1) := dk_46 (dk_at dksX0_layFirst_3 9 rfl rfl)
theorem dX0_layFirst_81 : decode cX0_layFirst 81 = .ok (.goto 19, 3) := dk_167 0 19 (dk_at dksX0_layFirst_3 10 rfl rfl)
theorem dX0_layFirst_84 : decode cX0_layFirst 84 = .ok (.iload 5, 2) := dk_21 5 (dk_at dksX0_layFirst_3 13 rfl rfl)
theorem dX0_layFirst_86 : decode cX0_layFirst 86 = .ok (.ifCond .ne 8, 3) := dk_154 0 8 (dk_at dksX0_layFirst_3 15 rfl rfl)
theorem dX0_layFirst_89 : decode cX0_layFirst 89 = .ok (.iload 6, 2) := dk_21 6 (dk_at dksX0_layFirst_3 18 rfl rfl)
theorem dX0_layFirst_91 : decode cX0_layFirst 91 = .ok (.ifCond .eq 8, 3) := dk_153 0 8 (dk_at dksX0_layFirst_3 20 rfl rfl)
theorem dX0_layFirst_94 : decode cX0_layFirst 94 = .ok (.bipush 41, 2) := dk_16 41 (dk_at dksX0_layFirst_4 0 rfl rfl)
theorem dX0_layFirst_96 : decode cX0_layFirst 96 = .ok (.goto 4, 3) := dk_167 0 4 (dk_at dksX0_layFirst_4 2 rfl rfl)
theorem dX0_layFirst_99 : decode cX0_layFirst 99 = .ok (.iconst 0, 1) := dk_3 (dk_at dksX0_layFirst_4 5 rfl rfl)
theorem dX0_layFirst_100 : decode cX0_layFirst 100 = .ok (.iastore, 1) := dk_79 (dk_at dksX0_layFirst_4 6 rfl rfl)
theorem dX0_layFirst_101 : decode cX0_layFirst 101 = .ok (.aload_n 0, 1) := dk_42 (dk_at dksX0_layFirst_4 7 rfl rfl)
theorem dX0_layFirst_102 : decode cX0_layFirst 102 = .ok (.getfield 485, 3) := dk_180 1 229 (dk_at dksX0_layFirst_4 8 rfl rfl)
theorem dX0_layFirst_105 : decode cX0_layFirst 105 = .ok (.iload_n 1, 1) := dk_27 (dk_at dksX0_layFirst_4 11 rfl rfl)
theorem dX0_layFirst_106 : decode cX0_layFirst 106 = .ok (.aload_n 0, 1) := dk_42 (dk_at dksX0_layFirst_4 12 rfl rfl)
theorem dX0_layFirst_107 : decode cX0_layFirst 107 = .ok (.getfield 293, 3) := dk_180 1 37 (dk_at dksX0_layFirst_4 13 rfl rfl)
theorem dX0_layFirst_110 : decode cX0_layFirst 110 = .ok (.iload_n 2, 1) := dk_28 (dk_at dksX0_layFirst_4 16 rfl rfl)
theorem dX0_layFirst_111 : decode cX0_layFirst 111 = .ok (.iaload, 1) := dk_46 (dk_at dksX0_layFirst_4 17 rfl rfl)
theorem dX0_layFirst_112 : decode cX0_layFirst 112 = .ok (.iconst 1, 1) := dk_4 (dk_at dksX0_layFirst_4 18 rfl rfl)
theorem dX0_layFirst_113 : decode cX0_layFirst 113 = .ok (.iand, 1) := dk_126 (dk_at dksX0_layFirst_4 19 rfl rfl)
theorem dX0_layFirst_114 : decode cX0_layFirst 114 = .ok (.ifCond .eq 7, 3) := dk_153 0 7 (dk_at dksX0_layFirst_4 20 rfl rfl)
theorem dX0_layFirst_117 : decode cX0_layFirst 117 = .ok (.iconst 1, 1) := dk_4 (dk_at dksX0_layFirst_4 23 rfl rfl)
theorem dX0_layFirst_118 : decode cX0_layFirst 118 = .ok (.goto 4, 3) := dk_167 0 4 (dk_at dksX0_layFirst_5 0 rfl rfl)
theorem dX0_layFirst_121 : decode cX0_layFirst 121 = .ok (.iconst 0, 1) := dk_3 (dk_at dksX0_layFirst_5 3 rfl rfl)
theorem dX0_layFirst_122 : decode cX0_layFirst 122 = .ok (.bastore, 1) := dk_84 (dk_at dksX0_layFirst_5 4 rfl rfl)
theorem dX0_layFirst_123 : decode cX0_layFirst 123 = .ok (.aload_n 0, 1) := dk_42 (dk_at dksX0_layFirst_5 5 rfl rfl)
theorem dX0_layFirst_124 : decode cX0_layFirst 124 = .ok (.getfield 488, 3) := dk_180 1 232 (dk_at dksX0_layFirst_5 6 rfl rfl)
theorem dX0_layFirst_127 : decode cX0_layFirst 127 = .ok (.iload_n 1, 1) := dk_27 (dk_at dksX0_layFirst_5 9 rfl rfl)
theorem dX0_layFirst_128 : decode cX0_layFirst 128 = .ok (.aload_n 0, 1) := dk_42 (dk_at dksX0_layFirst_5 10 rfl rfl)
theorem dX0_layFirst_129 : decode cX0_layFirst 129 = .ok (.getfield 293, 3) := dk_180 1 37 (dk_at dksX0_layFirst_5 11 rfl rfl)
theorem dX0_layFirst_132 : decode cX0_layFirst 132 = .ok (.iload_n 2, 1) := dk_28 (dk_at dksX0_layFirst_5 14 rfl rfl)
theorem dX0_layFirst_133 : decode cX0_layFirst 133 = .ok (.iaload, 1) := dk_46 (dk_at dksX0_layFirst_5 15 rfl rfl)
theorem dX0_layFirst_134 : decode cX0_layFirst 134 = .ok (.iconst 2, 1) := dk_5 (dk_at dksX0_layFirst_5 16 rfl rfl)
theorem dX0_layFirst_135 : decode cX0_layFirst 135 = .ok (.iand, 1) := dk_126 (dk_at dksX0_layFirst_5 17 rfl rfl)
theorem dX0_layFirst_136 : decode cX0_layFirst 136 = .ok (.ifCond .eq 7, 3) := dk_153 0 7 (dk_at dksX0_layFirst_5 18 rfl rfl)
theorem dX0_layFirst_139 : decode cX0_layFirst 139 = .ok (.iconst 1, 1) := dk_4 (dk_at dksX0_layFirst_5 21 rfl rfl)
theorem dX0_layFirst_140 : decode cX0_layFirst 140 = .ok (.goto 4, 3) := dk_167 0 4 (dk_at dksX0_layFirst_6 0 rfl rfl)
theorem dX0_layFirst_143 : decode cX0_layFirst 143 = .ok (.iconst 0, 1) := dk_3 (dk_at dksX0_layFirst_6 3 rfl rfl)
theorem dX0_layFirst_144 : decode cX0_layFirst 144 = .ok (.bastore, 1) := dk_84 (dk_at dksX0_layFirst_6 4 rfl rfl)
theorem dX0_layFirst_145 : decode cX0_layFirst 145 = .ok (.aload_n 0, 1) := dk_42 (dk_at dksX0_layFirst_6 5 rfl rfl)
theorem dX0_layFirst_146 : decode cX0_layFirst 146 = .ok (.getfield 491, 3) := dk_180 1 235 (dk_at dksX0_layFirst_6 6 rfl rfl)
theorem dX0_layFirst_149 : decode cX0_layFirst 149 = .ok (.iload_n 1, 1) := dk_27 (dk_at dksX0_layFirst_6 9 rfl rfl)
theorem dX0_layFirst_150 : decode cX0_layFirst 150 = .ok (.bipush (-2), 2) := dk_16 254 (dk_at dksX0_layFirst_6 10 rfl rfl)
theorem dX0_layFirst_152 : decode cX0_layFirst 152 = .ok (.iastore, 1) := dk_79 (dk_at dksX0_layFirst_6 12 rfl rfl)
theorem dX0_layFirst_153 : decode cX0_layFirst 153 = .ok (.aload_n 0, 1) := dk_42 (dk_at dksX0_layFirst_6 13 rfl rfl)
theorem dX0_layFirst_154 : decode cX0_layFirst 154 = .ok (.getfield 293, 3) := dk_180 1 37 (dk_at dksX0_layFirst_6 14 rfl rfl)
theorem dX0_layFirst_157 : decode cX0_layFirst 157 = .ok (.iload_n 2, 1) := dk_28 (dk_at dksX0_layFirst_6 17 rfl rfl)
theorem dX0_layFirst_158 : decode cX0_layFirst 158 = .ok (.iaload, 1) := dk_46 (dk_at dksX0_layFirst_6 18 rfl rfl)
theorem dX0_layFirst_159 : decode cX0_layFirst 159 = .ok (.bipush 16, 2) := dk_16 16 (dk_at dksX0_layFirst_6 19 rfl rfl)
theorem dX0_layFirst_161 : decode cX0_layFirst 161 = .ok (.iand, 1) := dk_126 (dk_at dksX0_layFirst_6 21 rfl rfl)
theorem dX0_layFirst_162 : decode cX0_layFirst 162 = .ok (.ifCond .eq 7, 3) := dk_153 0 7 (dk_at dksX0_layFirst_7 0 rfl rfl)
theorem dX0_layFirst_165 : decode cX0_layFirst 165 = .ok (.iconst 1, 1) := dk_4 (dk_at dksX0_layFirst_7 3 rfl rfl)
theorem dX0_layFirst_166 : decode cX0_layFirst 166 = .ok (.goto 4, 3) := dk_167 0 4 (dk_at dksX0_layFirst_7 4 rfl rfl)
theorem dX0_layFirst_169 : decode cX0_layFirst 169 = .ok (.iconst 0, 1) := dk_3 (dk_at dksX0_layFirst_7 7 rfl rfl)
theorem dX0_layFirst_170 : decode cX0_layFirst 170 = .ok (.istore 7, 2) := dk_54 7 (dk_at dksX0_layFirst_7 8 rfl rfl)
theorem dX0_layFirst_172 : decode cX0_layFirst 172 = .ok (.iload 7, 2) := dk_21 7 (dk_at dksX0_layFirst_7 10 rfl rfl)
theorem dX0_layFirst_174 : decode cX0_layFirst 174 = .ok (.ifCond .eq 13, 3) := dk_153 0 13 (dk_at dksX0_layFirst_7 12 rfl rfl)
theorem dX0_layFirst_177 : decode cX0_layFirst 177 = .ok (.aload_n 0, 1) := dk_42 (dk_at dksX0_layFirst_7 15 rfl rfl)
theorem dX0_layFirst_178 : decode cX0_layFirst 178 = .ok (.getfield 334, 3) := dk_180 1 78 (dk_at dksX0_layFirst_7 16 rfl rfl)
theorem dX0_layFirst_181 : decode cX0_layFirst 181 = .ok (.iload_n 2, 1) := dk_28 (dk_at dksX0_layFirst_7 19 rfl rfl)
theorem dX0_layFirst_182 : decode cX0_layFirst 182 = .ok (.iaload, 1) := dk_46 (dk_at dksX0_layFirst_7 20 rfl rfl)
theorem dX0_layFirst_183 : decode cX0_layFirst 183 = .ok (.iload_n 3, 1) := dk_29 (dk_at dksX0_layFirst_7 21 rfl rfl)
theorem dX0_layFirst_184 : decode cX0_layFirst 184 = .ok (.if_icmp .ne 7, 3) := dk_160 0 7 (dk_at dksX0_layFirst_8 0 rfl rfl)
theorem dX0_layFirst_187 : decode cX0_layFirst 187 = .ok (.iconst 1, 1) := dk_4 (dk_at dksX0_layFirst_8 3 rfl rfl)
theorem dX0_layFirst_188 : decode cX0_layFirst 188 = .ok (.goto 4, 3) := dk_167 0 4 (dk_at dksX0_layFirst_8 4 rfl rfl)
theorem dX0_layFirst_191 : decode cX0_layFirst 191 = .ok (.iconst 0, 1) := dk_3 (dk_at dksX0_layFirst_8 7 rfl rfl)
theorem dX0_layFirst_192 : decode cX0_layFirst 192 = .ok (.istore 8, 2) := dk_54 8 (dk_at dksX0_layFirst_8 8 rfl rfl)
theorem dX0_layFirst_194 : decode cX0_layFirst 194 = .ok (.iconst 0, 1) := dk_3 (dk_at dksX0_layFirst_8 10 rfl rfl)
theorem dX0_layFirst_195 : decode cX0_layFirst 195 = .ok (.istore 9, 2) := dk_54 9 (dk_at dksX0_layFirst_8 11 rfl rfl)
theorem dX0_layFirst_197 : decode cX0_layFirst 197 = .ok (.iload 9, 2) := dk_21 9 (dk_at dksX0_layFirst_8 13 rfl rfl)
theorem dX0_layFirst_199 : decode cX0_layFirst 199 = .ok (.iload_n 3, 1) := dk_29 (dk_at dksX0_layFirst_8 15 rfl rfl)
theorem dX0_layFirst_200 : decode cX0_layFirst 200 = .ok (.if_icmp .ge 152, 3) := dk_162 0 152 (dk_at dksX0_layFirst_8 16 rfl rfl)
theorem dX0_layFirst_203 : decode cX0_layFirst 203 = .ok (.iload 9, 2) := dk_21 9 (dk_at dksX0_layFirst_8 19 rfl rfl)
theorem dX0_layFirst_205 : decode cX0_layFirst 205 = .ok (.ifCond .ne 17, 3) := dk_154 0 17 (dk_at dksX0_layFirst_8 21 rfl rfl)
theorem dX0_layFirst_208 : decode cX0_layFirst 208 = .ok (.iload 5, 2) := dk_21 5 (dk_at dksX0_layFirst_9 0 rfl rfl)
theorem dX0_layFirst_210 : decode cX0_layFirst 210 = .ok (.ifCond .eq 12, 3) := dk_153 0 12 (dk_at dksX0_layFirst_9 2 rfl rfl)
theorem dX0_layFirst_213 : decode cX0_layFirst 213 = .ok (.aload_n 0, 1) := dk_42 (dk_at dksX0_layFirst_9 5 rfl rfl)
theorem dX0_layFirst_214 : decode cX0_layFirst 214 = .ok (.getfield 482, 3) := dk_180 1 226 (dk_at dksX0_layFirst_9 6 rfl rfl)
theorem dX0_layFirst_217 : decode cX0_layFirst 217 = .ok (.iload_n 1, 1) := dk_27 (dk_at dksX0_layFirst_9 9 rfl rfl)
theorem dX0_layFirst_218 : decode cX0_layFirst 218 = .ok (.iaload, 1) := dk_46 (dk_at dksX0_layFirst_9 10 rfl rfl)
theorem dX0_layFirst_219 : decode cX0_layFirst 219 = .ok (.goto 43, 3) := dk_167 0 43 (dk_at dksX0_layFirst_9 11 rfl rfl)
theorem dX0_layFirst_222 : decode cX0_layFirst 222 = .ok (.iload 9, 2) := dk_21 9 (dk_at dksX0_layFirst_9 14 rfl rfl)
theorem dX0_layFirst_224 : decode cX0_layFirst 224 = .ok (.iload_n 3, 1) := dk_29 (dk_at dksX0_layFirst_9 16 rfl rfl)
theorem dX0_layFirst_225 : decode cX0_layFirst 225 = .ok (.iconst 1, 1) := dk_4 (dk_at dksX0_layFirst_9 17 rfl rfl)
theorem dX0_layFirst_226 : decode cX0_layFirst 226 = .ok (.isub, 1) := dk_100 (dk_at dksX0_layFirst_9 18 rfl rfl)
theorem dX0_layFirst_227 : decode cX0_layFirst 227 = .ok (.if_icmp .ne 33, 3) := dk_160 0 33 (dk_at dksX0_layFirst_9 19 rfl rfl)
theorem dX0_layFirst_230 : decode cX0_layFirst 230 = .ok (.iload 6, 2) := dk_21 6 (dk_at dksX0_layFirst_9 22 rfl rfl)
theorem dX0_layFirst_232 : decode cX0_layFirst 232 = .ok (.ifCond .eq 28, 3) := dk_153 0 28 (dk_at dksX0_layFirst_10 0 rfl rfl)
theorem dX0_layFirst_235 : decode cX0_layFirst 235 = .ok (.iload 5, 2) := dk_21 5 (dk_at dksX0_layFirst_10 3 rfl rfl)
theorem dX0_layFirst_237 : decode cX0_layFirst 237 = .ok (.ifCond .eq 14, 3) := dk_153 0 14 (dk_at dksX0_layFirst_10 5 rfl rfl)
theorem dX0_layFirst_240 : decode cX0_layFirst 240 = .ok (.aload_n 0, 1) := dk_42 (dk_at dksX0_layFirst_10 8 rfl rfl)
theorem dX0_layFirst_241 : decode cX0_layFirst 241 = .ok (.getfield 482, 3) := dk_180 1 226 (dk_at dksX0_layFirst_10 9 rfl rfl)
theorem dX0_layFirst_244 : decode cX0_layFirst 244 = .ok (.iload_n 1, 1) := dk_27 (dk_at dksX0_layFirst_10 12 rfl rfl)
theorem dX0_layFirst_245 : decode cX0_layFirst 245 = .ok (.iaload, 1) := dk_46 (dk_at dksX0_layFirst_10 13 rfl rfl)
theorem dX0_layFirst_246 : decode cX0_layFirst 246 = .ok (.iconst 1, 1) := dk_4 (dk_at dksX0_layFirst_10 14 rfl rfl)
theorem dX0_layFirst_247 : decode cX0_layFirst 247 = .ok (.isub, 1) := dk_100 (dk_at dksX0_layFirst_10 15 rfl rfl)
theorem dX0_layFirst_248 : decode cX0_layFirst 248 = .ok (.goto 14, 3) := dk_167 0 14 (dk_at dksX0_layFirst_10 16 rfl rfl)
theorem dX0_layFirst_251 : decode cX0_layFirst 251 = .ok (.aload_n 0, 1) := dk_42 (dk_at dksX0_layFirst_10 19 rfl rfl)
theorem dX0_layFirst_252 : decode cX0_layFirst 252 = .ok (.getfield 482, 3) := dk_180 1 226 (dk_at dksX0_layFirst_10 20 rfl rfl)
theorem dX0_layFirst_255 : decode cX0_layFirst 255 = .ok (.iload_n 1, 1) := dk_27 (dk_at dksX0_layFirst_10 23 rfl rfl)
theorem dX0_layFirst_256 : decode cX0_layFirst 256 = .ok (.iaload, 1) := dk_46 (dk_at dksX0_layFirst_11 0 rfl rfl)
theorem dX0_layFirst_257 : decode cX0_layFirst 257 = .ok (.goto 5, 3) := dk_167 0 5 (dk_at dksX0_layFirst_11 1 rfl rfl)
theorem dX0_layFirst_260 : decode cX0_layFirst 260 = .ok (.bipush 99, 2) := dk_16 99 (dk_at dksX0_layFirst_11 4 rfl rfl)
theorem dX0_layFirst_262 : decode cX0_layFirst 262 = .ok (.istore 10, 2) := dk_54 10 (dk_at dksX0_layFirst_11 6 rfl rfl)
theorem dX0_layFirst_264 : decode cX0_layFirst 264 = .ok (.iload 7, 2) := dk_21 7 (dk_at dksX0_layFirst_11 8 rfl rfl)
theorem dX0_layFirst_266 : decode cX0_layFirst 266 = .ok (.ifCond .eq 67, 3) := dk_153 0 67 (dk_at dksX0_layFirst_11 10 rfl rfl)
theorem dX0_layFirst_269 : decode cX0_layFirst 269 = .ok (.iload 8, 2) := dk_21 8 (dk_at dksX0_layFirst_11 13 rfl rfl)
theorem dX0_layFirst_271 : decode cX0_layFirst 271 = .ok (.ifCond .eq 62, 3) := dk_153 0 62 (dk_at dksX0_layFirst_11 15 rfl rfl)
theorem dX0_layFirst_274 : decode cX0_layFirst 274 = .ok (.aload_n 0, 1) := dk_42 (dk_at dksX0_layFirst_11 18 rfl rfl)
theorem dX0_layFirst_275 : decode cX0_layFirst 275 = .ok (.getfield 27, 3) := dk_180 0 27 (dk_at dksX0_layFirst_11 19 rfl rfl)
theorem dX0_layFirst_278 : decode cX0_layFirst 278 = .ok (.aload_n 0, 1) := dk_42 (dk_at dksX0_layFirst_11 22 rfl rfl)
theorem dX0_layFirst_279 : decode cX0_layFirst 279 = .ok (.getfield 111, 3) := dk_180 0 111 (dk_at dksX0_layFirst_12 0 rfl rfl)
theorem dX0_layFirst_282 : decode cX0_layFirst 282 = .ok (.aload_n 0, 1) := dk_42 (dk_at dksX0_layFirst_12 3 rfl rfl)
theorem dX0_layFirst_283 : decode cX0_layFirst 283 = .ok (.getfield 325, 3) := dk_180 1 69 (dk_at dksX0_layFirst_12 4 rfl rfl)
theorem dX0_layFirst_286 : decode cX0_layFirst 286 = .ok (.iload_n 2, 1) := dk_28 (dk_at dksX0_layFirst_12 7 rfl rfl)
theorem dX0_layFirst_287 : decode cX0_layFirst 287 = .ok (.iaload, 1) := dk_46 (dk_at dksX0_layFirst_12 8 rfl rfl)
theorem dX0_layFirst_288 : decode cX0_layFirst 288 = .ok (.iload 9, 2) := dk_21 9 (dk_at dksX0_layFirst_12 9 rfl rfl)
theorem dX0_layFirst_290 : decode cX0_layFirst 290 = .ok (.iadd, 1) := dk_96 (dk_at dksX0_layFirst_12 11 rfl rfl)
theorem dX0_layFirst_291 : decode cX0_layFirst 291 = .ok (.iaload, 1) := dk_46 (dk_at dksX0_layFirst_12 12 rfl rfl)
theorem dX0_layFirst_292 : decode cX0_layFirst 292 = .ok (.baload, 1) := dk_51 (dk_at dksX0_layFirst_12 13 rfl rfl)
theorem dX0_layFirst_293 : decode cX0_layFirst 293 = .ok (.istore 11, 2) := dk_54 11 (dk_at dksX0_layFirst_12 14 rfl rfl)
theorem dX0_layFirst_295 : decode cX0_layFirst 295 = .ok (.iload 11, 2) := dk_21 11 (dk_at dksX0_layFirst_12 16 rfl rfl)
theorem dX0_layFirst_297 : decode cX0_layFirst 297 = .ok (.bipush 38, 2) := dk_16 38 (dk_at dksX0_layFirst_12 18 rfl rfl)
theorem dX0_layFirst_299 : decode cX0_layFirst 299 = .ok (.if_icmp .ne 8, 3) := dk_160 0 8 (dk_at dksX0_layFirst_12 20 rfl rfl)
theorem dX0_layFirst_302 : decode cX0_layFirst 302 = .ok (.bipush 99, 2) := dk_16 99 (dk_at dksX0_layFirst_13 0 rfl rfl)
theorem dX0_layFirst_304 : decode cX0_layFirst 304 = .ok (.goto 27, 3) := dk_167 0 27 (dk_at dksX0_layFirst_13 2 rfl rfl)
theorem dX0_layFirst_307 : decode cX0_layFirst 307 = .ok (.iload 11, 2) := dk_21 11 (dk_at dksX0_layFirst_13 5 rfl rfl)
theorem dX0_layFirst_309 : decode cX0_layFirst 309 = .ok (.bipush 101, 2) := dk_16 101 (dk_at dksX0_layFirst_13 7 rfl rfl)
theorem dX0_layFirst_311 : decode cX0_layFirst 311 = .ok (.if_icmp .ne 12, 3) := dk_160 0 12 (dk_at dksX0_layFirst_13 9 rfl rfl)
theorem dX0_layFirst_314 : decode cX0_layFirst 314 = .ok (.aload_n 0, 1) := dk_42 (dk_at dksX0_layFirst_13 12 rfl rfl)
theorem dX0_layFirst_315 : decode cX0_layFirst 315 = .ok (.getfield 482, 3) := dk_180 1 226 (dk_at dksX0_layFirst_13 13 rfl rfl)
theorem dX0_layFirst_318 : decode cX0_layFirst 318 = .ok (.iload_n 1, 1) := dk_27 (dk_at dksX0_layFirst_13 16 rfl rfl)
theorem dX0_layFirst_319 : decode cX0_layFirst 319 = .ok (.iaload, 1) := dk_46 (dk_at dksX0_layFirst_13 17 rfl rfl)
theorem dX0_layFirst_320 : decode cX0_layFirst 320 = .ok (.goto 11, 3) := dk_167 0 11 (dk_at dksX0_layFirst_13 18 rfl rfl)
theorem dX0_layFirst_323 : decode cX0_layFirst 323 = .ok (.aload_n 0, 1) := dk_42 (dk_at dksX0_layFirst_13 21 rfl rfl)
theorem dX0_layFirst_324 : decode cX0_layFirst 324 = .ok (.getfield 482, 3) := dk_180 1 226 (dk_at dksX0_layFirst_14 0 rfl rfl)
theorem dX0_layFirst_327 : decode cX0_layFirst 327 = .ok (.iload_n 1, 1) := dk_27 (dk_at dksX0_layFirst_14 3 rfl rfl)
theorem dX0_layFirst_328 : decode cX0_layFirst 328 = .ok (.iaload, 1) := dk_46 (dk_at dksX0_layFirst_14 4 rfl rfl)
theorem dX0_layFirst_329 : decode cX0_layFirst 329 = .ok (.iconst 1, 1) := dk_4 (dk_at dksX0_layFirst_14 5 rfl rfl)
theorem dX0_layFirst_330 : decode cX0_layFirst 330 = .ok (.isub, 1) := dk_100 (dk_at dksX0_layFirst_14 6 rfl rfl)
theorem dX0_layFirst_331 : decode cX0_layFirst 331 = .ok (.istore 10, 2) := dk_54 10 (dk_at dksX0_layFirst_14 7 rfl rfl)
theorem dX0_layFirst_333 : decode cX0_layFirst 333 = .ok (.aload_n 0, 1) := dk_42 (dk_at dksX0_layFirst_14 9 rfl rfl)
theorem dX0_layFirst_334 : decode cX0_layFirst 334 = .ok (.getfield 494, 3) := dk_180 1 238 (dk_at dksX0_layFirst_14 10 rfl rfl)
theorem dX0_layFirst_337 : decode cX0_layFirst 337 = .ok (.iconst 3, 1) := dk_6 (dk_at dksX0_layFirst_14 13 rfl rfl)
theorem dX0_layFirst_338 : decode cX0_layFirst 338 = .ok (.iload_n 1, 1) := dk_27 (dk_at dksX0_layFirst_14 14 rfl rfl)
theorem dX0_layFirst_339 : decode cX0_layFirst 339 = .ok (.imul, 1) := dk_104 (dk_at dksX0_layFirst_14 15 rfl rfl)
theorem dX0_layFirst_340 : decode cX0_layFirst 340 = .ok (.iload 9, 2) := dk_21 9 (dk_at dksX0_layFirst_14 16 rfl rfl)
theorem dX0_layFirst_342 : decode cX0_layFirst 342 = .ok (.iadd, 1) := dk_96 (dk_at dksX0_layFirst_14 18 rfl rfl)
theorem dX0_layFirst_343 : decode cX0_layFirst 343 = .ok (.iload 10, 2) := dk_21 10 (dk_at dksX0_layFirst_14 19 rfl rfl)
theorem dX0_layFirst_345 : decode cX0_layFirst 345 = .ok (.iastore, 1) := dk_79 (dk_at dksX0_layFirst_14 21 rfl rfl)
theorem dX0_layFirst_346 : decode cX0_layFirst 346 = .ok (.iinc 9 1, 3) := dk_132 9 1 (dk_at dksX0_layFirst_15 0 rfl rfl)
theorem dX0_layFirst_349 : decode cX0_layFirst 349 = .ok (.goto (-152), 3) := dk_167 255 104 (dk_at dksX0_layFirst_15 3 rfl rfl)
theorem dX0_layFirst_352 : decode cX0_layFirst 352 = .ok (.iload_n 3, 1) := dk_29 (dk_at dksX0_layFirst_15 6 rfl rfl)
theorem dX0_layFirst_353 : decode cX0_layFirst 353 = .ok (.iconst 2, 1) := dk_5 (dk_at dksX0_layFirst_15 7 rfl rfl)
theorem dX0_layFirst_354 : decode cX0_layFirst 354 = .ok (.if_icmp .ne 38, 3) := dk_160 0 38 (dk_at dksX0_layFirst_15 8 rfl rfl)
theorem dX0_layFirst_357 : decode cX0_layFirst 357 = .ok (.aload_n 0, 1) := dk_42 (dk_at dksX0_layFirst_15 11 rfl rfl)
theorem dX0_layFirst_358 : decode cX0_layFirst 358 = .ok (.getfield 401, 3) := dk_180 1 145 (dk_at dksX0_layFirst_15 12 rfl rfl)
theorem dX0_layFirst_361 : decode cX0_layFirst 361 = .ok (.aload_n 0, 1) := dk_42 (dk_at dksX0_layFirst_15 15 rfl rfl)
theorem dX0_layFirst_362 : decode cX0_layFirst 362 = .ok (.getfield 445, 3) := dk_180 1 189 (dk_at dksX0_layFirst_15 16 rfl rfl)
theorem dX0_layFirst_365 : decode cX0_layFirst 365 = .ok (.iconst 3, 1) := dk_6 (dk_at dksX0_layFirst_15 19 rfl rfl)
theorem dX0_layFirst_366 : decode cX0_layFirst 366 = .ok (.iload_n 2, 1) := dk_28 (dk_at dksX0_layFirst_15 20 rfl rfl)
theorem dX0_layFirst_367 : decode cX0_layFirst 367 = .ok (.imul, 1) := dk_104 (dk_at dksX0_layFirst_15 21 rfl rfl)
theorem dX0_layFirst_368 : decode cX0_layFirst 368 = .ok (.iaload, 1) := dk_46 (dk_at dksX0_layFirst_15 22 rfl rfl)
theorem dX0_layFirst_369 : decode cX0_layFirst 369 = .ok (.iaload, 1) := dk_46 (dk_at dksX0_layFirst_15 23 rfl rfl)
theorem dX0_layFirst_370 : decode cX0_layFirst 370 = .ok (.aload_n 0, 1) := dk_42 (dk_at dksX0_layFirst_16 0 rfl rfl)
theorem dX0_layFirst_371 : decode cX0_layFirst 371 = .ok (.getfield 401, 3) := dk_180 1 145 (dk_at dksX0_layFirst_16 1 rfl rfl)
theorem dX0_layFirst_374 : decode cX0_layFirst 374 = .ok (.aload_n 0, 1) := dk_42 (dk_at dksX0_layFirst_16 4 rfl rfl)
theorem dX0_layFirst_375 : decode cX0_layFirst 375 = .ok (.getfield 445, 3) := dk_180 1 189 (dk_at dksX0_layFirst_16 5 rfl rfl)
theorem dX0_layFirst_378 : decode cX0_layFirst 378 = .ok (.iconst 3, 1) := dk_6 (dk_at dksX0_layFirst_16 8 rfl rfl)
theorem dX0_layFirst_379 : decode cX0_layFirst 379 = .ok (.iload_n 2, 1) := dk_28 (dk_at dksX0_layFirst_16 9 rfl rfl)
theorem dX0_layFirst_380 : decode cX0_layFirst 380 = .ok (.imul, 1) := dk_104 (dk_at dksX0_layFirst_16 10 rfl rfl)
theorem dX0_layFirst_381 : decode cX0_layFirst 381 = .ok (.iconst 1, 1) := dk_4 (dk_at dksX0_layFirst_16 11 rfl rfl)
theorem dX0_layFirst_382 : decode cX0_layFirst 382 = .ok (.iadd, 1) := dk_96 (dk_at dksX0_layFirst_16 12 rfl rfl)
theorem dX0_layFirst_383 : decode cX0_layFirst 383 = .ok (.iaload, 1) := dk_46 (dk_at dksX0_layFirst_16 13 rfl rfl)
theorem dX0_layFirst_384 : decode cX0_layFirst 384 = .ok (.iaload, 1) := dk_46 (dk_at dksX0_layFirst_16 14 rfl rfl)
theorem dX0_layFirst_385 : decode cX0_layFirst 385 = .ok (.if_icmp .ne 7, 3) := dk_160 0 7 (dk_at dksX0_layFirst_16 15 rfl rfl)
theorem dX0_layFirst_388 : decode cX0_layFirst 388 = .ok (.iconst 1, 1) := dk_4 (dk_at dksX0_layFirst_16 18 rfl rfl)
theorem dX0_layFirst_389 : decode cX0_layFirst 389 = .ok (.goto 4, 3) := dk_167 0 4 (dk_at dksX0_layFirst_16 19 rfl rfl)
theorem dX0_layFirst_392 : decode cX0_layFirst 392 = .ok (.iconst 0, 1) := dk_3 (dk_at dksX0_layFirst_16 22 rfl rfl)
theorem dX0_layFirst_393 : decode cX0_layFirst 393 = .ok (.istore 9, 2) := dk_54 9 (dk_at dksX0_layFirst_17 0 rfl rfl)
theorem dX0_layFirst_395 : decode cX0_layFirst 395 = .ok (.iload 9, 2) := dk_21 9 (dk_at dksX0_layFirst_17 2 rfl rfl)
theorem dX0_layFirst_397 : decode cX0_layFirst 397 = .ok (.ifCond .eq 29, 3) := dk_153 0 29 (dk_at dksX0_layFirst_17 4 rfl rfl)
theorem dX0_layFirst_400 : decode cX0_layFirst 400 = .ok (.aload_n 0, 1) := dk_42 (dk_at dksX0_layFirst_17 7 rfl rfl)
theorem dX0_layFirst_401 : decode cX0_layFirst 401 = .ok (.getfield 401, 3) := dk_180 1 145 (dk_at dksX0_layFirst_17 8 rfl rfl)
theorem dX0_layFirst_404 : decode cX0_layFirst 404 = .ok (.aload_n 0, 1) := dk_42 (dk_at dksX0_layFirst_17 11 rfl rfl)
theorem dX0_layFirst_405 : decode cX0_layFirst 405 = .ok (.getfield 445, 3) := dk_180 1 189 (dk_at dksX0_layFirst_17 12 rfl rfl)
theorem dX0_layFirst_408 : decode cX0_layFirst 408 = .ok (.iconst 3, 1) := dk_6 (dk_at dksX0_layFirst_17 15 rfl rfl)
theorem dX0_layFirst_409 : decode cX0_layFirst 409 = .ok (.iload_n 2, 1) := dk_28 (dk_at dksX0_layFirst_17 16 rfl rfl)
theorem dX0_layFirst_410 : decode cX0_layFirst 410 = .ok (.imul, 1) := dk_104 (dk_at dksX0_layFirst_17 17 rfl rfl)
theorem dX0_layFirst_411 : decode cX0_layFirst 411 = .ok (.iaload, 1) := dk_46 (dk_at dksX0_layFirst_17 18 rfl rfl)
theorem dX0_layFirst_412 : decode cX0_layFirst 412 = .ok (.iaload, 1) := dk_46 (dk_at dksX0_layFirst_17 19 rfl rfl)
theorem dX0_layFirst_413 : decode cX0_layFirst 413 = .ok (.aload_n 0, 1) := dk_42 (dk_at dksX0_layFirst_17 20 rfl rfl)
theorem dX0_layFirst_414 : decode cX0_layFirst 414 = .ok (.getfield 479, 3) := dk_180 1 223 (dk_at dksX0_layFirst_17 21 rfl rfl)
theorem dX0_layFirst_417 : decode cX0_layFirst 417 = .ok (.iload_n 1, 1) := dk_27 (dk_at dksX0_layFirst_18 0 rfl rfl)
theorem dX0_layFirst_418 : decode cX0_layFirst 418 = .ok (.iaload, 1) := dk_46 (dk_at dksX0_layFirst_18 1 rfl rfl)
theorem dX0_layFirst_419 : decode cX0_layFirst 419 = .ok (.if_icmp .ne 7, 3) := dk_160 0 7 (dk_at dksX0_layFirst_18 2 rfl rfl)
theorem dX0_layFirst_422 : decode cX0_layFirst 422 = .ok (.iconst 1, 1) := dk_4 (dk_at dksX0_layFirst_18 5 rfl rfl)
theorem dX0_layFirst_423 : decode cX0_layFirst 423 = .ok (.goto 4, 3) := dk_167 0 4 (dk_at dksX0_layFirst_18 6 rfl rfl)
theorem dX0_layFirst_426 : decode cX0_layFirst 426 = .ok (.iconst 0, 1) := dk_3 (dk_at dksX0_layFirst_18 9 rfl rfl)
theorem dX0_layFirst_427 : decode cX0_layFirst 427 = .ok (.istore 10, 2) := dk_54 10 (dk_at dksX0_layFirst_18 10 rfl rfl)
theorem dX0_layFirst_429 : decode cX0_layFirst 429 = .ok (.iload 8, 2) := dk_21 8 (dk_at dksX0_layFirst_18 12 rfl rfl)
theorem dX0_layFirst_431 : decode cX0_layFirst 431 = .ok (.aload_n 0, 1) := dk_42 (dk_at dksX0_layFirst_18 14 rfl rfl)
theorem dX0_layFirst_432 : decode cX0_layFirst 432 = .ok (.getfield 293, 3) := dk_180 1 37 (dk_at dksX0_layFirst_18 15 rfl rfl)
theorem dX0_layFirst_435 : decode cX0_layFirst 435 = .ok (.iload_n 2, 1) := dk_28 (dk_at dksX0_layFirst_18 18 rfl rfl)
theorem dX0_layFirst_436 : decode cX0_layFirst 436 = .ok (.iaload, 1) := dk_46 (dk_at dksX0_layFirst_18 19 rfl rfl)
theorem dX0_layFirst_437 : decode cX0_layFirst 437 = .ok (.bipush 32, 2) := dk_16 32 (dk_at dksX0_layFirst_18 20 rfl rfl)
theorem dX0_layFirst_439 : decode cX0_layFirst 439 = .ok (.iand, 1) := dk_126 (dk_at dksX0_layFirst_18 22 rfl rfl)
theorem dX0_layFirst_440 : decode cX0_layFirst 440 = .ok (.ifCond .ne 51, 3) := dk_154 0 51 (dk_at dksX0_layFirst_19 0 rfl rfl)
theorem dX0_layFirst_443 : decode cX0_layFirst 443 = .ok (.aload_n 0, 1) := dk_42 (dk_at dksX0_layFirst_19 3 rfl rfl)
theorem dX0_layFirst_444 : decode cX0_layFirst 444 = .ok (.getfield 485, 3) := dk_180 1 229 (dk_at dksX0_layFirst_19 4 rfl rfl)
theorem dX0_layFirst_447 : decode cX0_layFirst 447 = .ok (.iload_n 1, 1) := dk_27 (dk_at dksX0_layFirst_19 7 rfl rfl)
theorem dX0_layFirst_448 : decode cX0_layFirst 448 = .ok (.baload, 1) := dk_51 (dk_at dksX0_layFirst_19 8 rfl rfl)
theorem dX0_layFirst_449 : decode cX0_layFirst 449 = .ok (.ifCond .eq 8, 3) := dk_153 0 8 (dk_at dksX0_layFirst_19 9 rfl rfl)
theorem dX0_layFirst_452 : decode cX0_layFirst 452 = .ok (.iload 10, 2) := dk_21 10 (dk_at dksX0_layFirst_19 12 rfl rfl)
theorem dX0_layFirst_454 : decode cX0_layFirst 454 = .ok (.ifCond .eq 37, 3) := dk_153 0 37 (dk_at dksX0_layFirst_19 14 rfl rfl)
theorem dX0_layFirst_457 : decode cX0_layFirst 457 = .ok (.aload_n 0, 1) := dk_42 (dk_at dksX0_layFirst_19 17 rfl rfl)
theorem dX0_layFirst_458 : decode cX0_layFirst 458 = .ok (.getfield 488, 3) := dk_180 1 232 (dk_at dksX0_layFirst_19 18 rfl rfl)
theorem dX0_layFirst_461 : decode cX0_layFirst 461 = .ok (.iload_n 1, 1) := dk_27 (dk_at dksX0_layFirst_19 21 rfl rfl)
theorem dX0_layFirst_462 : decode cX0_layFirst 462 = .ok (.baload, 1) := dk_51 (dk_at dksX0_layFirst_19 22 rfl rfl)
theorem dX0_layFirst_463 : decode cX0_layFirst 463 = .ok (.ifCond .eq 8, 3) := dk_153 0 8 (dk_at dksX0_layFirst_20 0 rfl rfl)
theorem dX0_layFirst_466 : decode cX0_layFirst 466 = .ok (.iload 9, 2) := dk_21 9 (dk_at dksX0_layFirst_20 3 rfl rfl)
theorem dX0_layFirst_468 : decode cX0_layFirst 468 = .ok (.ifCond .eq 23, 3) := dk_153 0 23 (dk_at dksX0_layFirst_20 5 rfl rfl)
theorem dX0_layFirst_471 : decode cX0_layFirst 471 = .ok (.aload_n 0, 1) := dk_42 (dk_at dksX0_layFirst_20 8 rfl rfl)
theorem dX0_layFirst_472 : decode cX0_layFirst 472 = .ok (.getfield 293, 3) := dk_180 1 37 (dk_at dksX0_layFirst_20 9 rfl rfl)
theorem dX0_layFirst_475 : decode cX0_layFirst 475 = .ok (.iload_n 2, 1) := dk_28 (dk_at dksX0_layFirst_20 12 rfl rfl)
theorem dX0_layFirst_476 : decode cX0_layFirst 476 = .ok (.iaload, 1) := dk_46 (dk_at dksX0_layFirst_20 13 rfl rfl)
theorem dX0_layFirst_477 : decode cX0_layFirst 477 = .ok (.iconst 4, 1) := dk_7 (dk_at dksX0_layFirst_20 14 rfl rfl)
theorem dX0_layFirst_478 : decode cX0_layFirst 478 = .ok (.iand, 1) := dk_126 (dk_at dksX0_layFirst_20 15 rfl rfl)
theorem dX0_layFirst_479 : decode cX0_layFirst 479 = .ok (.ifCond .eq 8, 3) := dk_153 0 8 (dk_at dksX0_layFirst_20 16 rfl rfl)
theorem dX0_layFirst_482 : decode cX0_layFirst 482 = .ok (.iload 10, 2) := dk_21 10 (dk_at dksX0_layFirst_20 19 rfl rfl)
theorem dX0_layFirst_484 : decode cX0_layFirst 484 = .ok (.ifCond .eq 7, 3) := dk_153 0 7 (dk_at dksX0_layFirst_20 21 rfl rfl)
theorem dX0_layFirst_487 : decode cX0_layFirst 487 = .ok (.iconst 1, 1) := dk_4 (dk_at dksX0_layFirst_21 0 rfl rfl)
theorem dX0_layFirst_488 : decode cX0_layFirst 488 = .ok (.goto 4, 3) := dk_167 0 4 (dk_at dksX0_layFirst_21 1 rfl rfl)
theorem dX0_layFirst_491 : decode cX0_layFirst 491 = .ok (.iconst 0, 1) := dk_3 (dk_at dksX0_layFirst_21 4 rfl rfl)
theorem dX0_layFirst_492 : decode cX0_layFirst 492 = .ok (.iand, 1) := dk_126 (dk_at dksX0_layFirst_21 5 rfl rfl)
theorem dX0_layFirst_493 : decode cX0_layFirst 493 = .ok (.istore 8, 2) := dk_54 8 (dk_at dksX0_layFirst_21 6 rfl rfl)
theorem dX0_layFirst_495 : decode cX0_layFirst 495 = .ok (.iload 8, 2) := dk_21 8 (dk_at dksX0_layFirst_21 8 rfl rfl)
theorem dX0_layFirst_497 : decode cX0_layFirst 497 = .ok (.ifCond .ne 16, 3) := dk_154 0 16 (dk_at dksX0_layFirst_21 10 rfl rfl)
theorem dX0_layFirst_500 : decode cX0_layFirst 500 = .ok (.aload_n 0, 1) := dk_42 (dk_at dksX0_layFirst_21 13 rfl rfl)
theorem dX0_layFirst_501 : decode cX0_layFirst 501 = .ok (.iconst 5, 1) := dk_8 (dk_at dksX0_layFirst_21 14 rfl rfl)
theorem dX0_layFirst_502 : decode cX0_layFirst 502 = .ok (.aload_n 0, 1) := dk_42 (dk_at dksX0_layFirst_21 15 rfl rfl)
theorem dX0_layFirst_503 : decode cX0_layFirst 503 = .ok (.getfield 281, 3) := dk_180 1 25 (dk_at dksX0_layFirst_21 16 rfl rfl)
theorem dX0_layFirst_506 : decode cX0_layFirst 506 = .ok (.iload_n 2, 1) := dk_28 (dk_at dksX0_layFirst_21 19 rfl rfl)
theorem dX0_layFirst_507 : decode cX0_layFirst 507 = .ok (.iaload, 1) := dk_46 (dk_at dksX0_layFirst_21 20 rfl rfl)
theorem dX0_layFirst_508 : decode cX0_layFirst 508 = .ok (.invokevirtual 132, 3) := dk_182 0 132 (dk_at dksX0_layFirst_21 21 rfl rfl)
theorem dX0_layFirst_511 : decode cX0_layFirst 511 = .ok (.istore 11, 2) := dk_54 11 (dk_at dksX0_layFirst_22 0 rfl rfl)
theorem dX0_layFirst_513 : decode cX0_layFirst 513 = .ok (.return_, 1) := dk_177 (dk_at dksX0_layFirst_22 2 rfl rfl)
abbrev cX0_isEnd : ByteArray := prog_1_method_55_code
def yX0_isEnd : MethodName := ⟨RX0, "isEnd", "(II)Z"⟩
def dkwX0_isEnd_0 : List UInt8 := [42, 180, 1, 165, 16, 12, 27, 104, 28, 96, 46, 2, 160, 0, 7, 4, 167, 0, 4, 3, 172]
abbrev dktX0_isEnd_0 : List UInt8 := dkwX0_isEnd_0 ++ []
theorem dksX0_isEnd_0 : cX0_isEnd.data.toList.drop 0 = dktX0_isEnd_0 := by decide +kernel
theorem dX0_isEnd_0 : decode cX0_isEnd 0 = .ok (.aload_n 0, 1) := dk_42 (dk_at dksX0_isEnd_0 0 rfl rfl)
theorem dX0_isEnd_1 : decode cX0_isEnd 1 = .ok (.getfield 421, 3) := dk_180 1 165 (dk_at dksX0_isEnd_0 1 rfl rfl)
theorem dX0_isEnd_4 : decode cX0_isEnd 4 = .ok (.bipush 12, 2) := dk_16 12 (dk_at dksX0_isEnd_0 4 rfl rfl)
theorem dX0_isEnd_6 : decode cX0_isEnd 6 = .ok (.iload_n 1, 1) := dk_27 (dk_at dksX0_isEnd_0 6 rfl rfl)
theorem dX0_isEnd_7 : decode cX0_isEnd 7 = .ok (.imul, 1) := dk_104 (dk_at dksX0_isEnd_0 7 rfl rfl)
theorem dX0_isEnd_8 : decode cX0_isEnd 8 = .ok (.iload_n 2, 1) := dk_28 (dk_at dksX0_isEnd_0 8 rfl rfl)
theorem dX0_isEnd_9 : decode cX0_isEnd 9 = .ok (.iadd, 1) := dk_96 (dk_at dksX0_isEnd_0 9 rfl rfl)
theorem dX0_isEnd_10 : decode cX0_isEnd 10 = .ok (.iaload, 1) := dk_46 (dk_at dksX0_isEnd_0 10 rfl rfl)
theorem dX0_isEnd_11 : decode cX0_isEnd 11 = .ok (.iconst (-1), 1) := dk_2 (dk_at dksX0_isEnd_0 11 rfl rfl)
theorem dX0_isEnd_12 : decode cX0_isEnd 12 = .ok (.if_icmp .ne 7, 3) := dk_160 0 7 (dk_at dksX0_isEnd_0 12 rfl rfl)
theorem dX0_isEnd_15 : decode cX0_isEnd 15 = .ok (.iconst 1, 1) := dk_4 (dk_at dksX0_isEnd_0 15 rfl rfl)
theorem dX0_isEnd_16 : decode cX0_isEnd 16 = .ok (.goto 4, 3) := dk_167 0 4 (dk_at dksX0_isEnd_0 16 rfl rfl)
theorem dX0_isEnd_19 : decode cX0_isEnd 19 = .ok (.iconst 0, 1) := dk_3 (dk_at dksX0_isEnd_0 19 rfl rfl)
theorem dX0_isEnd_20 : decode cX0_isEnd 20 = .ok (.ireturn, 1) := dk_172 (dk_at dksX0_isEnd_0 20 rfl rfl)
abbrev cX0_checkLater : ByteArray := prog_1_method_58_code
def yX0_checkLater : MethodName := ⟨RX0, "checkLater", "(II)V"⟩
def dkwX0_checkLater_15 : List UInt8 := [154, 0, 16, 42, 8, 42, 180, 1, 25, 27, 46, 182, 0, 132, 54, 5, 177]
abbrev dktX0_checkLater_15 : List UInt8 := dkwX0_checkLater_15 ++ []
def dkwX0_checkLater_14 : List UInt8 := [167, 255, 204, 29, 21, 4, 154, 0, 7, 4, 167, 0, 4, 3, 126, 62, 132, 5, 1, 167, 255, 153, 29]
abbrev dktX0_checkLater_14 : List UInt8 := dkwX0_checkLater_14 ++ dktX0_checkLater_15
def dkwX0_checkLater_13 : List UInt8 := [180, 1, 189, 6, 21, 5, 104, 21, 6, 96, 46, 160, 0, 7, 4, 167, 0, 4, 3, 54, 4, 132, 6, 1]
abbrev dktX0_checkLater_13 : List UInt8 := dkwX0_checkLater_13 ++ dktX0_checkLater_14
def dkwX0_checkLater_12 : List UInt8 := [27, 46, 162, 0, 47, 21, 4, 153, 0, 42, 42, 180, 1, 189, 6, 27, 104, 21, 6, 96, 46, 42]
abbrev dktX0_checkLater_12 : List UInt8 := dkwX0_checkLater_12 ++ dktX0_checkLater_13
def dkwX0_checkLater_11 : List UInt8 := [180, 1, 195, 27, 46, 160, 0, 7, 4, 167, 0, 4, 3, 54, 4, 3, 54, 6, 21, 6, 42, 180, 1, 180]
abbrev dktX0_checkLater_11 : List UInt8 := dkwX0_checkLater_11 ++ dktX0_checkLater_12
def dkwX0_checkLater_10 : List UInt8 := [167, 255, 191, 4, 54, 4, 3, 54, 5, 21, 5, 27, 162, 0, 103, 42, 180, 1, 195, 21, 5, 46, 42]
abbrev dktX0_checkLater_10 : List UInt8 := dkwX0_checkLater_10 ++ dktX0_checkLater_11
def dkwX0_checkLater_9 : List UInt8 := [180, 1, 69, 28, 46, 21, 4, 96, 46, 51, 160, 0, 7, 4, 167, 0, 4, 3, 62, 132, 4, 1]
abbrev dktX0_checkLater_9 : List UInt8 := dkwX0_checkLater_9 ++ dktX0_checkLater_10
def dkwX0_checkLater_8 : List UInt8 := [180, 0, 111, 42, 180, 1, 69, 27, 46, 21, 4, 96, 46, 51, 42, 180, 0, 27, 42, 180, 0, 111, 42]
abbrev dktX0_checkLater_8 : List UInt8 := dkwX0_checkLater_8 ++ dktX0_checkLater_9
def dkwX0_checkLater_7 : List UInt8 := [3, 54, 4, 21, 4, 42, 180, 1, 78, 27, 46, 162, 0, 60, 29, 153, 0, 56, 42, 180, 0, 27, 42]
abbrev dktX0_checkLater_7 : List UInt8 := dkwX0_checkLater_7 ++ dktX0_checkLater_8
def dkwX0_checkLater_6 : List UInt8 := [153, 0, 95, 42, 180, 1, 78, 27, 46, 42, 180, 1, 78, 28, 46, 160, 0, 7, 4, 167, 0, 4, 3, 62]
abbrev dktX0_checkLater_6 : List UInt8 := dkwX0_checkLater_6 ++ dktX0_checkLater_7
def dkwX0_checkLater_5 : List UInt8 := [160, 0, 7, 4, 167, 0, 4, 3, 126, 62, 29, 153, 0, 107, 42, 180, 1, 37, 27, 46, 16, 16, 126]
abbrev dktX0_checkLater_5 : List UInt8 := dkwX0_checkLater_5 ++ dktX0_checkLater_6
def dkwX0_checkLater_4 : List UInt8 := [180, 1, 37, 27, 46, 16, 8, 126, 153, 0, 18, 42, 180, 1, 64, 27, 46, 42, 180, 1, 64, 28, 46]
abbrev dktX0_checkLater_4 : List UInt8 := dkwX0_checkLater_4 ++ dktX0_checkLater_5
def dkwX0_checkLater_3 : List UInt8 := [180, 0, 117, 42, 180, 1, 56, 28, 46, 46, 160, 0, 7, 4, 167, 0, 4, 3, 126, 62, 29, 42]
abbrev dktX0_checkLater_3 : List UInt8 := dkwX0_checkLater_3 ++ dktX0_checkLater_4
def dkwX0_checkLater_2 : List UInt8 := [180, 1, 37, 27, 46, 7, 126, 153, 0, 28, 42, 180, 0, 117, 42, 180, 1, 56, 27, 46, 46, 42]
abbrev dktX0_checkLater_2 : List UInt8 := dkwX0_checkLater_2 ++ dktX0_checkLater_3
def dkwX0_checkLater_1 : List UInt8 := [160, 0, 18, 42, 27, 28, 16, 63, 182, 1, 241, 153, 0, 7, 4, 167, 0, 4, 3, 62, 29, 42]
abbrev dktX0_checkLater_1 : List UInt8 := dkwX0_checkLater_1 ++ dktX0_checkLater_2
def dkwX0_checkLater_0 : List UInt8 := [42, 180, 1, 145, 42, 180, 1, 192, 27, 46, 46, 42, 180, 1, 145, 42, 180, 1, 192, 28, 46, 46]
abbrev dktX0_checkLater_0 : List UInt8 := dkwX0_checkLater_0 ++ dktX0_checkLater_1
theorem dksX0_checkLater_0 : cX0_checkLater.data.toList.drop 0 = dktX0_checkLater_0 := by decide +kernel
theorem dksX0_checkLater_1 : cX0_checkLater.data.toList.drop 22 = dktX0_checkLater_1 := dk_seg dksX0_checkLater_0 22 rfl rfl
theorem dksX0_checkLater_2 : cX0_checkLater.data.toList.drop 44 = dktX0_checkLater_2 := dk_seg dksX0_checkLater_1 22 rfl rfl
theorem dksX0_checkLater_3 : cX0_checkLater.data.toList.drop 66 = dktX0_checkLater_3 := dk_seg dksX0_checkLater_2 22 rfl rfl
theorem dksX0_checkLater_4 : cX0_checkLater.data.toList.drop 88 = dktX0_checkLater_4 := dk_seg dksX0_checkLater_3 22 rfl rfl
theorem dksX0_checkLater_5 : cX0_checkLater.data.toList.drop 111 = dktX0_checkLater_5 := dk_seg dksX0_checkLater_4 23 rfl rfl
theorem dksX0_checkLater_6 : cX0_checkLater.data.toList.drop 134 = dktX0_checkLater_6 := dk_seg dksX0_checkLater_5 23 rfl rfl
theorem dksX0_checkLater_7 : cX0_checkLater.data.toList.drop 158 = dktX0_checkLater_7 := dk_seg dksX0_checkLater_6 24 rfl rfl
theorem dksX0_checkLater_8 : cX0_checkLater.data.toList.drop 181 = dktX0_checkLater_8 := dk_seg dksX0_checkLater_7 23 rfl rfl
theorem dksX0_checkLater_9 : cX0_checkLater.data.toList.drop 204 = dktX0_checkLater_9 := dk_seg dksX0_checkLater_8 23 rfl rfl
theorem dksX0_checkLater_10 : cX0_checkLater.data.toList.drop 226 = dktX0_checkLater_10 := dk_seg dksX0_checkLater_9 22 rfl rfl
theorem dksX0_checkLater_11 : cX0_checkLater.data.toList.drop 249 = dktX0_checkLater_11 := dk_seg dksX0_checkLater_10 23 rfl rfl
theorem dksX0_checkLater_12 : cX0_checkLater.data.toList.drop 273 = dktX0_checkLater_12 := dk_seg dksX0_checkLater_11 24 rfl rfl
theorem dksX0_checkLater_13 : cX0_checkLater.data.toList.drop 295 = dktX0_checkLater_13 := dk_seg dksX0_checkLater_12 22 rfl rfl
theorem dksX0_checkLater_14 : cX0_checkLater.data.toList.drop 319 = dktX0_checkLater_14 := dk_seg dksX0_checkLater_13 24 rfl rfl
theorem dksX0_checkLater_15 : cX0_checkLater.data.toList.drop 342 = dktX0_checkLater_15 := dk_seg dksX0_checkLater_14 23 rfl rfl
theorem dX0_checkLater_0 : decode cX0_checkLater 0 = .ok (.aload_n 0, 1) := dk_42 (dk_at dksX0_checkLater_0 0 rfl rfl)
theorem dX0_checkLater_1 : decode cX0_checkLater 1 = .ok (.getfield 401, 3) := dk_180 1 145 (dk_at dksX0_checkLater_0 1 rfl rfl)
theorem dX0_checkLater_4 : decode cX0_checkLater 4 = .ok (.aload_n 0, 1) := dk_42 (dk_at dksX0_checkLater_0 4 rfl rfl)
theorem dX0_checkLater_5 : decode cX0_checkLater 5 = .ok (.getfield 448, 3) := dk_180 1 192 (dk_at dksX0_checkLater_0 5 rfl rfl)
theorem dX0_checkLater_8 : decode cX0_checkLater 8 = .ok (.iload_n 1, 1) := dk_27 (dk_at dksX0_checkLater_0 8 rfl rfl)
theorem dX0_checkLater_9 : decode cX0_checkLater 9 = .ok (.iaload, 1) := dk_46 (dk_at dksX0_checkLater_0 9 rfl rfl)
theorem dX0_checkLater_10 : decode cX0_checkLater 10 = .ok (.iaload, 1) := dk_46 (dk_at dksX0_checkLater_0 10 rfl rfl)
theorem dX0_checkLater_11 : decode cX0_checkLater 11 = .ok (.aload_n 0, 1) := dk_42 (dk_at dksX0_checkLater_0 11 rfl rfl)
theorem dX0_checkLater_12 : decode cX0_checkLater 12 = .ok (.getfield 401, 3) := dk_180 1 145 (dk_at dksX0_checkLater_0 12 rfl rfl)
theorem dX0_checkLater_15 : decode cX0_checkLater 15 = .ok (.aload_n 0, 1) := dk_42 (dk_at dksX0_checkLater_0 15 rfl rfl)
theorem dX0_checkLater_16 : decode cX0_checkLater 16 = .ok (.getfield 448, 3) := dk_180 1 192 (dk_at dksX0_checkLater_0 16 rfl rfl)
theorem dX0_checkLater_19 : decode cX0_checkLater 19 = .ok (.iload_n 2, 1) := dk_28 (dk_at dksX0_checkLater_0 19 rfl rfl)
theorem dX0_checkLater_20 : decode cX0_checkLater 20 = .ok (.iaload, 1) := dk_46 (dk_at dksX0_checkLater_0 20 rfl rfl)
theorem dX0_checkLater_21 : decode cX0_checkLater 21 = .ok (.iaload, 1) := dk_46 (dk_at dksX0_checkLater_0 21 rfl rfl)
theorem dX0_checkLater_22 : decode cX0_checkLater 22 = .ok (.if_icmp .ne 18, 3) := dk_160 0 18 (dk_at dksX0_checkLater_1 0 rfl rfl)
theorem dX0_checkLater_25 : decode cX0_checkLater 25 = .ok (.aload_n 0, 1) := dk_42 (dk_at dksX0_checkLater_1 3 rfl rfl)
theorem dX0_checkLater_26 : decode cX0_checkLater 26 = .ok (.iload_n 1, 1) := dk_27 (dk_at dksX0_checkLater_1 4 rfl rfl)
theorem dX0_checkLater_27 : decode cX0_checkLater 27 = .ok (.iload_n 2, 1) := dk_28 (dk_at dksX0_checkLater_1 5 rfl rfl)
theorem dX0_checkLater_28 : decode cX0_checkLater 28 = .ok (.bipush 63, 2) := dk_16 63 (dk_at dksX0_checkLater_1 6 rfl rfl)
theorem dX0_checkLater_30 : decode cX0_checkLater 30 = .ok (.invokevirtual 497, 3) := dk_182 1 241 (dk_at dksX0_checkLater_1 8 rfl rfl)
theorem dX0_checkLater_33 : decode cX0_checkLater 33 = .ok (.ifCond .eq 7, 3) := dk_153 0 7 (dk_at dksX0_checkLater_1 11 rfl rfl)
theorem dX0_checkLater_36 : decode cX0_checkLater 36 = .ok (.iconst 1, 1) := dk_4 (dk_at dksX0_checkLater_1 14 rfl rfl)
theorem dX0_checkLater_37 : decode cX0_checkLater 37 = .ok (.goto 4, 3) := dk_167 0 4 (dk_at dksX0_checkLater_1 15 rfl rfl)
theorem dX0_checkLater_40 : decode cX0_checkLater 40 = .ok (.iconst 0, 1) := dk_3 (dk_at dksX0_checkLater_1 18 rfl rfl)
theorem dX0_checkLater_41 : decode cX0_checkLater 41 = .ok (.istore_n 3, 1) := dk_62 (dk_at dksX0_checkLater_1 19 rfl rfl)
theorem dX0_checkLater_42 : decode cX0_checkLater 42 = .ok (.iload_n 3, 1) := dk_29 (dk_at dksX0_checkLater_1 20 rfl rfl)
theorem dX0_checkLater_43 : decode cX0_checkLater 43 = .ok (.aload_n 0, 1) := dk_42 (dk_at dksX0_checkLater_1 21 rfl rfl)
theorem dX0_checkLater_44 : decode cX0_checkLater 44 = .ok (.getfield 293, 3) := dk_180 1 37 (dk_at dksX0_checkLater_2 0 rfl rfl)
theorem dX0_checkLater_47 : decode cX0_checkLater 47 = .ok (.iload_n 1, 1) := dk_27 (dk_at dksX0_checkLater_2 3 rfl rfl)
theorem dX0_checkLater_48 : decode cX0_checkLater 48 = .ok (.iaload, 1) := dk_46 (dk_at dksX0_checkLater_2 4 rfl rfl)
theorem dX0_checkLater_49 : decode cX0_checkLater 49 = .ok (.iconst 4, 1) := dk_7 (dk_at dksX0_checkLater_2 5 rfl rfl)
theorem dX0_checkLater_50 : decode cX0_checkLater 50 = .ok (.iand, 1) := dk_126 (dk_at dksX0_checkLater_2 6 rfl rfl)
theorem dX0_checkLater_51 : decode cX0_checkLater 51 = .ok (.ifCond .eq 28, 3) := dk_153 0 28 (dk_at dksX0_checkLater_2 7 rfl rfl)
theorem dX0_checkLater_54 : decode cX0_checkLater 54 = .ok (.aload_n 0, 1) := dk_42 (dk_at dksX0_checkLater_2 10 rfl rfl)
theorem dX0_checkLater_55 : decode cX0_checkLater 55 = .ok (.getfield 117, 3) := dk_180 0 117 (dk_at dksX0_checkLater_2 11 rfl rfl)
theorem dX0_checkLater_58 : decode cX0_checkLater 58 = .ok (.aload_n 0, 1) := dk_42 (dk_at dksX0_checkLater_2 14 rfl rfl)
theorem dX0_checkLater_59 : decode cX0_checkLater 59 = .ok (.getfield 312, 3) := dk_180 1 56 (dk_at dksX0_checkLater_2 15 rfl rfl)
theorem dX0_checkLater_62 : decode cX0_checkLater 62 = .ok (.iload_n 1, 1) := dk_27 (dk_at dksX0_checkLater_2 18 rfl rfl)
theorem dX0_checkLater_63 : decode cX0_checkLater 63 = .ok (.iaload, 1) := dk_46 (dk_at dksX0_checkLater_2 19 rfl rfl)
theorem dX0_checkLater_64 : decode cX0_checkLater 64 = .ok (.iaload, 1) := dk_46 (dk_at dksX0_checkLater_2 20 rfl rfl)
theorem dX0_checkLater_65 : decode cX0_checkLater 65 = .ok (.aload_n 0, 1) := dk_42 (dk_at dksX0_checkLater_2 21 rfl rfl)
theorem dX0_checkLater_66 : decode cX0_checkLater 66 = .ok (.getfield 117, 3) := dk_180 0 117 (dk_at dksX0_checkLater_3 0 rfl rfl)
theorem dX0_checkLater_69 : decode cX0_checkLater 69 = .ok (.aload_n 0, 1) := dk_42 (dk_at dksX0_checkLater_3 3 rfl rfl)
theorem dX0_checkLater_70 : decode cX0_checkLater 70 = .ok (.getfield 312, 3) := dk_180 1 56 (dk_at dksX0_checkLater_3 4 rfl rfl)
theorem dX0_checkLater_73 : decode cX0_checkLater 73 = .ok (.iload_n 2, 1) := dk_28 (dk_at dksX0_checkLater_3 7 rfl rfl)
theorem dX0_checkLater_74 : decode cX0_checkLater 74 = .ok (.iaload, 1) := dk_46 (dk_at dksX0_checkLater_3 8 rfl rfl)
theorem dX0_checkLater_75 : decode cX0_checkLater 75 = .ok (.iaload, 1) := dk_46 (dk_at dksX0_checkLater_3 9 rfl rfl)
theorem dX0_checkLater_76 : decode cX0_checkLater 76 = .ok (.if_icmp .ne 7, 3) := dk_160 0 7 (dk_at dksX0_checkLater_3 10 rfl rfl)
theorem dX0_checkLater_79 : decode cX0_checkLater 79 = .ok (.iconst 1, 1) := dk_4 (dk_at dksX0_checkLater_3 13 rfl rfl)
theorem dX0_checkLater_80 : decode cX0_checkLater 80 = .ok (.goto 4, 3) := dk_167 0 4 (dk_at dksX0_checkLater_3 14 rfl rfl)
theorem dX0_checkLater_83 : decode cX0_checkLater 83 = .ok (.iconst 0, 1) := dk_3 (dk_at dksX0_checkLater_3 17 rfl rfl)
theorem dX0_checkLater_84 : decode cX0_checkLater 84 = .ok (.iand, 1) := dk_126 (dk_at dksX0_checkLater_3 18 rfl rfl)
theorem dX0_checkLater_85 : decode cX0_checkLater 85 = .ok (.istore_n 3, 1) := dk_62 (dk_at dksX0_checkLater_3 19 rfl rfl)
theorem dX0_checkLater_86 : decode cX0_checkLater 86 = .ok (.iload_n 3, 1) := dk_29 (dk_at dksX0_checkLater_3 20 rfl rfl)
theorem dX0_checkLater_87 : decode cX0_checkLater 87 = .ok (.aload_n 0, 1) := dk_42 (dk_at dksX0_checkLater_3 21 rfl rfl)
theorem dX0_checkLater_88 : decode cX0_checkLater 88 = .ok (.getfield 293, 3) := dk_180 1 37 (dk_at dksX0_checkLater_4 0 rfl rfl)
theorem dX0_checkLater_91 : decode cX0_checkLater 91 = .ok (.iload_n 1, 1) := dk_27 (dk_at dksX0_checkLater_4 3 rfl rfl)
theorem dX0_checkLater_92 : decode cX0_checkLater 92 = .ok (.iaload, 1) := dk_46 (dk_at dksX0_checkLater_4 4 rfl rfl)
theorem dX0_checkLater_93 : decode cX0_checkLater 93 = .ok (.bipush 8, 2) := dk_16 8 (dk_at dksX0_checkLater_4 5 rfl rfl)
theorem dX0_checkLater_95 : decode cX0_checkLater 95 = .ok (.iand, 1) := dk_126 (dk_at dksX0_checkLater_4 7 rfl rfl)
theorem dX0_checkLater_96 : decode cX0_checkLater 96 = .ok (.ifCond .eq 18, 3) := dk_153 0 18 (dk_at dksX0_checkLater_4 8 rfl rfl)
theorem dX0_checkLater_99 : decode cX0_checkLater 99 = .ok (.aload_n 0, 1) := dk_42 (dk_at dksX0_checkLater_4 11 rfl rfl)
theorem dX0_checkLater_100 : decode cX0_checkLater 100 = .ok (.getfield 320, 3) := dk_180 1 64 (dk_at dksX0_checkLater_4 12 rfl rfl)
theorem dX0_checkLater_103 : decode cX0_checkLater 103 = .ok (.iload_n 1, 1) := dk_27 (dk_at dksX0_checkLater_4 15 rfl rfl)
theorem dX0_checkLater_104 : decode cX0_checkLater 104 = .ok (.iaload, 1) := dk_46 (dk_at dksX0_checkLater_4 16 rfl rfl)
theorem dX0_checkLater_105 : decode cX0_checkLater 105 = .ok (.aload_n 0, 1) := dk_42 (dk_at dksX0_checkLater_4 17 rfl rfl)
theorem dX0_checkLater_106 : decode cX0_checkLater 106 = .ok (.getfield 320, 3) := dk_180 1 64 (dk_at dksX0_checkLater_4 18 rfl rfl)
theorem dX0_checkLater_109 : decode cX0_checkLater 109 = .ok (.iload_n 2, 1) := dk_28 (dk_at dksX0_checkLater_4 21 rfl rfl)
theorem dX0_checkLater_110 : decode cX0_checkLater 110 = .ok (.iaload, 1) := dk_46 (dk_at dksX0_checkLater_4 22 rfl rfl)
theorem dX0_checkLater_111 : decode cX0_checkLater 111 = .ok (.if_icmp .ne 7, 3) := dk_160 0 7 (dk_at dksX0_checkLater_5 0 rfl rfl)
theorem dX0_checkLater_114 : decode cX0_checkLater 114 = .ok (.iconst 1, 1) := dk_4 (dk_at dksX0_checkLater_5 3 rfl rfl)
theorem dX0_checkLater_115 : decode cX0_checkLater 115 = .ok (.goto 4, 3) := dk_167 0 4 (dk_at dksX0_checkLater_5 4 rfl rfl)
theorem dX0_checkLater_118 : decode cX0_checkLater 118 = .ok (.iconst 0, 1) := dk_3 (dk_at dksX0_checkLater_5 7 rfl rfl)
theorem dX0_checkLater_119 : decode cX0_checkLater 119 = .ok (.iand, 1) := dk_126 (dk_at dksX0_checkLater_5 8 rfl rfl)
theorem dX0_checkLater_120 : decode cX0_checkLater 120 = .ok (.istore_n 3, 1) := dk_62 (dk_at dksX0_checkLater_5 9 rfl rfl)
theorem dX0_checkLater_121 : decode cX0_checkLater 121 = .ok (.iload_n 3, 1) := dk_29 (dk_at dksX0_checkLater_5 10 rfl rfl)
theorem dX0_checkLater_122 : decode cX0_checkLater 122 = .ok (.ifCond .eq 107, 3) := dk_153 0 107 (dk_at dksX0_checkLater_5 11 rfl rfl)
theorem dX0_checkLater_125 : decode cX0_checkLater 125 = .ok (.aload_n 0, 1) := dk_42 (dk_at dksX0_checkLater_5 14 rfl rfl)
theorem dX0_checkLater_126 : decode cX0_checkLater 126 = .ok (.getfield 293, 3) := dk_180 1 37 (dk_at dksX0_checkLater_5 15 rfl rfl)
theorem dX0_checkLater_129 : decode cX0_checkLater 129 = .ok (.iload_n 1, 1) := dk_27 (dk_at dksX0_checkLater_5 18 rfl rfl)
theorem dX0_checkLater_130 : decode cX0_checkLater 130 = .ok (.iaload, 1) := dk_46 (dk_at dksX0_checkLater_5 19 rfl rfl)
theorem dX0_checkLater_131 : decode cX0_checkLater 131 = .ok (.bipush 16, 2) := dk_16 16 (dk_at dksX0_checkLater_5 20 rfl rfl)
theorem dX0_checkLater_133 : decode cX0_checkLater 133 = .ok (.iand, 1) := dk_126 (dk_at dksX0_checkLater_5 22 rfl rfl)
theorem dX0_checkLater_134 : decode cX0_checkLater 134 = .ok (.ifCond .eq 95, 3) := dk_153 0 95 (dk_at dksX0_checkLater_6 0 rfl rfl)
theorem dX0_checkLater_137 : decode cX0_checkLater 137 = .ok (.aload_n 0, 1) := dk_42 (dk_at dksX0_checkLater_6 3 rfl rfl)
theorem dX0_checkLater_138 : decode cX0_checkLater 138 = .ok (.getfield 334, 3) := dk_180 1 78 (dk_at dksX0_checkLater_6 4 rfl rfl)
theorem dX0_checkLater_141 : decode cX0_checkLater 141 = .ok (.iload_n 1, 1) := dk_27 (dk_at dksX0_checkLater_6 7 rfl rfl)
theorem dX0_checkLater_142 : decode cX0_checkLater 142 = .ok (.iaload, 1) := dk_46 (dk_at dksX0_checkLater_6 8 rfl rfl)
theorem dX0_checkLater_143 : decode cX0_checkLater 143 = .ok (.aload_n 0, 1) := dk_42 (dk_at dksX0_checkLater_6 9 rfl rfl)
theorem dX0_checkLater_144 : decode cX0_checkLater 144 = .ok (.getfield 334, 3) := dk_180 1 78 (dk_at dksX0_checkLater_6 10 rfl rfl)
theorem dX0_checkLater_147 : decode cX0_checkLater 147 = .ok (.iload_n 2, 1) := dk_28 (dk_at dksX0_checkLater_6 13 rfl rfl)
theorem dX0_checkLater_148 : decode cX0_checkLater 148 = .ok (.iaload, 1) := dk_46 (dk_at dksX0_checkLater_6 14 rfl rfl)
theorem dX0_checkLater_149 : decode cX0_checkLater 149 = .ok (.if_icmp .ne 7, 3) := dk_160 0 7 (dk_at dksX0_checkLater_6 15 rfl rfl)
theorem dX0_checkLater_152 : decode cX0_checkLater 152 = .ok (.iconst 1, 1) := dk_4 (dk_at dksX0_checkLater_6 18 rfl rfl)
theorem dX0_checkLater_153 : decode cX0_checkLater 153 = .ok (.goto 4, 3) := dk_167 0 4 (dk_at dksX0_checkLater_6 19 rfl rfl)
theorem dX0_checkLater_156 : decode cX0_checkLater 156 = .ok (.iconst 0, 1) := dk_3 (dk_at dksX0_checkLater_6 22 rfl rfl)
theorem dX0_checkLater_157 : decode cX0_checkLater 157 = .ok (.istore_n 3, 1) := dk_62 (dk_at dksX0_checkLater_6 23 rfl rfl)
theorem dX0_checkLater_158 : decode cX0_checkLater 158 = .ok (.iconst 0, 1) := dk_3 (dk_at dksX0_checkLater_7 0 rfl rfl)
theorem dX0_checkLater_159 : decode cX0_checkLater 159 = .ok (.istore 4, 2) := dk_54 4 (dk_at dksX0_checkLater_7 1 rfl rfl)
theorem dX0_checkLater_161 : decode cX0_checkLater 161 = .ok (.iload 4, 2) := dk_21 4 (dk_at dksX0_checkLater_7 3 rfl rfl)
theorem dX0_checkLater_163 : decode cX0_checkLater 163 = .ok (.aload_n 0, 1) := dk_42 (dk_at dksX0_checkLater_7 5 rfl rfl)
theorem dX0_checkLater_164 : decode cX0_checkLater 164 = .ok (.getfield 334, 3) := dk_180 1 78 (dk_at dksX0_checkLater_7 6 rfl rfl)
theorem dX0_checkLater_167 : decode cX0_checkLater 167 = .ok (.iload_n 1, 1) := dk_27 (dk_at dksX0_checkLater_7 9 rfl rfl)
theorem dX0_checkLater_168 : decode cX0_checkLater 168 = .ok (.iaload, 1) := dk_46 (dk_at dksX0_checkLater_7 10 rfl rfl)
theorem dX0_checkLater_169 : decode cX0_checkLater 169 = .ok (.if_icmp .ge 60, 3) := dk_162 0 60 (dk_at dksX0_checkLater_7 11 rfl rfl)
theorem dX0_checkLater_172 : decode cX0_checkLater 172 = .ok (.iload_n 3, 1) := dk_29 (dk_at dksX0_checkLater_7 14 rfl rfl)
theorem dX0_checkLater_173 : decode cX0_checkLater 173 = .ok (.ifCond .eq 56, 3) := dk_153 0 56 (dk_at dksX0_checkLater_7 15 rfl rfl)
theorem dX0_checkLater_176 : decode cX0_checkLater 176 = .ok (.aload_n 0, 1) := dk_42 (dk_at dksX0_checkLater_7 18 rfl rfl)
theorem dX0_checkLater_177 : decode cX0_checkLater 177 = .ok (.getfield 27, 3) := dk_180 0 27 (dk_at dksX0_checkLater_7 19 rfl rfl)
theorem dX0_checkLater_180 : decode cX0_checkLater 180 = .ok (.aload_n 0, 1) := dk_42 (dk_at dksX0_checkLater_7 22 rfl rfl)
theorem dX0_checkLater_181 : decode cX0_checkLater 181 = .ok (.getfield 111, 3) := dk_180 0 111 (dk_at dksX0_checkLater_8 0 rfl rfl)
theorem dX0_checkLater_184 : decode cX0_checkLater 184 = .ok (.aload_n 0, 1) := dk_42 (dk_at dksX0_checkLater_8 3 rfl rfl)
theorem dX0_checkLater_185 : decode cX0_checkLater 185 = .ok (.getfield 325, 3) := dk_180 1 69 (dk_at dksX0_checkLater_8 4 rfl rfl)
theorem dX0_checkLater_188 : decode cX0_checkLater 188 = .ok (.iload_n 1, 1) := dk_27 (dk_at dksX0_checkLater_8 7 rfl rfl)
theorem dX0_checkLater_189 : decode cX0_checkLater 189 = .ok (.iaload, 1) := dk_46 (dk_at dksX0_checkLater_8 8 rfl rfl)
theorem dX0_checkLater_190 : decode cX0_checkLater 190 = .ok (.iload 4, 2) := dk_21 4 (dk_at dksX0_checkLater_8 9 rfl rfl)
theorem dX0_checkLater_192 : decode cX0_checkLater 192 = .ok (.iadd, 1) := dk_96 (dk_at dksX0_checkLater_8 11 rfl rfl)
theorem dX0_checkLater_193 : decode cX0_checkLater 193 = .ok (.iaload, 1) := dk_46 (dk_at dksX0_checkLater_8 12 rfl rfl)
theorem dX0_checkLater_194 : decode cX0_checkLater 194 = .ok (.baload, 1) := dk_51 (dk_at dksX0_checkLater_8 13 rfl rfl)
theorem dX0_checkLater_195 : decode cX0_checkLater 195 = .ok (.aload_n 0, 1) := dk_42 (dk_at dksX0_checkLater_8 14 rfl rfl)
theorem dX0_checkLater_196 : decode cX0_checkLater 196 = .ok (.getfield 27, 3) := dk_180 0 27 (dk_at dksX0_checkLater_8 15 rfl rfl)
theorem dX0_checkLater_199 : decode cX0_checkLater 199 = .ok (.aload_n 0, 1) := dk_42 (dk_at dksX0_checkLater_8 18 rfl rfl)
theorem dX0_checkLater_200 : decode cX0_checkLater 200 = .ok (.getfield 111, 3) := dk_180 0 111 (dk_at dksX0_checkLater_8 19 rfl rfl)
theorem dX0_checkLater_203 : decode cX0_checkLater 203 = .ok (.aload_n 0, 1) := dk_42 (dk_at dksX0_checkLater_8 22 rfl rfl)
theorem dX0_checkLater_204 : decode cX0_checkLater 204 = .ok (.getfield 325, 3) := dk_180 1 69 (dk_at dksX0_checkLater_9 0 rfl rfl)
theorem dX0_checkLater_207 : decode cX0_checkLater 207 = .ok (.iload_n 2, 1) := dk_28 (dk_at dksX0_checkLater_9 3 rfl rfl)
theorem dX0_checkLater_208 : decode cX0_checkLater 208 = .ok (.iaload, 1) := dk_46 (dk_at dksX0_checkLater_9 4 rfl rfl)
theorem dX0_checkLater_209 : decode cX0_checkLater 209 = .ok (.iload 4, 2) := dk_21 4 (dk_at dksX0_checkLater_9 5 rfl rfl)
theorem dX0_checkLater_211 : decode cX0_checkLater 211 = .ok (.iadd, 1) := dk_96 (dk_at dksX0_checkLater_9 7 rfl rfl)
theorem dX0_checkLater_212 : decode cX0_checkLater 212 = .ok (.iaload, 1) := dk_46 (dk_at dksX0_checkLater_9 8 rfl rfl)
theorem dX0_checkLater_213 : decode cX0_checkLater 213 = .ok (.baload, 1) := dk_51 (dk_at dksX0_checkLater_9 9 rfl rfl)
theorem dX0_checkLater_214 : decode cX0_checkLater 214 = .ok (.if_icmp .ne 7, 3) := dk_160 0 7 (dk_at dksX0_checkLater_9 10 rfl rfl)
theorem dX0_checkLater_217 : decode cX0_checkLater 217 = .ok (.iconst 1, 1) := dk_4 (dk_at dksX0_checkLater_9 13 rfl rfl)
theorem dX0_checkLater_218 : decode cX0_checkLater 218 = .ok (.goto 4, 3) := dk_167 0 4 (dk_at dksX0_checkLater_9 14 rfl rfl)
theorem dX0_checkLater_221 : decode cX0_checkLater 221 = .ok (.iconst 0, 1) := dk_3 (dk_at dksX0_checkLater_9 17 rfl rfl)
theorem dX0_checkLater_222 : decode cX0_checkLater 222 = .ok (.istore_n 3, 1) := dk_62 (dk_at dksX0_checkLater_9 18 rfl rfl)
theorem dX0_checkLater_223 : decode cX0_checkLater 223 = .ok (.iinc 4 1, 3) := dk_132 4 1 (dk_at dksX0_checkLater_9 19 rfl rfl)
theorem dX0_checkLater_226 : decode cX0_checkLater 226 = .ok (.goto (-65), 3) := dk_167 255 191 (dk_at dksX0_checkLater_10 0 rfl rfl)
theorem dX0_checkLater_229 : decode cX0_checkLater 229 = .ok (.iconst 1, 1) := dk_4 (dk_at dksX0_checkLater_10 3 rfl rfl)
theorem dX0_checkLater_230 : decode cX0_checkLater 230 = .ok (.istore 4, 2) := dk_54 4 (dk_at dksX0_checkLater_10 4 rfl rfl)
theorem dX0_checkLater_232 : decode cX0_checkLater 232 = .ok (.iconst 0, 1) := dk_3 (dk_at dksX0_checkLater_10 6 rfl rfl)
theorem dX0_checkLater_233 : decode cX0_checkLater 233 = .ok (.istore 5, 2) := dk_54 5 (dk_at dksX0_checkLater_10 7 rfl rfl)
theorem dX0_checkLater_235 : decode cX0_checkLater 235 = .ok (.iload 5, 2) := dk_21 5 (dk_at dksX0_checkLater_10 9 rfl rfl)
theorem dX0_checkLater_237 : decode cX0_checkLater 237 = .ok (.iload_n 1, 1) := dk_27 (dk_at dksX0_checkLater_10 11 rfl rfl)
theorem dX0_checkLater_238 : decode cX0_checkLater 238 = .ok (.if_icmp .ge 103, 3) := dk_162 0 103 (dk_at dksX0_checkLater_10 12 rfl rfl)
theorem dX0_checkLater_241 : decode cX0_checkLater 241 = .ok (.aload_n 0, 1) := dk_42 (dk_at dksX0_checkLater_10 15 rfl rfl)
theorem dX0_checkLater_242 : decode cX0_checkLater 242 = .ok (.getfield 451, 3) := dk_180 1 195 (dk_at dksX0_checkLater_10 16 rfl rfl)
theorem dX0_checkLater_245 : decode cX0_checkLater 245 = .ok (.iload 5, 2) := dk_21 5 (dk_at dksX0_checkLater_10 19 rfl rfl)
theorem dX0_checkLater_247 : decode cX0_checkLater 247 = .ok (.iaload, 1) := dk_46 (dk_at dksX0_checkLater_10 21 rfl rfl)
theorem dX0_checkLater_248 : decode cX0_checkLater 248 = .ok (.aload_n 0, 1) := dk_42 (dk_at dksX0_checkLater_10 22 rfl rfl)
theorem dX0_checkLater_249 : decode cX0_checkLater 249 = .ok (.getfield 451, 3) := dk_180 1 195 (dk_at dksX0_checkLater_11 0 rfl rfl)
theorem dX0_checkLater_252 : decode cX0_checkLater 252 = .ok (.iload_n 1, 1) := dk_27 (dk_at dksX0_checkLater_11 3 rfl rfl)
theorem dX0_checkLater_253 : decode cX0_checkLater 253 = .ok (.iaload, 1) := dk_46 (dk_at dksX0_checkLater_11 4 rfl rfl)
theorem dX0_checkLater_254 : decode cX0_checkLater 254 = .ok (.if_icmp .ne 7, 3) := dk_160 0 7 (dk_at dksX0_checkLater_11 5 rfl rfl)
theorem dX0_checkLater_257 : decode cX0_checkLater 257 = .ok (.iconst 1, 1) := dk_4 (dk_at dksX0_checkLater_11 8 rfl rfl)
theorem dX0_checkLater_258 : decode cX0_checkLater 258 = .ok (.goto 4, 3) := dk_167 0 4 (dk_at dksX0_checkLater_11 9 rfl rfl)
theorem dX0_checkLater_261 : decode cX0_checkLater 261 = .ok (.iconst 0, 1) := dk_3 (dk_at dksX0_checkLater_11 12 rfl rfl)
theorem dX0_checkLater_262 : decode cX0_checkLater 262 = .ok (.istore 4, 2) := dk_54 4 (dk_at dksX0_checkLater_11 13 rfl rfl)
theorem dX0_checkLater_264 : decode cX0_checkLater 264 = .ok (.iconst 0, 1) := dk_3 (dk_at dksX0_checkLater_11 15 rfl rfl)
theorem dX0_checkLater_265 : decode cX0_checkLater 265 = .ok (.istore 6, 2) := dk_54 6 (dk_at dksX0_checkLater_11 16 rfl rfl)
theorem dX0_checkLater_267 : decode cX0_checkLater 267 = .ok (.iload 6, 2) := dk_21 6 (dk_at dksX0_checkLater_11 18 rfl rfl)
theorem dX0_checkLater_269 : decode cX0_checkLater 269 = .ok (.aload_n 0, 1) := dk_42 (dk_at dksX0_checkLater_11 20 rfl rfl)
theorem dX0_checkLater_270 : decode cX0_checkLater 270 = .ok (.getfield 436, 3) := dk_180 1 180 (dk_at dksX0_checkLater_11 21 rfl rfl)
theorem dX0_checkLater_273 : decode cX0_checkLater 273 = .ok (.iload_n 1, 1) := dk_27 (dk_at dksX0_checkLater_12 0 rfl rfl)
theorem dX0_checkLater_274 : decode cX0_checkLater 274 = .ok (.iaload, 1) := dk_46 (dk_at dksX0_checkLater_12 1 rfl rfl)
theorem dX0_checkLater_275 : decode cX0_checkLater 275 = .ok (.if_icmp .ge 47, 3) := dk_162 0 47 (dk_at dksX0_checkLater_12 2 rfl rfl)
theorem dX0_checkLater_278 : decode cX0_checkLater 278 = .ok (.iload 4, 2) := dk_21 4 (dk_at dksX0_checkLater_12 5 rfl rfl)
theorem dX0_checkLater_280 : decode cX0_checkLater 280 = .ok (.ifCond .eq 42, 3) := dk_153 0 42 (dk_at dksX0_checkLater_12 7 rfl rfl)
theorem dX0_checkLater_283 : decode cX0_checkLater 283 = .ok (.aload_n 0, 1) := dk_42 (dk_at dksX0_checkLater_12 10 rfl rfl)
theorem dX0_checkLater_284 : decode cX0_checkLater 284 = .ok (.getfield 445, 3) := dk_180 1 189 (dk_at dksX0_checkLater_12 11 rfl rfl)
theorem dX0_checkLater_287 : decode cX0_checkLater 287 = .ok (.iconst 3, 1) := dk_6 (dk_at dksX0_checkLater_12 14 rfl rfl)
theorem dX0_checkLater_288 : decode cX0_checkLater 288 = .ok (.iload_n 1, 1) := dk_27 (dk_at dksX0_checkLater_12 15 rfl rfl)
theorem dX0_checkLater_289 : decode cX0_checkLater 289 = .ok (.imul, 1) := dk_104 (dk_at dksX0_checkLater_12 16 rfl rfl)
theorem dX0_checkLater_290 : decode cX0_checkLater 290 = .ok (.iload 6, 2) := dk_21 6 (dk_at dksX0_checkLater_12 17 rfl rfl)
theorem dX0_checkLater_292 : decode cX0_checkLater 292 = .ok (.iadd, 1) := dk_96 (dk_at dksX0_checkLater_12 19 rfl rfl)
theorem dX0_checkLater_293 : decode cX0_checkLater 293 = .ok (.iaload, 1) := dk_46 (dk_at dksX0_checkLater_12 20 rfl rfl)
theorem dX0_checkLater_294 : decode cX0_checkLater 294 = .ok (.aload_n 0, 1) := dk_42 (dk_at dksX0_checkLater_12 21 rfl rfl)
theorem dX0_checkLater_295 : decode cX0_checkLater 295 = .ok (.getfield 445, 3) := dk_180 1 189 (dk_at dksX0_checkLater_13 0 rfl rfl)
theorem dX0_checkLater_298 : decode cX0_checkLater 298 = .ok (.iconst 3, 1) := dk_6 (dk_at dksX0_checkLater_13 3 rfl rfl)
theorem dX0_checkLater_299 : decode cX0_checkLater 299 = .ok (.iload 5, 2) := dk_21 5 (dk_at dksX0_checkLater_13 4 rfl rfl)
theorem dX0_checkLater_301 : decode cX0_checkLater 301 = .ok (.imul, 1) := dk_104 (dk_at dksX0_checkLater_13 6 rfl rfl)
theorem dX0_checkLater_302 : decode cX0_checkLater 302 = .ok (.iload 6, 2) := dk_21 6 (dk_at dksX0_checkLater_13 7 rfl rfl)
theorem dX0_checkLater_304 : decode cX0_checkLater 304 = .ok (.iadd, 1) := dk_96 (dk_at dksX0_checkLater_13 9 rfl rfl)
theorem dX0_checkLater_305 : decode cX0_checkLater 305 = .ok (.iaload, 1) := dk_46 (dk_at dksX0_checkLater_13 10 rfl rfl)
theorem dX0_checkLater_306 : decode cX0_checkLater 306 = .ok (.if_icmp .ne 7, 3) := dk_160 0 7 (dk_at dksX0_checkLater_13 11 rfl rfl)
theorem dX0_checkLater_309 : decode cX0_checkLater 309 = .ok (.iconst 1, 1) := dk_4 (dk_at dksX0_checkLater_13 14 rfl rfl)
theorem dX0_checkLater_310 : decode cX0_checkLater 310 = .ok (.goto 4, 3) := dk_167 0 4 (dk_at dksX0_checkLater_13 15 rfl rfl)
theorem dX0_checkLater_313 : decode cX0_checkLater 313 = .ok (.iconst 0, 1) := dk_3 (dk_at dksX0_checkLater_13 18 rfl rfl)
theorem dX0_checkLater_314 : decode cX0_checkLater 314 = .ok (.istore 4, 2) := dk_54 4 (dk_at dksX0_checkLater_13 19 rfl rfl)
theorem dX0_checkLater_316 : decode cX0_checkLater 316 = .ok (.iinc 6 1, 3) := dk_132 6 1 (dk_at dksX0_checkLater_13 21 rfl rfl)
theorem dX0_checkLater_319 : decode cX0_checkLater 319 = .ok (.goto (-52), 3) := dk_167 255 204 (dk_at dksX0_checkLater_14 0 rfl rfl)
theorem dX0_checkLater_322 : decode cX0_checkLater 322 = .ok (.iload_n 3, 1) := dk_29 (dk_at dksX0_checkLater_14 3 rfl rfl)
theorem dX0_checkLater_323 : decode cX0_checkLater 323 = .ok (.iload 4, 2) := dk_21 4 (dk_at dksX0_checkLater_14 4 rfl rfl)
theorem dX0_checkLater_325 : decode cX0_checkLater 325 = .ok (.ifCond .ne 7, 3) := dk_154 0 7 (dk_at dksX0_checkLater_14 6 rfl rfl)
theorem dX0_checkLater_328 : decode cX0_checkLater 328 = .ok (.iconst 1, 1) := dk_4 (dk_at dksX0_checkLater_14 9 rfl rfl)
theorem dX0_checkLater_329 : decode cX0_checkLater 329 = .ok (.goto 4, 3) := dk_167 0 4 (dk_at dksX0_checkLater_14 10 rfl rfl)
theorem dX0_checkLater_332 : decode cX0_checkLater 332 = .ok (.iconst 0, 1) := dk_3 (dk_at dksX0_checkLater_14 13 rfl rfl)
theorem dX0_checkLater_333 : decode cX0_checkLater 333 = .ok (.iand, 1) := dk_126 (dk_at dksX0_checkLater_14 14 rfl rfl)
theorem dX0_checkLater_334 : decode cX0_checkLater 334 = .ok (.istore_n 3, 1) := dk_62 (dk_at dksX0_checkLater_14 15 rfl rfl)
theorem dX0_checkLater_335 : decode cX0_checkLater 335 = .ok (.iinc 5 1, 3) := dk_132 5 1 (dk_at dksX0_checkLater_14 16 rfl rfl)
theorem dX0_checkLater_338 : decode cX0_checkLater 338 = .ok (.goto (-103), 3) := dk_167 255 153 (dk_at dksX0_checkLater_14 19 rfl rfl)
theorem dX0_checkLater_341 : decode cX0_checkLater 341 = .ok (.iload_n 3, 1) := dk_29 (dk_at dksX0_checkLater_14 22 rfl rfl)
theorem dX0_checkLater_342 : decode cX0_checkLater 342 = .ok (.ifCond .ne 16, 3) := dk_154 0 16 (dk_at dksX0_checkLater_15 0 rfl rfl)
theorem dX0_checkLater_345 : decode cX0_checkLater 345 = .ok (.aload_n 0, 1) := dk_42 (dk_at dksX0_checkLater_15 3 rfl rfl)
theorem dX0_checkLater_346 : decode cX0_checkLater 346 = .ok (.iconst 5, 1) := dk_8 (dk_at dksX0_checkLater_15 4 rfl rfl)
theorem dX0_checkLater_347 : decode cX0_checkLater 347 = .ok (.aload_n 0, 1) := dk_42 (dk_at dksX0_checkLater_15 5 rfl rfl)
theorem dX0_checkLater_348 : decode cX0_checkLater 348 = .ok (.getfield 281, 3) := dk_180 1 25 (dk_at dksX0_checkLater_15 6 rfl rfl)
theorem dX0_checkLater_351 : decode cX0_checkLater 351 = .ok (.iload_n 1, 1) := dk_27 (dk_at dksX0_checkLater_15 9 rfl rfl)
theorem dX0_checkLater_352 : decode cX0_checkLater 352 = .ok (.iaload, 1) := dk_46 (dk_at dksX0_checkLater_15 10 rfl rfl)
theorem dX0_checkLater_353 : decode cX0_checkLater 353 = .ok (.invokevirtual 132, 3) := dk_182 0 132 (dk_at dksX0_checkLater_15 11 rfl rfl)
theorem dX0_checkLater_356 : decode cX0_checkLater 356 = .ok (.istore 5, 2) := dk_54 5 (dk_at dksX0_checkLater_15 14 rfl rfl)
theorem dX0_checkLater_358 : decode cX0_checkLater 358 = .ok (.return_, 1) := dk_177 (dk_at dksX0_checkLater_15 16 rfl rfl)
abbrev cX0_isSameAttribute : ByteArray := prog_1_method_57_code
def yX0_isSameAttribute : MethodName := ⟨RX0, "isSameAttribute", "(III)Z"⟩
def dkwX0_isSameAttribute_1 : List UInt8 := [172]
abbrev dktX0_isSameAttribute_1 : List UInt8 := dkwX0_isSameAttribute_1 ++ []
def dkwX0_isSameAttribute_0 : List UInt8 := [42, 180, 1, 37, 27, 46, 29, 126, 42, 180, 1, 37, 28, 46, 29, 126, 160, 0, 7, 4, 167, 0, 4, 3]
abbrev dktX0_isSameAttribute_0 : List UInt8 := dkwX0_isSameAttribute_0 ++ dktX0_isSameAttribute_1
theorem dksX0_isSameAttribute_0 : cX0_isSameAttribute.data.toList.drop 0 = dktX0_isSameAttribute_0 := by decide +kernel
theorem dksX0_isSameAttribute_1 : cX0_isSameAttribute.data.toList.drop 24 = dktX0_isSameAttribute_1 := dk_seg dksX0_isSameAttribute_0 24 rfl rfl
theorem dX0_isSameAttribute_0 : decode cX0_isSameAttribute 0 = .ok (.aload_n 0, 1) := dk_42 (dk_at dksX0_isSameAttribute_0 0 rfl rfl)
theorem dX0_isSameAttribute_1 : decode cX0_isSameAttribute 1 = .ok (.getfield 293, 3) := dk_180 1 37 (dk_at dksX0_isSameAttribute_0 1 rfl rfl)
theorem dX0_isSameAttribute_4 : decode cX0_isSameAttribute 4 = .ok (.iload_n 1, 1) := dk_27 (dk_at dksX0_isSameAttribute_0 4 rfl rfl)
theorem dX0_isSameAttribute_5 : decode cX0_isSameAttribute 5 = .ok (.iaload, 1) := dk_46 (dk_at dksX0_isSameAttribute_0 5 rfl rfl)
theorem dX0_isSameAttribute_6 : decode cX0_isSameAttribute 6 = .ok (.iload_n 3, 1) := dk_29 (dk_at dksX0_isSameAttribute_0 6 rfl rfl)
theorem dX0_isSameAttribute_7 : decode cX0_isSameAttribute 7 = .ok (.iand, 1) := dk_126 (dk_at dksX0_isSameAttribute_0 7 rfl rfl)
theorem dX0_isSameAttribute_8 : decode cX0_isSameAttribute 8 = .ok (.aload_n 0, 1) := dk_42 (dk_at dksX0_isSameAttribute_0 8 rfl rfl)
theorem dX0_isSameAttribute_9 : decode cX0_isSameAttribute 9 = .ok (.getfield 293, 3) := dk_180 1 37 (dk_at dksX0_isSameAttribute_0 9 rfl rfl)
theorem dX0_isSameAttribute_12 : decode cX0_isSameAttribute 12 = .ok (.iload_n 2, 1) := dk_28 (dk_at dksX0_isSameAttribute_0 12 rfl rfl)
theorem dX0_isSameAttribute_13 : decode cX0_isSameAttribute 13 = .ok (.iaload, 1) := dk_46 (dk_at dksX0_isSameAttribute_0 13 rfl rfl)
theorem dX0_isSameAttribute_14 : decode cX0_isSameAttribute 14 = .ok (.iload_n 3, 1) := dk_29 (dk_at dksX0_isSameAttribute_0 14 rfl rfl)
theorem dX0_isSameAttribute_15 : decode cX0_isSameAttribute 15 = .ok (.iand, 1) := dk_126 (dk_at dksX0_isSameAttribute_0 15 rfl rfl)
theorem dX0_isSameAttribute_16 : decode cX0_isSameAttribute 16 = .ok (.if_icmp .ne 7, 3) := dk_160 0 7 (dk_at dksX0_isSameAttribute_0 16 rfl rfl)
theorem dX0_isSameAttribute_19 : decode cX0_isSameAttribute 19 = .ok (.iconst 1, 1) := dk_4 (dk_at dksX0_isSameAttribute_0 19 rfl rfl)
theorem dX0_isSameAttribute_20 : decode cX0_isSameAttribute 20 = .ok (.goto 4, 3) := dk_167 0 4 (dk_at dksX0_isSameAttribute_0 20 rfl rfl)
theorem dX0_isSameAttribute_23 : decode cX0_isSameAttribute 23 = .ok (.iconst 0, 1) := dk_3 (dk_at dksX0_isSameAttribute_0 23 rfl rfl)
theorem dX0_isSameAttribute_24 : decode cX0_isSameAttribute 24 = .ok (.ireturn, 1) := dk_172 (dk_at dksX0_isSameAttribute_1 0 rfl rfl)
abbrev cX0_layUnit : ByteArray := prog_1_method_59_code
def yX0_layUnit : MethodName := ⟨RX0, "layUnit", "(I)V"⟩
def dkwX0_layUnit_5 : List UInt8 := [160, 0, 15, 42, 8, 42, 180, 1, 25, 28, 46, 182, 0, 132, 62, 177]
abbrev dktX0_layUnit_5 : List UInt8 := dkwX0_layUnit_5 ++ []
def dkwX0_layUnit_4 : List UInt8 := [160, 0, 10, 42, 180, 1, 235, 27, 29, 79, 132, 3, 1, 167, 255, 171, 42, 180, 1, 235, 27, 46, 16, 254]
abbrev dktX0_layUnit_4 : List UInt8 := dkwX0_layUnit_4 ++ dktX0_layUnit_5
def dkwX0_layUnit_3 : List UInt8 := [42, 180, 1, 56, 28, 46, 46, 160, 0, 25, 42, 180, 1, 223, 29, 46, 42, 180, 1, 223, 27, 46]
abbrev dktX0_layUnit_3 : List UInt8 := dkwX0_layUnit_3 ++ dktX0_layUnit_4
def dkwX0_layUnit_2 : List UInt8 := [180, 1, 162, 21, 4, 46, 4, 160, 0, 49, 42, 180, 1, 165, 16, 12, 21, 4, 104, 46, 42, 180, 0, 117]
abbrev dktX0_layUnit_2 : List UInt8 := dkwX0_layUnit_2 ++ dktX0_layUnit_3
def dkwX0_layUnit_1 : List UInt8 := [180, 0, 166, 162, 0, 83, 42, 180, 1, 204, 29, 46, 54, 4, 42, 180, 1, 220, 29, 46, 154, 0, 60, 42]
abbrev dktX0_layUnit_1 : List UInt8 := dkwX0_layUnit_1 ++ dktX0_layUnit_2
def dkwX0_layUnit_0 : List UInt8 := [42, 180, 1, 204, 27, 46, 61, 42, 180, 1, 37, 28, 46, 7, 126, 154, 0, 4, 177, 3, 62, 29, 42]
abbrev dktX0_layUnit_0 : List UInt8 := dkwX0_layUnit_0 ++ dktX0_layUnit_1
theorem dksX0_layUnit_0 : cX0_layUnit.data.toList.drop 0 = dktX0_layUnit_0 := by decide +kernel
theorem dksX0_layUnit_1 : cX0_layUnit.data.toList.drop 23 = dktX0_layUnit_1 := dk_seg dksX0_layUnit_0 23 rfl rfl
theorem dksX0_layUnit_2 : cX0_layUnit.data.toList.drop 47 = dktX0_layUnit_2 := dk_seg dksX0_layUnit_1 24 rfl rfl
theorem dksX0_layUnit_3 : cX0_layUnit.data.toList.drop 71 = dktX0_layUnit_3 := dk_seg dksX0_layUnit_2 24 rfl rfl
theorem dksX0_layUnit_4 : cX0_layUnit.data.toList.drop 93 = dktX0_layUnit_4 := dk_seg dksX0_layUnit_3 22 rfl rfl
theorem dksX0_layUnit_5 : cX0_layUnit.data.toList.drop 117 = dktX0_layUnit_5 := dk_seg dksX0_layUnit_4 24 rfl rfl
theorem dX0_layUnit_0 : decode cX0_layUnit 0 = .ok (.aload_n 0, 1) := dk_42 (dk_at dksX0_layUnit_0 0 rfl rfl)
theorem dX0_layUnit_1 : decode cX0_layUnit 1 = .ok (.getfield 460, 3) := dk_180 1 204 (dk_at dksX0_layUnit_0 1 rfl rfl)
theorem dX0_layUnit_4 : decode cX0_layUnit 4 = .ok (.iload_n 1, 1) := dk_27 (dk_at dksX0_layUnit_0 4 rfl rfl)
theorem dX0_layUnit_5 : decode cX0_layUnit 5 = .ok (.iaload, 1) := dk_46 (dk_at dksX0_layUnit_0 5 rfl rfl)
theorem dX0_layUnit_6 : decode cX0_layUnit 6 = .ok (.istore_n 2, 1) := dk_61 (dk_at dksX0_layUnit_0 6 rfl rfl)
theorem dX0_layUnit_7 : decode cX0_layUnit 7 = .ok (.aload_n 0, 1) := dk_42 (dk_at dksX0_layUnit_0 7 rfl rfl)
theorem dX0_layUnit_8 : decode cX0_layUnit 8 = .ok (.getfield 293, 3) := dk_180 1 37 (dk_at dksX0_layUnit_0 8 rfl rfl)
theorem dX0_layUnit_11 : decode cX0_layUnit 11 = .ok (.iload_n 2, 1) := dk_28 (dk_at dksX0_layUnit_0 11 rfl rfl)
theorem dX0_layUnit_12 : decode cX0_layUnit 12 = .ok (.iaload, 1) := dk_46 (dk_at dksX0_layUnit_0 12 rfl rfl)
theorem dX0_layUnit_13 : decode cX0_layUnit 13 = .ok (.iconst 4, 1) := dk_7 (dk_at dksX0_layUnit_0 13 rfl rfl)
theorem dX0_layUnit_14 : decode cX0_layUnit 14 = .ok (.iand, 1) := dk_126 (dk_at dksX0_layUnit_0 14 rfl rfl)
theorem dX0_layUnit_15 : decode cX0_layUnit 15 = .ok (.ifCond .ne 4, 3) := dk_154 0 4 (dk_at dksX0_layUnit_0 15 rfl rfl)
theorem dX0_layUnit_18 : decode cX0_layUnit 18 = .ok (.return_, 1) := dk_177 (dk_at dksX0_layUnit_0 18 rfl rfl)
theorem dX0_layUnit_19 : decode cX0_layUnit 19 = .ok (.iconst 0, 1) := dk_3 (dk_at dksX0_layUnit_0 19 rfl rfl)
theorem dX0_layUnit_20 : decode cX0_layUnit 20 = .ok (.istore_n 3, 1) := dk_62 (dk_at dksX0_layUnit_0 20 rfl rfl)
theorem dX0_layUnit_21 : decode cX0_layUnit 21 = .ok (.iload_n 3, 1) := dk_29 (dk_at dksX0_layUnit_0 21 rfl rfl)
theorem dX0_layUnit_22 : decode cX0_layUnit 22 = .ok (.aload_n 0, 1) := dk_42 (dk_at dksX0_layUnit_0 22 rfl rfl)
theorem dX0_layUnit_23 : decode cX0_layUnit 23 = .ok (.getfield 166, 3) := dk_180 0 166 (dk_at dksX0_layUnit_1 0 rfl rfl)
theorem dX0_layUnit_26 : decode cX0_layUnit 26 = .ok (.if_icmp .ge 83, 3) := dk_162 0 83 (dk_at dksX0_layUnit_1 3 rfl rfl)
theorem dX0_layUnit_29 : decode cX0_layUnit 29 = .ok (.aload_n 0, 1) := dk_42 (dk_at dksX0_layUnit_1 6 rfl rfl)
theorem dX0_layUnit_30 : decode cX0_layUnit 30 = .ok (.getfield 460, 3) := dk_180 1 204 (dk_at dksX0_layUnit_1 7 rfl rfl)
theorem dX0_layUnit_33 : decode cX0_layUnit 33 = .ok (.iload_n 3, 1) := dk_29 (dk_at dksX0_layUnit_1 10 rfl rfl)
theorem dX0_layUnit_34 : decode cX0_layUnit 34 = .ok (.iaload, 1) := dk_46 (dk_at dksX0_layUnit_1 11 rfl rfl)
theorem dX0_layUnit_35 : decode cX0_layUnit 35 = .ok (.istore 4, 2) := dk_54 4 (dk_at dksX0_layUnit_1 12 rfl rfl)
theorem dX0_layUnit_37 : decode cX0_layUnit 37 = .ok (.aload_n 0, 1) := dk_42 (dk_at dksX0_layUnit_1 14 rfl rfl)
theorem dX0_layUnit_38 : decode cX0_layUnit 38 = .ok (.getfield 476, 3) := dk_180 1 220 (dk_at dksX0_layUnit_1 15 rfl rfl)
theorem dX0_layUnit_41 : decode cX0_layUnit 41 = .ok (.iload_n 3, 1) := dk_29 (dk_at dksX0_layUnit_1 18 rfl rfl)
theorem dX0_layUnit_42 : decode cX0_layUnit 42 = .ok (.iaload, 1) := dk_46 (dk_at dksX0_layUnit_1 19 rfl rfl)
theorem dX0_layUnit_43 : decode cX0_layUnit 43 = .ok (.ifCond .ne 60, 3) := dk_154 0 60 (dk_at dksX0_layUnit_1 20 rfl rfl)
theorem dX0_layUnit_46 : decode cX0_layUnit 46 = .ok (.aload_n 0, 1) := dk_42 (dk_at dksX0_layUnit_1 23 rfl rfl)
theorem dX0_layUnit_47 : decode cX0_layUnit 47 = .ok (.getfield 418, 3) := dk_180 1 162 (dk_at dksX0_layUnit_2 0 rfl rfl)
theorem dX0_layUnit_50 : decode cX0_layUnit 50 = .ok (.iload 4, 2) := dk_21 4 (dk_at dksX0_layUnit_2 3 rfl rfl)
theorem dX0_layUnit_52 : decode cX0_layUnit 52 = .ok (.iaload, 1) := dk_46 (dk_at dksX0_layUnit_2 5 rfl rfl)
theorem dX0_layUnit_53 : decode cX0_layUnit 53 = .ok (.iconst 1, 1) := dk_4 (dk_at dksX0_layUnit_2 6 rfl rfl)
theorem dX0_layUnit_54 : decode cX0_layUnit 54 = .ok (.if_icmp .ne 49, 3) := dk_160 0 49 (dk_at dksX0_layUnit_2 7 rfl rfl)
theorem dX0_layUnit_57 : decode cX0_layUnit 57 = .ok (.aload_n 0, 1) := dk_42 (dk_at dksX0_layUnit_2 10 rfl rfl)
theorem dX0_layUnit_58 : decode cX0_layUnit 58 = .ok (.getfield 421, 3) := dk_180 1 165 (dk_at dksX0_layUnit_2 11 rfl rfl)
theorem dX0_layUnit_61 : decode cX0_layUnit 61 = .ok (.bipush 12, 2) := dk_16 12 (dk_at dksX0_layUnit_2 14 rfl rfl)
theorem dX0_layUnit_63 : decode cX0_layUnit 63 = .ok (.iload 4, 2) := dk_21 4 (dk_at dksX0_layUnit_2 16 rfl rfl)
theorem dX0_layUnit_65 : decode cX0_layUnit 65 = .ok (.imul, 1) := dk_104 (dk_at dksX0_layUnit_2 18 rfl rfl)
theorem dX0_layUnit_66 : decode cX0_layUnit 66 = .ok (.iaload, 1) := dk_46 (dk_at dksX0_layUnit_2 19 rfl rfl)
theorem dX0_layUnit_67 : decode cX0_layUnit 67 = .ok (.aload_n 0, 1) := dk_42 (dk_at dksX0_layUnit_2 20 rfl rfl)
theorem dX0_layUnit_68 : decode cX0_layUnit 68 = .ok (.getfield 117, 3) := dk_180 0 117 (dk_at dksX0_layUnit_2 21 rfl rfl)
theorem dX0_layUnit_71 : decode cX0_layUnit 71 = .ok (.aload_n 0, 1) := dk_42 (dk_at dksX0_layUnit_3 0 rfl rfl)
theorem dX0_layUnit_72 : decode cX0_layUnit 72 = .ok (.getfield 312, 3) := dk_180 1 56 (dk_at dksX0_layUnit_3 1 rfl rfl)
theorem dX0_layUnit_75 : decode cX0_layUnit 75 = .ok (.iload_n 2, 1) := dk_28 (dk_at dksX0_layUnit_3 4 rfl rfl)
theorem dX0_layUnit_76 : decode cX0_layUnit 76 = .ok (.iaload, 1) := dk_46 (dk_at dksX0_layUnit_3 5 rfl rfl)
theorem dX0_layUnit_77 : decode cX0_layUnit 77 = .ok (.iaload, 1) := dk_46 (dk_at dksX0_layUnit_3 6 rfl rfl)
theorem dX0_layUnit_78 : decode cX0_layUnit 78 = .ok (.if_icmp .ne 25, 3) := dk_160 0 25 (dk_at dksX0_layUnit_3 7 rfl rfl)
theorem dX0_layUnit_81 : decode cX0_layUnit 81 = .ok (.aload_n 0, 1) := dk_42 (dk_at dksX0_layUnit_3 10 rfl rfl)
theorem dX0_layUnit_82 : decode cX0_layUnit 82 = .ok (.getfield 479, 3) := dk_180 1 223 (dk_at dksX0_layUnit_3 11 rfl rfl)
theorem dX0_layUnit_85 : decode cX0_layUnit 85 = .ok (.iload_n 3, 1) := dk_29 (dk_at dksX0_layUnit_3 14 rfl rfl)
theorem dX0_layUnit_86 : decode cX0_layUnit 86 = .ok (.iaload, 1) := dk_46 (dk_at dksX0_layUnit_3 15 rfl rfl)
theorem dX0_layUnit_87 : decode cX0_layUnit 87 = .ok (.aload_n 0, 1) := dk_42 (dk_at dksX0_layUnit_3 16 rfl rfl)
theorem dX0_layUnit_88 : decode cX0_layUnit 88 = .ok (.getfield 479, 3) := dk_180 1 223 (dk_at dksX0_layUnit_3 17 rfl rfl)
theorem dX0_layUnit_91 : decode cX0_layUnit 91 = .ok (.iload_n 1, 1) := dk_27 (dk_at dksX0_layUnit_3 20 rfl rfl)
theorem dX0_layUnit_92 : decode cX0_layUnit 92 = .ok (.iaload, 1) := dk_46 (dk_at dksX0_layUnit_3 21 rfl rfl)
theorem dX0_layUnit_93 : decode cX0_layUnit 93 = .ok (.if_icmp .ne 10, 3) := dk_160 0 10 (dk_at dksX0_layUnit_4 0 rfl rfl)
theorem dX0_layUnit_96 : decode cX0_layUnit 96 = .ok (.aload_n 0, 1) := dk_42 (dk_at dksX0_layUnit_4 3 rfl rfl)
theorem dX0_layUnit_97 : decode cX0_layUnit 97 = .ok (.getfield 491, 3) := dk_180 1 235 (dk_at dksX0_layUnit_4 4 rfl rfl)
theorem dX0_layUnit_100 : decode cX0_layUnit 100 = .ok (.iload_n 1, 1) := dk_27 (dk_at dksX0_layUnit_4 7 rfl rfl)
theorem dX0_layUnit_101 : decode cX0_layUnit 101 = .ok (.iload_n 3, 1) := dk_29 (dk_at dksX0_layUnit_4 8 rfl rfl)
theorem dX0_layUnit_102 : decode cX0_layUnit 102 = .ok (.iastore, 1) := dk_79 (dk_at dksX0_layUnit_4 9 rfl rfl)
theorem dX0_layUnit_103 : decode cX0_layUnit 103 = .ok (.iinc 3 1, 3) := dk_132 3 1 (dk_at dksX0_layUnit_4 10 rfl rfl)
theorem dX0_layUnit_106 : decode cX0_layUnit 106 = .ok (.goto (-85), 3) := dk_167 255 171 (dk_at dksX0_layUnit_4 13 rfl rfl)
theorem dX0_layUnit_109 : decode cX0_layUnit 109 = .ok (.aload_n 0, 1) := dk_42 (dk_at dksX0_layUnit_4 16 rfl rfl)
theorem dX0_layUnit_110 : decode cX0_layUnit 110 = .ok (.getfield 491, 3) := dk_180 1 235 (dk_at dksX0_layUnit_4 17 rfl rfl)
theorem dX0_layUnit_113 : decode cX0_layUnit 113 = .ok (.iload_n 1, 1) := dk_27 (dk_at dksX0_layUnit_4 20 rfl rfl)
theorem dX0_layUnit_114 : decode cX0_layUnit 114 = .ok (.iaload, 1) := dk_46 (dk_at dksX0_layUnit_4 21 rfl rfl)
theorem dX0_layUnit_115 : decode cX0_layUnit 115 = .ok (.bipush (-2), 2) := dk_16 254 (dk_at dksX0_layUnit_4 22 rfl rfl)
theorem dX0_layUnit_117 : decode cX0_layUnit 117 = .ok (.if_icmp .ne 15, 3) := dk_160 0 15 (dk_at dksX0_layUnit_5 0 rfl rfl)
theorem dX0_layUnit_120 : decode cX0_layUnit 120 = .ok (.aload_n 0, 1) := dk_42 (dk_at dksX0_layUnit_5 3 rfl rfl)
theorem dX0_layUnit_121 : decode cX0_layUnit 121 = .ok (.iconst 5, 1) := dk_8 (dk_at dksX0_layUnit_5 4 rfl rfl)
theorem dX0_layUnit_122 : decode cX0_layUnit 122 = .ok (.aload_n 0, 1) := dk_42 (dk_at dksX0_layUnit_5 5 rfl rfl)
theorem dX0_layUnit_123 : decode cX0_layUnit 123 = .ok (.getfield 281, 3) := dk_180 1 25 (dk_at dksX0_layUnit_5 6 rfl rfl)
theorem dX0_layUnit_126 : decode cX0_layUnit 126 = .ok (.iload_n 2, 1) := dk_28 (dk_at dksX0_layUnit_5 9 rfl rfl)
theorem dX0_layUnit_127 : decode cX0_layUnit 127 = .ok (.iaload, 1) := dk_46 (dk_at dksX0_layUnit_5 10 rfl rfl)
theorem dX0_layUnit_128 : decode cX0_layUnit 128 = .ok (.invokevirtual 132, 3) := dk_182 0 132 (dk_at dksX0_layUnit_5 11 rfl rfl)
theorem dX0_layUnit_131 : decode cX0_layUnit 131 = .ok (.istore_n 3, 1) := dk_62 (dk_at dksX0_layUnit_5 14 rfl rfl)
theorem dX0_layUnit_132 : decode cX0_layUnit 132 = .ok (.return_, 1) := dk_177 (dk_at dksX0_layUnit_5 15 rfl rfl)
abbrev cX0_layStatement : ByteArray := prog_1_method_98_code
def yX0_layStatement : MethodName := ⟨RX0, "layStatement", "(I)Z"⟩
def dkwX0_layStatement_7 : List UInt8 := [182, 2, 195, 153, 0, 7, 4, 167, 0, 4, 3, 172]
abbrev dktX0_layStatement_7 : List UInt8 := dkwX0_layStatement_7 ++ []
def dkwX0_layStatement_6 : List UInt8 := [182, 2, 180, 62, 42, 180, 2, 192, 27, 29, 79, 29, 153, 0, 21, 42, 29, 42, 180, 1, 112, 27, 46]
abbrev dktX0_layStatement_6 : List UInt8 := dkwX0_layStatement_6 ++ dktX0_layStatement_7
def dkwX0_layStatement_5 : List UInt8 := [132, 3, 1, 167, 255, 228, 42, 42, 180, 1, 112, 27, 46, 42, 180, 1, 115, 27, 46, 42, 28, 182, 2, 189]
abbrev dktX0_layStatement_5 : List UInt8 := dkwX0_layStatement_5 ++ dktX0_layStatement_6
def dkwX0_layStatement_4 : List UInt8 := [42, 180, 1, 100, 27, 46, 162, 0, 24, 42, 16, 6, 27, 104, 29, 96, 182, 2, 186, 154, 0, 5, 3, 172]
abbrev dktX0_layStatement_4 : List UInt8 := dkwX0_layStatement_4 ++ dktX0_layStatement_5
def dkwX0_layStatement_3 : List UInt8 := [153, 0, 7, 4, 167, 0, 4, 3, 172, 42, 28, 182, 2, 174, 42, 180, 2, 183, 27, 28, 79, 3, 62, 29]
abbrev dktX0_layStatement_3 : List UInt8 := dkwX0_layStatement_3 ++ dktX0_layStatement_4
def dkwX0_layStatement_2 : List UInt8 := [180, 2, 63, 28, 46, 156, 0, 28, 28, 153, 0, 22, 42, 16, 8, 42, 180, 1, 103, 27, 46, 182, 0, 132]
abbrev dktX0_layStatement_2 : List UInt8 := dkwX0_layStatement_2 ++ dktX0_layStatement_3
def dkwX0_layStatement_1 : List UInt8 := [180, 1, 103, 27, 46, 42, 180, 1, 109, 27, 46, 16, 254, 182, 2, 180, 61, 28, 153, 0, 12, 42]
abbrev dktX0_layStatement_1 : List UInt8 := dkwX0_layStatement_1 ++ dktX0_layStatement_2
def dkwX0_layStatement_0 : List UInt8 := [3, 61, 28, 16, 30, 162, 0, 16, 42, 180, 2, 171, 28, 3, 84, 132, 2, 1, 167, 255, 240, 42, 42]
abbrev dktX0_layStatement_0 : List UInt8 := dkwX0_layStatement_0 ++ dktX0_layStatement_1
theorem dksX0_layStatement_0 : cX0_layStatement.data.toList.drop 0 = dktX0_layStatement_0 := by decide +kernel
theorem dksX0_layStatement_1 : cX0_layStatement.data.toList.drop 23 = dktX0_layStatement_1 := dk_seg dksX0_layStatement_0 23 rfl rfl
theorem dksX0_layStatement_2 : cX0_layStatement.data.toList.drop 45 = dktX0_layStatement_2 := dk_seg dksX0_layStatement_1 22 rfl rfl
theorem dksX0_layStatement_3 : cX0_layStatement.data.toList.drop 69 = dktX0_layStatement_3 := dk_seg dksX0_layStatement_2 24 rfl rfl
theorem dksX0_layStatement_4 : cX0_layStatement.data.toList.drop 93 = dktX0_layStatement_4 := dk_seg dksX0_layStatement_3 24 rfl rfl
theorem dksX0_layStatement_5 : cX0_layStatement.data.toList.drop 117 = dktX0_layStatement_5 := dk_seg dksX0_layStatement_4 24 rfl rfl
theorem dksX0_layStatement_6 : cX0_layStatement.data.toList.drop 141 = dktX0_layStatement_6 := dk_seg dksX0_layStatement_5 24 rfl rfl
theorem dksX0_layStatement_7 : cX0_layStatement.data.toList.drop 164 = dktX0_layStatement_7 := dk_seg dksX0_layStatement_6 23 rfl rfl
theorem dX0_layStatement_0 : decode cX0_layStatement 0 = .ok (.iconst 0, 1) := dk_3 (dk_at dksX0_layStatement_0 0 rfl rfl)
theorem dX0_layStatement_1 : decode cX0_layStatement 1 = .ok (.istore_n 2, 1) := dk_61 (dk_at dksX0_layStatement_0 1 rfl rfl)
theorem dX0_layStatement_2 : decode cX0_layStatement 2 = .ok (.iload_n 2, 1) := dk_28 (dk_at dksX0_layStatement_0 2 rfl rfl)
theorem dX0_layStatement_3 : decode cX0_layStatement 3 = .ok (.bipush 30, 2) := dk_16 30 (dk_at dksX0_layStatement_0 3 rfl rfl)
theorem dX0_layStatement_5 : decode cX0_layStatement 5 = .ok (.if_icmp .ge 16, 3) := dk_162 0 16 (dk_at dksX0_layStatement_0 5 rfl rfl)
theorem dX0_layStatement_8 : decode cX0_layStatement 8 = .ok (.aload_n 0, 1) := dk_42 (dk_at dksX0_layStatement_0 8 rfl rfl)
theorem dX0_layStatement_9 : decode cX0_layStatement 9 = .ok (.getfield 683, 3) := dk_180 2 171 (dk_at dksX0_layStatement_0 9 rfl rfl)
theorem dX0_layStatement_12 : decode cX0_layStatement 12 = .ok (.iload_n 2, 1) := dk_28 (dk_at dksX0_layStatement_0 12 rfl rfl)
theorem dX0_layStatement_13 : decode cX0_layStatement 13 = .ok (.iconst 0, 1) := dk_3 (dk_at dksX0_layStatement_0 13 rfl rfl)
theorem dX0_layStatement_14 : decode cX0_layStatement 14 = .ok (.bastore, 1) := dk_84 (dk_at dksX0_layStatement_0 14 rfl rfl)
theorem dX0_layStatement_15 : decode cX0_layStatement 15 = .ok (.iinc 2 1, 3) := dk_132 2 1 (dk_at dksX0_layStatement_0 15 rfl rfl)
theorem dX0_layStatement_18 : decode cX0_layStatement 18 = .ok (.goto (-16), 3) := dk_167 255 240 (dk_at dksX0_layStatement_0 18 rfl rfl)
theorem dX0_layStatement_21 : decode cX0_layStatement 21 = .ok (.aload_n 0, 1) := dk_42 (dk_at dksX0_layStatement_0 21 rfl rfl)
theorem dX0_layStatement_22 : decode cX0_layStatement 22 = .ok (.aload_n 0, 1) := dk_42 (dk_at dksX0_layStatement_0 22 rfl rfl)
theorem dX0_layStatement_23 : decode cX0_layStatement 23 = .ok (.getfield 359, 3) := dk_180 1 103 (dk_at dksX0_layStatement_1 0 rfl rfl)
theorem dX0_layStatement_26 : decode cX0_layStatement 26 = .ok (.iload_n 1, 1) := dk_27 (dk_at dksX0_layStatement_1 3 rfl rfl)
theorem dX0_layStatement_27 : decode cX0_layStatement 27 = .ok (.iaload, 1) := dk_46 (dk_at dksX0_layStatement_1 4 rfl rfl)
theorem dX0_layStatement_28 : decode cX0_layStatement 28 = .ok (.aload_n 0, 1) := dk_42 (dk_at dksX0_layStatement_1 5 rfl rfl)
theorem dX0_layStatement_29 : decode cX0_layStatement 29 = .ok (.getfield 365, 3) := dk_180 1 109 (dk_at dksX0_layStatement_1 6 rfl rfl)
theorem dX0_layStatement_32 : decode cX0_layStatement 32 = .ok (.iload_n 1, 1) := dk_27 (dk_at dksX0_layStatement_1 9 rfl rfl)
theorem dX0_layStatement_33 : decode cX0_layStatement 33 = .ok (.iaload, 1) := dk_46 (dk_at dksX0_layStatement_1 10 rfl rfl)
theorem dX0_layStatement_34 : decode cX0_layStatement 34 = .ok (.bipush (-2), 2) := dk_16 254 (dk_at dksX0_layStatement_1 11 rfl rfl)
theorem dX0_layStatement_36 : decode cX0_layStatement 36 = .ok (.invokevirtual 692, 3) := dk_182 2 180 (dk_at dksX0_layStatement_1 13 rfl rfl)
theorem dX0_layStatement_39 : decode cX0_layStatement 39 = .ok (.istore_n 2, 1) := dk_61 (dk_at dksX0_layStatement_1 16 rfl rfl)
theorem dX0_layStatement_40 : decode cX0_layStatement 40 = .ok (.iload_n 2, 1) := dk_28 (dk_at dksX0_layStatement_1 17 rfl rfl)
theorem dX0_layStatement_41 : decode cX0_layStatement 41 = .ok (.ifCond .eq 12, 3) := dk_153 0 12 (dk_at dksX0_layStatement_1 18 rfl rfl)
theorem dX0_layStatement_44 : decode cX0_layStatement 44 = .ok (.aload_n 0, 1) := dk_42 (dk_at dksX0_layStatement_1 21 rfl rfl)
theorem dX0_layStatement_45 : decode cX0_layStatement 45 = .ok (.getfield 575, 3) := dk_180 2 63 (dk_at dksX0_layStatement_2 0 rfl rfl)
theorem dX0_layStatement_48 : decode cX0_layStatement 48 = .ok (.iload_n 2, 1) := dk_28 (dk_at dksX0_layStatement_2 3 rfl rfl)
theorem dX0_layStatement_49 : decode cX0_layStatement 49 = .ok (.iaload, 1) := dk_46 (dk_at dksX0_layStatement_2 4 rfl rfl)
theorem dX0_layStatement_50 : decode cX0_layStatement 50 = .ok (.ifCond .ge 28, 3) := dk_156 0 28 (dk_at dksX0_layStatement_2 5 rfl rfl)
theorem dX0_layStatement_53 : decode cX0_layStatement 53 = .ok (.iload_n 2, 1) := dk_28 (dk_at dksX0_layStatement_2 8 rfl rfl)
theorem dX0_layStatement_54 : decode cX0_layStatement 54 = .ok (.ifCond .eq 22, 3) := dk_153 0 22 (dk_at dksX0_layStatement_2 9 rfl rfl)
theorem dX0_layStatement_57 : decode cX0_layStatement 57 = .ok (.aload_n 0, 1) := dk_42 (dk_at dksX0_layStatement_2 12 rfl rfl)
theorem dX0_layStatement_58 : decode cX0_layStatement 58 = .ok (.bipush 8, 2) := dk_16 8 (dk_at dksX0_layStatement_2 13 rfl rfl)
theorem dX0_layStatement_60 : decode cX0_layStatement 60 = .ok (.aload_n 0, 1) := dk_42 (dk_at dksX0_layStatement_2 15 rfl rfl)
theorem dX0_layStatement_61 : decode cX0_layStatement 61 = .ok (.getfield 359, 3) := dk_180 1 103 (dk_at dksX0_layStatement_2 16 rfl rfl)
theorem dX0_layStatement_64 : decode cX0_layStatement 64 = .ok (.iload_n 1, 1) := dk_27 (dk_at dksX0_layStatement_2 19 rfl rfl)
theorem dX0_layStatement_65 : decode cX0_layStatement 65 = .ok (.iaload, 1) := dk_46 (dk_at dksX0_layStatement_2 20 rfl rfl)
theorem dX0_layStatement_66 : decode cX0_layStatement 66 = .ok (.invokevirtual 132, 3) := dk_182 0 132 (dk_at dksX0_layStatement_2 21 rfl rfl)
theorem dX0_layStatement_69 : decode cX0_layStatement 69 = .ok (.ifCond .eq 7, 3) := dk_153 0 7 (dk_at dksX0_layStatement_3 0 rfl rfl)
theorem dX0_layStatement_72 : decode cX0_layStatement 72 = .ok (.iconst 1, 1) := dk_4 (dk_at dksX0_layStatement_3 3 rfl rfl)
theorem dX0_layStatement_73 : decode cX0_layStatement 73 = .ok (.goto 4, 3) := dk_167 0 4 (dk_at dksX0_layStatement_3 4 rfl rfl)
theorem dX0_layStatement_76 : decode cX0_layStatement 76 = .ok (.iconst 0, 1) := dk_3 (dk_at dksX0_layStatement_3 7 rfl rfl)
theorem dX0_layStatement_77 : decode cX0_layStatement 77 = .ok (.ireturn, 1) := dk_172 (dk_at dksX0_layStatement_3 8 rfl rfl)
theorem dX0_layStatement_78 : decode cX0_layStatement 78 = .ok (.aload_n 0, 1) := dk_42 (dk_at dksX0_layStatement_3 9 rfl rfl)
theorem dX0_layStatement_79 : decode cX0_layStatement 79 = .ok (.iload_n 2, 1) := dk_28 (dk_at dksX0_layStatement_3 10 rfl rfl)
theorem dX0_layStatement_80 : decode cX0_layStatement 80 = .ok (.invokevirtual 686, 3) := dk_182 2 174 (dk_at dksX0_layStatement_3 11 rfl rfl)
theorem dX0_layStatement_83 : decode cX0_layStatement 83 = .ok (.aload_n 0, 1) := dk_42 (dk_at dksX0_layStatement_3 14 rfl rfl)
theorem dX0_layStatement_84 : decode cX0_layStatement 84 = .ok (.getfield 695, 3) := dk_180 2 183 (dk_at dksX0_layStatement_3 15 rfl rfl)
theorem dX0_layStatement_87 : decode cX0_layStatement 87 = .ok (.iload_n 1, 1) := dk_27 (dk_at dksX0_layStatement_3 18 rfl rfl)
theorem dX0_layStatement_88 : decode cX0_layStatement 88 = .ok (.iload_n 2, 1) := dk_28 (dk_at dksX0_layStatement_3 19 rfl rfl)
theorem dX0_layStatement_89 : decode cX0_layStatement 89 = .ok (.iastore, 1) := dk_79 (dk_at dksX0_layStatement_3 20 rfl rfl)
theorem dX0_layStatement_90 : decode cX0_layStatement 90 = .ok (.iconst 0, 1) := dk_3 (dk_at dksX0_layStatement_3 21 rfl rfl)
theorem dX0_layStatement_91 : decode cX0_layStatement 91 = .ok (.istore_n 3, 1) := dk_62 (dk_at dksX0_layStatement_3 22 rfl rfl)
theorem dX0_layStatement_92 : decode cX0_layStatement 92 = .ok (.iload_n 3, 1) := dk_29 (dk_at dksX0_layStatement_3 23 rfl rfl)
theorem dX0_layStatement_93 : decode cX0_layStatement 93 = .ok (.aload_n 0, 1) := dk_42 (dk_at dksX0_layStatement_4 0 rfl rfl)
theorem dX0_layStatement_94 : decode cX0_layStatement 94 = .ok (.getfield 356, 3) := dk_180 1 100 (dk_at dksX0_layStatement_4 1 rfl rfl)
theorem dX0_layStatement_97 : decode cX0_layStatement 97 = .ok (.iload_n 1, 1) := dk_27 (dk_at dksX0_layStatement_4 4 rfl rfl)
theorem dX0_layStatement_98 : decode cX0_layStatement 98 = .ok (.iaload, 1) := dk_46 (dk_at dksX0_layStatement_4 5 rfl rfl)
theorem dX0_layStatement_99 : decode cX0_layStatement 99 = .ok (.if_icmp .ge 24, 3) := dk_162 0 24 (dk_at dksX0_layStatement_4 6 rfl rfl)
theorem dX0_layStatement_102 : decode cX0_layStatement 102 = .ok (.aload_n 0, 1) := dk_42 (dk_at dksX0_layStatement_4 9 rfl rfl)
theorem dX0_layStatement_103 : decode cX0_layStatement 103 = .ok (.bipush 6, 2) := dk_16 6 (dk_at dksX0_layStatement_4 10 rfl rfl)
theorem dX0_layStatement_105 : decode cX0_layStatement 105 = .ok (.iload_n 1, 1) := dk_27 (dk_at dksX0_layStatement_4 12 rfl rfl)
theorem dX0_layStatement_106 : decode cX0_layStatement 106 = .ok (.imul, 1) := dk_104 (dk_at dksX0_layStatement_4 13 rfl rfl)
theorem dX0_layStatement_107 : decode cX0_layStatement 107 = .ok (.iload_n 3, 1) := dk_29 (dk_at dksX0_layStatement_4 14 rfl rfl)
theorem dX0_layStatement_108 : decode cX0_layStatement 108 = .ok (.iadd, 1) := dk_96 (dk_at dksX0_layStatement_4 15 rfl rfl)
theorem dX0_layStatement_109 : decode cX0_layStatement 109 = .ok (.invokevirtual 698, 3) := dk_182 2 186 (dk_at dksX0_layStatement_4 16 rfl rfl)
theorem dX0_layStatement_112 : decode cX0_layStatement 112 = .ok (.ifCond .ne 5, 3) := dk_154 0 5 (dk_at dksX0_layStatement_4 19 rfl rfl)
theorem dX0_layStatement_115 : decode cX0_layStatement 115 = .ok (.iconst 0, 1) := dk_3 (dk_at dksX0_layStatement_4 22 rfl rfl)
theorem dX0_layStatement_116 : decode cX0_layStatement 116 = .ok (.ireturn, 1) := dk_172 (dk_at dksX0_layStatement_4 23 rfl rfl)
theorem dX0_layStatement_117 : decode cX0_layStatement 117 = .ok (.iinc 3 1, 3) := dk_132 3 1 (dk_at dksX0_layStatement_5 0 rfl rfl)
theorem dX0_layStatement_120 : decode cX0_layStatement 120 = .ok (.goto (-28), 3) := dk_167 255 228 (dk_at dksX0_layStatement_5 3 rfl rfl)
theorem dX0_layStatement_123 : decode cX0_layStatement 123 = .ok (.aload_n 0, 1) := dk_42 (dk_at dksX0_layStatement_5 6 rfl rfl)
theorem dX0_layStatement_124 : decode cX0_layStatement 124 = .ok (.aload_n 0, 1) := dk_42 (dk_at dksX0_layStatement_5 7 rfl rfl)
theorem dX0_layStatement_125 : decode cX0_layStatement 125 = .ok (.getfield 368, 3) := dk_180 1 112 (dk_at dksX0_layStatement_5 8 rfl rfl)
theorem dX0_layStatement_128 : decode cX0_layStatement 128 = .ok (.iload_n 1, 1) := dk_27 (dk_at dksX0_layStatement_5 11 rfl rfl)
theorem dX0_layStatement_129 : decode cX0_layStatement 129 = .ok (.iaload, 1) := dk_46 (dk_at dksX0_layStatement_5 12 rfl rfl)
theorem dX0_layStatement_130 : decode cX0_layStatement 130 = .ok (.aload_n 0, 1) := dk_42 (dk_at dksX0_layStatement_5 13 rfl rfl)
theorem dX0_layStatement_131 : decode cX0_layStatement 131 = .ok (.getfield 371, 3) := dk_180 1 115 (dk_at dksX0_layStatement_5 14 rfl rfl)
theorem dX0_layStatement_134 : decode cX0_layStatement 134 = .ok (.iload_n 1, 1) := dk_27 (dk_at dksX0_layStatement_5 17 rfl rfl)
theorem dX0_layStatement_135 : decode cX0_layStatement 135 = .ok (.iaload, 1) := dk_46 (dk_at dksX0_layStatement_5 18 rfl rfl)
theorem dX0_layStatement_136 : decode cX0_layStatement 136 = .ok (.aload_n 0, 1) := dk_42 (dk_at dksX0_layStatement_5 19 rfl rfl)
theorem dX0_layStatement_137 : decode cX0_layStatement 137 = .ok (.iload_n 2, 1) := dk_28 (dk_at dksX0_layStatement_5 20 rfl rfl)
theorem dX0_layStatement_138 : decode cX0_layStatement 138 = .ok (.invokevirtual 701, 3) := dk_182 2 189 (dk_at dksX0_layStatement_5 21 rfl rfl)
theorem dX0_layStatement_141 : decode cX0_layStatement 141 = .ok (.invokevirtual 692, 3) := dk_182 2 180 (dk_at dksX0_layStatement_6 0 rfl rfl)
theorem dX0_layStatement_144 : decode cX0_layStatement 144 = .ok (.istore_n 3, 1) := dk_62 (dk_at dksX0_layStatement_6 3 rfl rfl)
theorem dX0_layStatement_145 : decode cX0_layStatement 145 = .ok (.aload_n 0, 1) := dk_42 (dk_at dksX0_layStatement_6 4 rfl rfl)
theorem dX0_layStatement_146 : decode cX0_layStatement 146 = .ok (.getfield 704, 3) := dk_180 2 192 (dk_at dksX0_layStatement_6 5 rfl rfl)
theorem dX0_layStatement_149 : decode cX0_layStatement 149 = .ok (.iload_n 1, 1) := dk_27 (dk_at dksX0_layStatement_6 8 rfl rfl)
theorem dX0_layStatement_150 : decode cX0_layStatement 150 = .ok (.iload_n 3, 1) := dk_29 (dk_at dksX0_layStatement_6 9 rfl rfl)
theorem dX0_layStatement_151 : decode cX0_layStatement 151 = .ok (.iastore, 1) := dk_79 (dk_at dksX0_layStatement_6 10 rfl rfl)
theorem dX0_layStatement_152 : decode cX0_layStatement 152 = .ok (.iload_n 3, 1) := dk_29 (dk_at dksX0_layStatement_6 11 rfl rfl)
theorem dX0_layStatement_153 : decode cX0_layStatement 153 = .ok (.ifCond .eq 21, 3) := dk_153 0 21 (dk_at dksX0_layStatement_6 12 rfl rfl)
theorem dX0_layStatement_156 : decode cX0_layStatement 156 = .ok (.aload_n 0, 1) := dk_42 (dk_at dksX0_layStatement_6 15 rfl rfl)
theorem dX0_layStatement_157 : decode cX0_layStatement 157 = .ok (.iload_n 3, 1) := dk_29 (dk_at dksX0_layStatement_6 16 rfl rfl)
theorem dX0_layStatement_158 : decode cX0_layStatement 158 = .ok (.aload_n 0, 1) := dk_42 (dk_at dksX0_layStatement_6 17 rfl rfl)
theorem dX0_layStatement_159 : decode cX0_layStatement 159 = .ok (.getfield 368, 3) := dk_180 1 112 (dk_at dksX0_layStatement_6 18 rfl rfl)
theorem dX0_layStatement_162 : decode cX0_layStatement 162 = .ok (.iload_n 1, 1) := dk_27 (dk_at dksX0_layStatement_6 21 rfl rfl)
theorem dX0_layStatement_163 : decode cX0_layStatement 163 = .ok (.iaload, 1) := dk_46 (dk_at dksX0_layStatement_6 22 rfl rfl)
theorem dX0_layStatement_164 : decode cX0_layStatement 164 = .ok (.invokevirtual 707, 3) := dk_182 2 195 (dk_at dksX0_layStatement_7 0 rfl rfl)
theorem dX0_layStatement_167 : decode cX0_layStatement 167 = .ok (.ifCond .eq 7, 3) := dk_153 0 7 (dk_at dksX0_layStatement_7 3 rfl rfl)
theorem dX0_layStatement_170 : decode cX0_layStatement 170 = .ok (.iconst 1, 1) := dk_4 (dk_at dksX0_layStatement_7 6 rfl rfl)
theorem dX0_layStatement_171 : decode cX0_layStatement 171 = .ok (.goto 4, 3) := dk_167 0 4 (dk_at dksX0_layStatement_7 7 rfl rfl)
theorem dX0_layStatement_174 : decode cX0_layStatement 174 = .ok (.iconst 0, 1) := dk_3 (dk_at dksX0_layStatement_7 10 rfl rfl)
theorem dX0_layStatement_175 : decode cX0_layStatement 175 = .ok (.ireturn, 1) := dk_172 (dk_at dksX0_layStatement_7 11 rfl rfl)
abbrev cX0_readTerm : ByteArray := prog_1_method_93_code
def yX0_readTerm : MethodName := ⟨RX0, "readTerm", "(III)I"⟩
def dkwX0_readTerm_2 : List UInt8 := [181, 2, 99, 42, 16, 6, 27, 182, 0, 132, 54, 6, 3, 172]
abbrev dktX0_readTerm_2 : List UInt8 := dkwX0_readTerm_2 ++ []
def dkwX0_readTerm_1 : List UInt8 := [167, 0, 5, 16, 7, 27, 182, 0, 132, 54, 5, 3, 172, 42, 21, 4, 182, 2, 140, 172, 58, 5, 42, 3]
abbrev dktX0_readTerm_1 : List UInt8 := dkwX0_readTerm_1 ++ dktX0_readTerm_2
def dkwX0_readTerm_0 : List UInt8 := [42, 27, 28, 29, 182, 2, 168, 54, 4, 21, 4, 156, 0, 26, 42, 21, 4, 16, 251, 160, 0, 8, 16, 6]
abbrev dktX0_readTerm_0 : List UInt8 := dkwX0_readTerm_0 ++ dktX0_readTerm_1
theorem dksX0_readTerm_0 : cX0_readTerm.data.toList.drop 0 = dktX0_readTerm_0 := by decide +kernel
theorem dksX0_readTerm_1 : cX0_readTerm.data.toList.drop 24 = dktX0_readTerm_1 := dk_seg dksX0_readTerm_0 24 rfl rfl
theorem dksX0_readTerm_2 : cX0_readTerm.data.toList.drop 48 = dktX0_readTerm_2 := dk_seg dksX0_readTerm_1 24 rfl rfl
theorem dX0_readTerm_0 : decode cX0_readTerm 0 = .ok (.aload_n 0, 1) := dk_42 (dk_at dksX0_readTerm_0 0 rfl rfl)
theorem dX0_readTerm_1 : decode cX0_readTerm 1 = .ok (.iload_n 1, 1) := dk_27 (dk_at dksX0_readTerm_0 1 rfl rfl)
theorem dX0_readTerm_2 : decode cX0_readTerm 2 = .ok (.iload_n 2, 1) := dk_28 (dk_at dksX0_readTerm_0 2 rfl rfl)
theorem dX0_readTerm_3 : decode cX0_readTerm 3 = .ok (.iload_n 3, 1) := dk_29 (dk_at dksX0_readTerm_0 3 rfl rfl)
theorem dX0_readTerm_4 : decode cX0_readTerm 4 = .ok (.invokevirtual 680, 3) := dk_182 2 168 (dk_at dksX0_readTerm_0 4 rfl rfl)
theorem dX0_readTerm_7 : decode cX0_readTerm 7 = .ok (.istore 4, 2) := dk_54 4 (dk_at dksX0_readTerm_0 7 rfl rfl)
theorem dX0_readTerm_9 : decode cX0_readTerm 9 = .ok (.iload 4, 2) := dk_21 4 (dk_at dksX0_readTerm_0 9 rfl rfl)
theorem dX0_readTerm_11 : decode cX0_readTerm 11 = .ok (.ifCond .ge 26, 3) := dk_156 0 26 (dk_at dksX0_readTerm_0 11 rfl rfl)
theorem dX0_readTerm_14 : decode cX0_readTerm 14 = .ok (.aload_n 0, 1) := dk_42 (dk_at dksX0_readTerm_0 14 rfl rfl)
theorem dX0_readTerm_15 : decode cX0_readTerm 15 = .ok (.iload 4, 2) := dk_21 4 (dk_at dksX0_readTerm_0 15 rfl rfl)
theorem dX0_readTerm_17 : decode cX0_readTerm 17 = .ok (.bipush (-5), 2) := dk_16 251 (dk_at dksX0_readTerm_0 17 rfl rfl)
theorem dX0_readTerm_19 : decode cX0_readTerm 19 = .ok (.if_icmp .ne 8, 3) := dk_160 0 8 (dk_at dksX0_readTerm_0 19 rfl rfl)
theorem dX0_readTerm_22 : decode cX0_readTerm 22 = .ok (.bipush 6, 2) := dk_16 6 (dk_at dksX0_readTerm_0 22 rfl rfl)
theorem dX0_readTerm_24 : decode cX0_readTerm 24 = .ok (.goto 5, 3) := dk_167 0 5 (dk_at dksX0_readTerm_1 0 rfl rfl)
theorem dX0_readTerm_27 : decode cX0_readTerm 27 = .ok (.bipush 7, 2) := dk_16 7 (dk_at dksX0_readTerm_1 3 rfl rfl)
theorem dX0_readTerm_29 : decode cX0_readTerm 29 = .ok (.iload_n 1, 1) := dk_27 (dk_at dksX0_readTerm_1 5 rfl rfl)
theorem dX0_readTerm_30 : decode cX0_readTerm 30 = .ok (.invokevirtual 132, 3) := dk_182 0 132 (dk_at dksX0_readTerm_1 6 rfl rfl)
theorem dX0_readTerm_33 : decode cX0_readTerm 33 = .ok (.istore 5, 2) := dk_54 5 (dk_at dksX0_readTerm_1 9 rfl rfl)
theorem dX0_readTerm_35 : decode cX0_readTerm 35 = .ok (.iconst 0, 1) := dk_3 (dk_at dksX0_readTerm_1 11 rfl rfl)
theorem dX0_readTerm_36 : decode cX0_readTerm 36 = .ok (.ireturn, 1) := dk_172 (dk_at dksX0_readTerm_1 12 rfl rfl)
theorem dX0_readTerm_37 : decode cX0_readTerm 37 = .ok (.aload_n 0, 1) := dk_42 (dk_at dksX0_readTerm_1 13 rfl rfl)
theorem dX0_readTerm_38 : decode cX0_readTerm 38 = .ok (.iload 4, 2) := dk_21 4 (dk_at dksX0_readTerm_1 14 rfl rfl)
theorem dX0_readTerm_40 : decode cX0_readTerm 40 = .ok (.invokevirtual 652, 3) := dk_182 2 140 (dk_at dksX0_readTerm_1 16 rfl rfl)
theorem dX0_readTerm_43 : decode cX0_readTerm 43 = .ok (.ireturn, 1) := dk_172 (dk_at dksX0_readTerm_1 19 rfl rfl)
theorem dX0_readTerm_44 : decode cX0_readTerm 44 = .ok (.astore 5, 2) := dk_58 5 (dk_at dksX0_readTerm_1 20 rfl rfl)
theorem dX0_readTerm_46 : decode cX0_readTerm 46 = .ok (.aload_n 0, 1) := dk_42 (dk_at dksX0_readTerm_1 22 rfl rfl)
theorem dX0_readTerm_47 : decode cX0_readTerm 47 = .ok (.iconst 0, 1) := dk_3 (dk_at dksX0_readTerm_1 23 rfl rfl)
theorem dX0_readTerm_48 : decode cX0_readTerm 48 = .ok (.putfield 611, 3) := dk_181 2 99 (dk_at dksX0_readTerm_2 0 rfl rfl)
theorem dX0_readTerm_51 : decode cX0_readTerm 51 = .ok (.aload_n 0, 1) := dk_42 (dk_at dksX0_readTerm_2 3 rfl rfl)
theorem dX0_readTerm_52 : decode cX0_readTerm 52 = .ok (.bipush 6, 2) := dk_16 6 (dk_at dksX0_readTerm_2 4 rfl rfl)
theorem dX0_readTerm_54 : decode cX0_readTerm 54 = .ok (.iload_n 1, 1) := dk_27 (dk_at dksX0_readTerm_2 6 rfl rfl)
theorem dX0_readTerm_55 : decode cX0_readTerm 55 = .ok (.invokevirtual 132, 3) := dk_182 0 132 (dk_at dksX0_readTerm_2 7 rfl rfl)
theorem dX0_readTerm_58 : decode cX0_readTerm 58 = .ok (.istore 6, 2) := dk_54 6 (dk_at dksX0_readTerm_2 10 rfl rfl)
theorem dX0_readTerm_60 : decode cX0_readTerm 60 = .ok (.iconst 0, 1) := dk_3 (dk_at dksX0_readTerm_2 12 rfl rfl)
theorem dX0_readTerm_61 : decode cX0_readTerm 61 = .ok (.ireturn, 1) := dk_172 (dk_at dksX0_readTerm_2 13 rfl rfl)
abbrev cX0_readingOf : ByteArray := prog_1_method_67_code
def yX0_readingOf : MethodName := ⟨RX0, "readingOf", "(III)I"⟩
def dkwX0_readingOf_3 : List UInt8 := [21, 5, 46, 54, 5, 167, 255, 207, 21, 4, 172]
abbrev dktX0_readingOf_3 : List UInt8 := dkwX0_readingOf_3 ++ []
def dkwX0_readingOf_2 : List UInt8 := [160, 0, 19, 21, 4, 16, 251, 160, 0, 8, 21, 5, 167, 0, 5, 16, 250, 54, 4, 42, 180, 2, 3]
abbrev dktX0_readingOf_2 : List UInt8 := dkwX0_readingOf_2 ++ dktX0_readingOf_3
def dkwX0_readingOf_1 : List UInt8 := [54, 5, 21, 5, 16, 254, 159, 0, 48, 29, 16, 254, 159, 0, 14, 42, 180, 1, 253, 21, 5, 46, 29]
abbrev dktX0_readingOf_1 : List UInt8 := dkwX0_readingOf_1 ++ dktX0_readingOf_2
def dkwX0_readingOf_0 : List UInt8 := [42, 27, 28, 182, 2, 47, 16, 251, 54, 4, 42, 180, 1, 250, 3, 42, 180, 2, 38, 184, 2, 35, 46]
abbrev dktX0_readingOf_0 : List UInt8 := dkwX0_readingOf_0 ++ dktX0_readingOf_1
theorem dksX0_readingOf_0 : cX0_readingOf.data.toList.drop 0 = dktX0_readingOf_0 := by decide +kernel
theorem dksX0_readingOf_1 : cX0_readingOf.data.toList.drop 23 = dktX0_readingOf_1 := dk_seg dksX0_readingOf_0 23 rfl rfl
theorem dksX0_readingOf_2 : cX0_readingOf.data.toList.drop 46 = dktX0_readingOf_2 := dk_seg dksX0_readingOf_1 23 rfl rfl
theorem dksX0_readingOf_3 : cX0_readingOf.data.toList.drop 69 = dktX0_readingOf_3 := dk_seg dksX0_readingOf_2 23 rfl rfl
theorem dX0_readingOf_0 : decode cX0_readingOf 0 = .ok (.aload_n 0, 1) := dk_42 (dk_at dksX0_readingOf_0 0 rfl rfl)
theorem dX0_readingOf_1 : decode cX0_readingOf 1 = .ok (.iload_n 1, 1) := dk_27 (dk_at dksX0_readingOf_0 1 rfl rfl)
theorem dX0_readingOf_2 : decode cX0_readingOf 2 = .ok (.iload_n 2, 1) := dk_28 (dk_at dksX0_readingOf_0 2 rfl rfl)
theorem dX0_readingOf_3 : decode cX0_readingOf 3 = .ok (.invokevirtual 559, 3) := dk_182 2 47 (dk_at dksX0_readingOf_0 3 rfl rfl)
theorem dX0_readingOf_6 : decode cX0_readingOf 6 = .ok (.bipush (-5), 2) := dk_16 251 (dk_at dksX0_readingOf_0 6 rfl rfl)
theorem dX0_readingOf_8 : decode cX0_readingOf 8 = .ok (.istore 4, 2) := dk_54 4 (dk_at dksX0_readingOf_0 8 rfl rfl)
theorem dX0_readingOf_10 : decode cX0_readingOf 10 = .ok (.aload_n 0, 1) := dk_42 (dk_at dksX0_readingOf_0 10 rfl rfl)
theorem dX0_readingOf_11 : decode cX0_readingOf 11 = .ok (.getfield 506, 3) := dk_180 1 250 (dk_at dksX0_readingOf_0 11 rfl rfl)
theorem dX0_readingOf_14 : decode cX0_readingOf 14 = .ok (.iconst 0, 1) := dk_3 (dk_at dksX0_readingOf_0 14 rfl rfl)
theorem dX0_readingOf_15 : decode cX0_readingOf 15 = .ok (.aload_n 0, 1) := dk_42 (dk_at dksX0_readingOf_0 15 rfl rfl)
theorem dX0_readingOf_16 : decode cX0_readingOf 16 = .ok (.getfield 550, 3) := dk_180 2 38 (dk_at dksX0_readingOf_0 16 rfl rfl)
theorem dX0_readingOf_19 : decode cX0_readingOf 19 = .ok (.invokestatic 547, 3) := dk_184 2 35 (dk_at dksX0_readingOf_0 19 rfl rfl)
theorem dX0_readingOf_22 : decode cX0_readingOf 22 = .ok (.iaload, 1) := dk_46 (dk_at dksX0_readingOf_0 22 rfl rfl)
theorem dX0_readingOf_23 : decode cX0_readingOf 23 = .ok (.istore 5, 2) := dk_54 5 (dk_at dksX0_readingOf_1 0 rfl rfl)
theorem dX0_readingOf_25 : decode cX0_readingOf 25 = .ok (.iload 5, 2) := dk_21 5 (dk_at dksX0_readingOf_1 2 rfl rfl)
theorem dX0_readingOf_27 : decode cX0_readingOf 27 = .ok (.bipush (-2), 2) := dk_16 254 (dk_at dksX0_readingOf_1 4 rfl rfl)
theorem dX0_readingOf_29 : decode cX0_readingOf 29 = .ok (.if_icmp .eq 48, 3) := dk_159 0 48 (dk_at dksX0_readingOf_1 6 rfl rfl)
theorem dX0_readingOf_32 : decode cX0_readingOf 32 = .ok (.iload_n 3, 1) := dk_29 (dk_at dksX0_readingOf_1 9 rfl rfl)
theorem dX0_readingOf_33 : decode cX0_readingOf 33 = .ok (.bipush (-2), 2) := dk_16 254 (dk_at dksX0_readingOf_1 10 rfl rfl)
theorem dX0_readingOf_35 : decode cX0_readingOf 35 = .ok (.if_icmp .eq 14, 3) := dk_159 0 14 (dk_at dksX0_readingOf_1 12 rfl rfl)
theorem dX0_readingOf_38 : decode cX0_readingOf 38 = .ok (.aload_n 0, 1) := dk_42 (dk_at dksX0_readingOf_1 15 rfl rfl)
theorem dX0_readingOf_39 : decode cX0_readingOf 39 = .ok (.getfield 509, 3) := dk_180 1 253 (dk_at dksX0_readingOf_1 16 rfl rfl)
theorem dX0_readingOf_42 : decode cX0_readingOf 42 = .ok (.iload 5, 2) := dk_21 5 (dk_at dksX0_readingOf_1 19 rfl rfl)
theorem dX0_readingOf_44 : decode cX0_readingOf 44 = .ok (.iaload, 1) := dk_46 (dk_at dksX0_readingOf_1 21 rfl rfl)
theorem dX0_readingOf_45 : decode cX0_readingOf 45 = .ok (.iload_n 3, 1) := dk_29 (dk_at dksX0_readingOf_1 22 rfl rfl)
theorem dX0_readingOf_46 : decode cX0_readingOf 46 = .ok (.if_icmp .ne 19, 3) := dk_160 0 19 (dk_at dksX0_readingOf_2 0 rfl rfl)
theorem dX0_readingOf_49 : decode cX0_readingOf 49 = .ok (.iload 4, 2) := dk_21 4 (dk_at dksX0_readingOf_2 3 rfl rfl)
theorem dX0_readingOf_51 : decode cX0_readingOf 51 = .ok (.bipush (-5), 2) := dk_16 251 (dk_at dksX0_readingOf_2 5 rfl rfl)
theorem dX0_readingOf_53 : decode cX0_readingOf 53 = .ok (.if_icmp .ne 8, 3) := dk_160 0 8 (dk_at dksX0_readingOf_2 7 rfl rfl)
theorem dX0_readingOf_56 : decode cX0_readingOf 56 = .ok (.iload 5, 2) := dk_21 5 (dk_at dksX0_readingOf_2 10 rfl rfl)
theorem dX0_readingOf_58 : decode cX0_readingOf 58 = .ok (.goto 5, 3) := dk_167 0 5 (dk_at dksX0_readingOf_2 12 rfl rfl)
theorem dX0_readingOf_61 : decode cX0_readingOf 61 = .ok (.bipush (-6), 2) := dk_16 250 (dk_at dksX0_readingOf_2 15 rfl rfl)
theorem dX0_readingOf_63 : decode cX0_readingOf 63 = .ok (.istore 4, 2) := dk_54 4 (dk_at dksX0_readingOf_2 17 rfl rfl)
theorem dX0_readingOf_65 : decode cX0_readingOf 65 = .ok (.aload_n 0, 1) := dk_42 (dk_at dksX0_readingOf_2 19 rfl rfl)
theorem dX0_readingOf_66 : decode cX0_readingOf 66 = .ok (.getfield 515, 3) := dk_180 2 3 (dk_at dksX0_readingOf_2 20 rfl rfl)
theorem dX0_readingOf_69 : decode cX0_readingOf 69 = .ok (.iload 5, 2) := dk_21 5 (dk_at dksX0_readingOf_3 0 rfl rfl)
theorem dX0_readingOf_71 : decode cX0_readingOf 71 = .ok (.iaload, 1) := dk_46 (dk_at dksX0_readingOf_3 2 rfl rfl)
theorem dX0_readingOf_72 : decode cX0_readingOf 72 = .ok (.istore 5, 2) := dk_54 5 (dk_at dksX0_readingOf_3 3 rfl rfl)
theorem dX0_readingOf_74 : decode cX0_readingOf 74 = .ok (.goto (-49), 3) := dk_167 255 207 (dk_at dksX0_readingOf_3 5 rfl rfl)
theorem dX0_readingOf_77 : decode cX0_readingOf 77 = .ok (.iload 4, 2) := dk_21 4 (dk_at dksX0_readingOf_3 8 rfl rfl)
theorem dX0_readingOf_79 : decode cX0_readingOf 79 = .ok (.ireturn, 1) := dk_172 (dk_at dksX0_readingOf_3 10 rfl rfl)
abbrev cX0_layReadings : ByteArray := prog_1_method_64_code
def yX0_layReadings : MethodName := ⟨RX0, "layReadings", "(II)V"⟩
def dkwX0_layReadings_3 : List UInt8 := [182, 2, 41, 132, 4, 1, 167, 255, 232, 132, 3, 1, 167, 255, 215, 177]
abbrev dktX0_layReadings_3 : List UInt8 := dkwX0_layReadings_3 ++ []
def dkwX0_layReadings_2 : List UInt8 := [163, 0, 39, 3, 54, 4, 21, 4, 29, 96, 42, 180, 2, 38, 163, 0, 19, 42, 21, 4, 21, 4, 29, 96]
abbrev dktX0_layReadings_2 : List UInt8 := dkwX0_layReadings_2 ++ dktX0_layReadings_3
def dkwX0_layReadings_1 : List UInt8 := [162, 0, 17, 42, 180, 1, 250, 29, 16, 254, 79, 132, 3, 1, 167, 255, 238, 4, 62, 29, 42, 180, 2, 38]
abbrev dktX0_layReadings_1 : List UInt8 := dkwX0_layReadings_1 ++ dktX0_layReadings_2
def dkwX0_layReadings_0 : List UInt8 := [42, 27, 181, 2, 25, 42, 28, 27, 100, 181, 2, 38, 42, 3, 181, 2, 6, 3, 62, 29, 17, 4, 65]
abbrev dktX0_layReadings_0 : List UInt8 := dkwX0_layReadings_0 ++ dktX0_layReadings_1
theorem dksX0_layReadings_0 : cX0_layReadings.data.toList.drop 0 = dktX0_layReadings_0 := by decide +kernel
theorem dksX0_layReadings_1 : cX0_layReadings.data.toList.drop 23 = dktX0_layReadings_1 := dk_seg dksX0_layReadings_0 23 rfl rfl
theorem dksX0_layReadings_2 : cX0_layReadings.data.toList.drop 47 = dktX0_layReadings_2 := dk_seg dksX0_layReadings_1 24 rfl rfl
theorem dksX0_layReadings_3 : cX0_layReadings.data.toList.drop 71 = dktX0_layReadings_3 := dk_seg dksX0_layReadings_2 24 rfl rfl
theorem dX0_layReadings_0 : decode cX0_layReadings 0 = .ok (.aload_n 0, 1) := dk_42 (dk_at dksX0_layReadings_0 0 rfl rfl)
theorem dX0_layReadings_1 : decode cX0_layReadings 1 = .ok (.iload_n 1, 1) := dk_27 (dk_at dksX0_layReadings_0 1 rfl rfl)
theorem dX0_layReadings_2 : decode cX0_layReadings 2 = .ok (.putfield 537, 3) := dk_181 2 25 (dk_at dksX0_layReadings_0 2 rfl rfl)
theorem dX0_layReadings_5 : decode cX0_layReadings 5 = .ok (.aload_n 0, 1) := dk_42 (dk_at dksX0_layReadings_0 5 rfl rfl)
theorem dX0_layReadings_6 : decode cX0_layReadings 6 = .ok (.iload_n 2, 1) := dk_28 (dk_at dksX0_layReadings_0 6 rfl rfl)
theorem dX0_layReadings_7 : decode cX0_layReadings 7 = .ok (.iload_n 1, 1) := dk_27 (dk_at dksX0_layReadings_0 7 rfl rfl)
theorem dX0_layReadings_8 : decode cX0_layReadings 8 = .ok (.isub, 1) := dk_100 (dk_at dksX0_layReadings_0 8 rfl rfl)
theorem dX0_layReadings_9 : decode cX0_layReadings 9 = .ok (.putfield 550, 3) := dk_181 2 38 (dk_at dksX0_layReadings_0 9 rfl rfl)
theorem dX0_layReadings_12 : decode cX0_layReadings 12 = .ok (.aload_n 0, 1) := dk_42 (dk_at dksX0_layReadings_0 12 rfl rfl)
theorem dX0_layReadings_13 : decode cX0_layReadings 13 = .ok (.iconst 0, 1) := dk_3 (dk_at dksX0_layReadings_0 13 rfl rfl)
theorem dX0_layReadings_14 : decode cX0_layReadings 14 = .ok (.putfield 518, 3) := dk_181 2 6 (dk_at dksX0_layReadings_0 14 rfl rfl)
theorem dX0_layReadings_17 : decode cX0_layReadings 17 = .ok (.iconst 0, 1) := dk_3 (dk_at dksX0_layReadings_0 17 rfl rfl)
theorem dX0_layReadings_18 : decode cX0_layReadings 18 = .ok (.istore_n 3, 1) := dk_62 (dk_at dksX0_layReadings_0 18 rfl rfl)
theorem dX0_layReadings_19 : decode cX0_layReadings 19 = .ok (.iload_n 3, 1) := dk_29 (dk_at dksX0_layReadings_0 19 rfl rfl)
theorem dX0_layReadings_20 : decode cX0_layReadings 20 = .ok (.sipush 1089, 3) := dk_17 4 65 (dk_at dksX0_layReadings_0 20 rfl rfl)
theorem dX0_layReadings_23 : decode cX0_layReadings 23 = .ok (.if_icmp .ge 17, 3) := dk_162 0 17 (dk_at dksX0_layReadings_1 0 rfl rfl)
theorem dX0_layReadings_26 : decode cX0_layReadings 26 = .ok (.aload_n 0, 1) := dk_42 (dk_at dksX0_layReadings_1 3 rfl rfl)
theorem dX0_layReadings_27 : decode cX0_layReadings 27 = .ok (.getfield 506, 3) := dk_180 1 250 (dk_at dksX0_layReadings_1 4 rfl rfl)
theorem dX0_layReadings_30 : decode cX0_layReadings 30 = .ok (.iload_n 3, 1) := dk_29 (dk_at dksX0_layReadings_1 7 rfl rfl)
theorem dX0_layReadings_31 : decode cX0_layReadings 31 = .ok (.bipush (-2), 2) := dk_16 254 (dk_at dksX0_layReadings_1 8 rfl rfl)
theorem dX0_layReadings_33 : decode cX0_layReadings 33 = .ok (.iastore, 1) := dk_79 (dk_at dksX0_layReadings_1 10 rfl rfl)
theorem dX0_layReadings_34 : decode cX0_layReadings 34 = .ok (.iinc 3 1, 3) := dk_132 3 1 (dk_at dksX0_layReadings_1 11 rfl rfl)
theorem dX0_layReadings_37 : decode cX0_layReadings 37 = .ok (.goto (-18), 3) := dk_167 255 238 (dk_at dksX0_layReadings_1 14 rfl rfl)
theorem dX0_layReadings_40 : decode cX0_layReadings 40 = .ok (.iconst 1, 1) := dk_4 (dk_at dksX0_layReadings_1 17 rfl rfl)
theorem dX0_layReadings_41 : decode cX0_layReadings 41 = .ok (.istore_n 3, 1) := dk_62 (dk_at dksX0_layReadings_1 18 rfl rfl)
theorem dX0_layReadings_42 : decode cX0_layReadings 42 = .ok (.iload_n 3, 1) := dk_29 (dk_at dksX0_layReadings_1 19 rfl rfl)
theorem dX0_layReadings_43 : decode cX0_layReadings 43 = .ok (.aload_n 0, 1) := dk_42 (dk_at dksX0_layReadings_1 20 rfl rfl)
theorem dX0_layReadings_44 : decode cX0_layReadings 44 = .ok (.getfield 550, 3) := dk_180 2 38 (dk_at dksX0_layReadings_1 21 rfl rfl)
theorem dX0_layReadings_47 : decode cX0_layReadings 47 = .ok (.if_icmp .gt 39, 3) := dk_163 0 39 (dk_at dksX0_layReadings_2 0 rfl rfl)
theorem dX0_layReadings_50 : decode cX0_layReadings 50 = .ok (.iconst 0, 1) := dk_3 (dk_at dksX0_layReadings_2 3 rfl rfl)
theorem dX0_layReadings_51 : decode cX0_layReadings 51 = .ok (.istore 4, 2) := dk_54 4 (dk_at dksX0_layReadings_2 4 rfl rfl)
theorem dX0_layReadings_53 : decode cX0_layReadings 53 = .ok (.iload 4, 2) := dk_21 4 (dk_at dksX0_layReadings_2 6 rfl rfl)
theorem dX0_layReadings_55 : decode cX0_layReadings 55 = .ok (.iload_n 3, 1) := dk_29 (dk_at dksX0_layReadings_2 8 rfl rfl)
theorem dX0_layReadings_56 : decode cX0_layReadings 56 = .ok (.iadd, 1) := dk_96 (dk_at dksX0_layReadings_2 9 rfl rfl)
theorem dX0_layReadings_57 : decode cX0_layReadings 57 = .ok (.aload_n 0, 1) := dk_42 (dk_at dksX0_layReadings_2 10 rfl rfl)
theorem dX0_layReadings_58 : decode cX0_layReadings 58 = .ok (.getfield 550, 3) := dk_180 2 38 (dk_at dksX0_layReadings_2 11 rfl rfl)
theorem dX0_layReadings_61 : decode cX0_layReadings 61 = .ok (.if_icmp .gt 19, 3) := dk_163 0 19 (dk_at dksX0_layReadings_2 14 rfl rfl)
theorem dX0_layReadings_64 : decode cX0_layReadings 64 = .ok (.aload_n 0, 1) := dk_42 (dk_at dksX0_layReadings_2 17 rfl rfl)
theorem dX0_layReadings_65 : decode cX0_layReadings 65 = .ok (.iload 4, 2) := dk_21 4 (dk_at dksX0_layReadings_2 18 rfl rfl)
theorem dX0_layReadings_67 : decode cX0_layReadings 67 = .ok (.iload 4, 2) := dk_21 4 (dk_at dksX0_layReadings_2 20 rfl rfl)
theorem dX0_layReadings_69 : decode cX0_layReadings 69 = .ok (.iload_n 3, 1) := dk_29 (dk_at dksX0_layReadings_2 22 rfl rfl)
theorem dX0_layReadings_70 : decode cX0_layReadings 70 = .ok (.iadd, 1) := dk_96 (dk_at dksX0_layReadings_2 23 rfl rfl)
theorem dX0_layReadings_71 : decode cX0_layReadings 71 = .ok (.invokevirtual 553, 3) := dk_182 2 41 (dk_at dksX0_layReadings_3 0 rfl rfl)
theorem dX0_layReadings_74 : decode cX0_layReadings 74 = .ok (.iinc 4 1, 3) := dk_132 4 1 (dk_at dksX0_layReadings_3 3 rfl rfl)
theorem dX0_layReadings_77 : decode cX0_layReadings 77 = .ok (.goto (-24), 3) := dk_167 255 232 (dk_at dksX0_layReadings_3 6 rfl rfl)
theorem dX0_layReadings_80 : decode cX0_layReadings 80 = .ok (.iinc 3 1, 3) := dk_132 3 1 (dk_at dksX0_layReadings_3 9 rfl rfl)
theorem dX0_layReadings_83 : decode cX0_layReadings 83 = .ok (.goto (-41), 3) := dk_167 255 215 (dk_at dksX0_layReadings_3 12 rfl rfl)
theorem dX0_layReadings_86 : decode cX0_layReadings 86 = .ok (.return_, 1) := dk_177 (dk_at dksX0_layReadings_3 15 rfl rfl)
abbrev cX0_layCell : ByteArray := prog_1_method_65_code
def yX0_layCell : MethodName := ⟨RX0, "layCell", "(II)V"⟩
def dkwX0_layCell_10 : List UInt8 := [21, 7, 3, 3, 27, 28, 29, 182, 2, 28, 132, 7, 1, 167, 255, 228, 177]
abbrev dktX0_layCell_10 : List UInt8 := dkwX0_layCell_10 ++ []
def dkwX0_layCell_9 : List UInt8 := [54, 7, 167, 255, 233, 3, 54, 7, 21, 7, 42, 180, 0, 166, 162, 0, 25, 42, 3, 181, 2, 18, 42]
abbrev dktX0_layCell_9 : List UInt8 := dkwX0_layCell_9 ++ dktX0_layCell_10
def dkwX0_layCell_8 : List UInt8 := [54, 7, 21, 7, 16, 254, 159, 0, 22, 42, 29, 21, 7, 182, 2, 44, 42, 180, 2, 3, 21, 7, 46]
abbrev dktX0_layCell_8 : List UInt8 := dkwX0_layCell_8 ++ dktX0_layCell_9
def dkwX0_layCell_7 : List UInt8 := [21, 6, 46, 51, 16, 41, 160, 0, 45, 42, 180, 1, 250, 27, 4, 96, 28, 4, 100, 184, 2, 35, 46]
abbrev dktX0_layCell_7 : List UInt8 := dkwX0_layCell_7 ++ dktX0_layCell_8
def dkwX0_layCell_6 : List UInt8 := [21, 5, 153, 0, 73, 42, 180, 0, 108, 21, 6, 46, 4, 160, 0, 62, 42, 180, 0, 27, 42, 180, 0, 111]
abbrev dktX0_layCell_6 : List UInt8 := dkwX0_layCell_6 ++ dktX0_layCell_7
def dkwX0_layCell_5 : List UInt8 := [4, 167, 0, 4, 3, 54, 5, 42, 180, 2, 25, 28, 96, 4, 100, 54, 6, 28, 27, 100, 5, 164, 0, 78]
abbrev dktX0_layCell_5 : List UInt8 := dkwX0_layCell_5 ++ dktX0_layCell_6
def dkwX0_layCell_4 : List UInt8 := [21, 4, 46, 4, 160, 0, 24, 42, 180, 0, 27, 42, 180, 0, 111, 21, 4, 46, 51, 16, 40, 160, 0, 7]
abbrev dktX0_layCell_4 : List UInt8 := dkwX0_layCell_4 ++ dktX0_layCell_5
def dkwX0_layCell_3 : List UInt8 := [21, 5, 46, 46, 3, 2, 21, 5, 100, 3, 182, 2, 21, 132, 5, 1, 167, 255, 194, 42, 180, 0, 108]
abbrev dktX0_layCell_3 : List UInt8 := dkwX0_layCell_3 ++ dktX0_layCell_4
def dkwX0_layCell_2 : List UInt8 := [21, 5, 46, 42, 180, 0, 117, 21, 4, 46, 160, 0, 26, 42, 29, 42, 180, 1, 145, 42, 180, 1, 247]
abbrev dktX0_layCell_2 : List UInt8 := dkwX0_layCell_2 ++ dktX0_layCell_3
def dkwX0_layCell_1 : List UInt8 := [21, 5, 42, 180, 0, 154, 162, 0, 59, 42, 180, 0, 108, 21, 4, 46, 154, 0, 43, 42, 180, 1, 244]
abbrev dktX0_layCell_1 : List UInt8 := dkwX0_layCell_1 ++ dktX0_layCell_2
def dkwX0_layCell_0 : List UInt8 := [27, 28, 184, 2, 35, 62, 42, 180, 2, 25, 27, 96, 54, 4, 28, 27, 4, 96, 160, 0, 71, 3, 54, 5]
abbrev dktX0_layCell_0 : List UInt8 := dkwX0_layCell_0 ++ dktX0_layCell_1
theorem dksX0_layCell_0 : cX0_layCell.data.toList.drop 0 = dktX0_layCell_0 := by decide +kernel
theorem dksX0_layCell_1 : cX0_layCell.data.toList.drop 24 = dktX0_layCell_1 := dk_seg dksX0_layCell_0 24 rfl rfl
theorem dksX0_layCell_2 : cX0_layCell.data.toList.drop 47 = dktX0_layCell_2 := dk_seg dksX0_layCell_1 23 rfl rfl
theorem dksX0_layCell_3 : cX0_layCell.data.toList.drop 70 = dktX0_layCell_3 := dk_seg dksX0_layCell_2 23 rfl rfl
theorem dksX0_layCell_4 : cX0_layCell.data.toList.drop 93 = dktX0_layCell_4 := dk_seg dksX0_layCell_3 23 rfl rfl
theorem dksX0_layCell_5 : cX0_layCell.data.toList.drop 117 = dktX0_layCell_5 := dk_seg dksX0_layCell_4 24 rfl rfl
theorem dksX0_layCell_6 : cX0_layCell.data.toList.drop 141 = dktX0_layCell_6 := dk_seg dksX0_layCell_5 24 rfl rfl
theorem dksX0_layCell_7 : cX0_layCell.data.toList.drop 165 = dktX0_layCell_7 := dk_seg dksX0_layCell_6 24 rfl rfl
theorem dksX0_layCell_8 : cX0_layCell.data.toList.drop 188 = dktX0_layCell_8 := dk_seg dksX0_layCell_7 23 rfl rfl
theorem dksX0_layCell_9 : cX0_layCell.data.toList.drop 211 = dktX0_layCell_9 := dk_seg dksX0_layCell_8 23 rfl rfl
theorem dksX0_layCell_10 : cX0_layCell.data.toList.drop 234 = dktX0_layCell_10 := dk_seg dksX0_layCell_9 23 rfl rfl
theorem dX0_layCell_0 : decode cX0_layCell 0 = .ok (.iload_n 1, 1) := dk_27 (dk_at dksX0_layCell_0 0 rfl rfl)
theorem dX0_layCell_1 : decode cX0_layCell 1 = .ok (.iload_n 2, 1) := dk_28 (dk_at dksX0_layCell_0 1 rfl rfl)
theorem dX0_layCell_2 : decode cX0_layCell 2 = .ok (.invokestatic 547, 3) := dk_184 2 35 (dk_at dksX0_layCell_0 2 rfl rfl)
theorem dX0_layCell_5 : decode cX0_layCell 5 = .ok (.istore_n 3, 1) := dk_62 (dk_at dksX0_layCell_0 5 rfl rfl)
theorem dX0_layCell_6 : decode cX0_layCell 6 = .ok (.aload_n 0, 1) := dk_42 (dk_at dksX0_layCell_0 6 rfl rfl)
theorem dX0_layCell_7 : decode cX0_layCell 7 = .ok (.getfield 537, 3) := dk_180 2 25 (dk_at dksX0_layCell_0 7 rfl rfl)
theorem dX0_layCell_10 : decode cX0_layCell 10 = .ok (.iload_n 1, 1) := dk_27 (dk_at dksX0_layCell_0 10 rfl rfl)
theorem dX0_layCell_11 : decode cX0_layCell 11 = .ok (.iadd, 1) := dk_96 (dk_at dksX0_layCell_0 11 rfl rfl)
theorem dX0_layCell_12 : decode cX0_layCell 12 = .ok (.istore 4, 2) := dk_54 4 (dk_at dksX0_layCell_0 12 rfl rfl)
theorem dX0_layCell_14 : decode cX0_layCell 14 = .ok (.iload_n 2, 1) := dk_28 (dk_at dksX0_layCell_0 14 rfl rfl)
theorem dX0_layCell_15 : decode cX0_layCell 15 = .ok (.iload_n 1, 1) := dk_27 (dk_at dksX0_layCell_0 15 rfl rfl)
theorem dX0_layCell_16 : decode cX0_layCell 16 = .ok (.iconst 1, 1) := dk_4 (dk_at dksX0_layCell_0 16 rfl rfl)
theorem dX0_layCell_17 : decode cX0_layCell 17 = .ok (.iadd, 1) := dk_96 (dk_at dksX0_layCell_0 17 rfl rfl)
theorem dX0_layCell_18 : decode cX0_layCell 18 = .ok (.if_icmp .ne 71, 3) := dk_160 0 71 (dk_at dksX0_layCell_0 18 rfl rfl)
theorem dX0_layCell_21 : decode cX0_layCell 21 = .ok (.iconst 0, 1) := dk_3 (dk_at dksX0_layCell_0 21 rfl rfl)
theorem dX0_layCell_22 : decode cX0_layCell 22 = .ok (.istore 5, 2) := dk_54 5 (dk_at dksX0_layCell_0 22 rfl rfl)
theorem dX0_layCell_24 : decode cX0_layCell 24 = .ok (.iload 5, 2) := dk_21 5 (dk_at dksX0_layCell_1 0 rfl rfl)
theorem dX0_layCell_26 : decode cX0_layCell 26 = .ok (.aload_n 0, 1) := dk_42 (dk_at dksX0_layCell_1 2 rfl rfl)
theorem dX0_layCell_27 : decode cX0_layCell 27 = .ok (.getfield 154, 3) := dk_180 0 154 (dk_at dksX0_layCell_1 3 rfl rfl)
theorem dX0_layCell_30 : decode cX0_layCell 30 = .ok (.if_icmp .ge 59, 3) := dk_162 0 59 (dk_at dksX0_layCell_1 6 rfl rfl)
theorem dX0_layCell_33 : decode cX0_layCell 33 = .ok (.aload_n 0, 1) := dk_42 (dk_at dksX0_layCell_1 9 rfl rfl)
theorem dX0_layCell_34 : decode cX0_layCell 34 = .ok (.getfield 108, 3) := dk_180 0 108 (dk_at dksX0_layCell_1 10 rfl rfl)
theorem dX0_layCell_37 : decode cX0_layCell 37 = .ok (.iload 4, 2) := dk_21 4 (dk_at dksX0_layCell_1 13 rfl rfl)
theorem dX0_layCell_39 : decode cX0_layCell 39 = .ok (.iaload, 1) := dk_46 (dk_at dksX0_layCell_1 15 rfl rfl)
theorem dX0_layCell_40 : decode cX0_layCell 40 = .ok (.ifCond .ne 43, 3) := dk_154 0 43 (dk_at dksX0_layCell_1 16 rfl rfl)
theorem dX0_layCell_43 : decode cX0_layCell 43 = .ok (.aload_n 0, 1) := dk_42 (dk_at dksX0_layCell_1 19 rfl rfl)
theorem dX0_layCell_44 : decode cX0_layCell 44 = .ok (.getfield 500, 3) := dk_180 1 244 (dk_at dksX0_layCell_1 20 rfl rfl)
theorem dX0_layCell_47 : decode cX0_layCell 47 = .ok (.iload 5, 2) := dk_21 5 (dk_at dksX0_layCell_2 0 rfl rfl)
theorem dX0_layCell_49 : decode cX0_layCell 49 = .ok (.iaload, 1) := dk_46 (dk_at dksX0_layCell_2 2 rfl rfl)
theorem dX0_layCell_50 : decode cX0_layCell 50 = .ok (.aload_n 0, 1) := dk_42 (dk_at dksX0_layCell_2 3 rfl rfl)
theorem dX0_layCell_51 : decode cX0_layCell 51 = .ok (.getfield 117, 3) := dk_180 0 117 (dk_at dksX0_layCell_2 4 rfl rfl)
theorem dX0_layCell_54 : decode cX0_layCell 54 = .ok (.iload 4, 2) := dk_21 4 (dk_at dksX0_layCell_2 7 rfl rfl)
theorem dX0_layCell_56 : decode cX0_layCell 56 = .ok (.iaload, 1) := dk_46 (dk_at dksX0_layCell_2 9 rfl rfl)
theorem dX0_layCell_57 : decode cX0_layCell 57 = .ok (.if_icmp .ne 26, 3) := dk_160 0 26 (dk_at dksX0_layCell_2 10 rfl rfl)
theorem dX0_layCell_60 : decode cX0_layCell 60 = .ok (.aload_n 0, 1) := dk_42 (dk_at dksX0_layCell_2 13 rfl rfl)
theorem dX0_layCell_61 : decode cX0_layCell 61 = .ok (.iload_n 3, 1) := dk_29 (dk_at dksX0_layCell_2 14 rfl rfl)
theorem dX0_layCell_62 : decode cX0_layCell 62 = .ok (.aload_n 0, 1) := dk_42 (dk_at dksX0_layCell_2 15 rfl rfl)
theorem dX0_layCell_63 : decode cX0_layCell 63 = .ok (.getfield 401, 3) := dk_180 1 145 (dk_at dksX0_layCell_2 16 rfl rfl)
theorem dX0_layCell_66 : decode cX0_layCell 66 = .ok (.aload_n 0, 1) := dk_42 (dk_at dksX0_layCell_2 19 rfl rfl)
theorem dX0_layCell_67 : decode cX0_layCell 67 = .ok (.getfield 503, 3) := dk_180 1 247 (dk_at dksX0_layCell_2 20 rfl rfl)
theorem dX0_layCell_70 : decode cX0_layCell 70 = .ok (.iload 5, 2) := dk_21 5 (dk_at dksX0_layCell_3 0 rfl rfl)
theorem dX0_layCell_72 : decode cX0_layCell 72 = .ok (.iaload, 1) := dk_46 (dk_at dksX0_layCell_3 2 rfl rfl)
theorem dX0_layCell_73 : decode cX0_layCell 73 = .ok (.iaload, 1) := dk_46 (dk_at dksX0_layCell_3 3 rfl rfl)
theorem dX0_layCell_74 : decode cX0_layCell 74 = .ok (.iconst 0, 1) := dk_3 (dk_at dksX0_layCell_3 4 rfl rfl)
theorem dX0_layCell_75 : decode cX0_layCell 75 = .ok (.iconst (-1), 1) := dk_2 (dk_at dksX0_layCell_3 5 rfl rfl)
theorem dX0_layCell_76 : decode cX0_layCell 76 = .ok (.iload 5, 2) := dk_21 5 (dk_at dksX0_layCell_3 6 rfl rfl)
theorem dX0_layCell_78 : decode cX0_layCell 78 = .ok (.isub, 1) := dk_100 (dk_at dksX0_layCell_3 8 rfl rfl)
theorem dX0_layCell_79 : decode cX0_layCell 79 = .ok (.iconst 0, 1) := dk_3 (dk_at dksX0_layCell_3 9 rfl rfl)
theorem dX0_layCell_80 : decode cX0_layCell 80 = .ok (.invokevirtual 533, 3) := dk_182 2 21 (dk_at dksX0_layCell_3 10 rfl rfl)
theorem dX0_layCell_83 : decode cX0_layCell 83 = .ok (.iinc 5 1, 3) := dk_132 5 1 (dk_at dksX0_layCell_3 13 rfl rfl)
theorem dX0_layCell_86 : decode cX0_layCell 86 = .ok (.goto (-62), 3) := dk_167 255 194 (dk_at dksX0_layCell_3 16 rfl rfl)
theorem dX0_layCell_89 : decode cX0_layCell 89 = .ok (.aload_n 0, 1) := dk_42 (dk_at dksX0_layCell_3 19 rfl rfl)
theorem dX0_layCell_90 : decode cX0_layCell 90 = .ok (.getfield 108, 3) := dk_180 0 108 (dk_at dksX0_layCell_3 20 rfl rfl)
theorem dX0_layCell_93 : decode cX0_layCell 93 = .ok (.iload 4, 2) := dk_21 4 (dk_at dksX0_layCell_4 0 rfl rfl)
theorem dX0_layCell_95 : decode cX0_layCell 95 = .ok (.iaload, 1) := dk_46 (dk_at dksX0_layCell_4 2 rfl rfl)
theorem dX0_layCell_96 : decode cX0_layCell 96 = .ok (.iconst 1, 1) := dk_4 (dk_at dksX0_layCell_4 3 rfl rfl)
theorem dX0_layCell_97 : decode cX0_layCell 97 = .ok (.if_icmp .ne 24, 3) := dk_160 0 24 (dk_at dksX0_layCell_4 4 rfl rfl)
theorem dX0_layCell_100 : decode cX0_layCell 100 = .ok (.aload_n 0, 1) := dk_42 (dk_at dksX0_layCell_4 7 rfl rfl)
theorem dX0_layCell_101 : decode cX0_layCell 101 = .ok (.getfield 27, 3) := dk_180 0 27 (dk_at dksX0_layCell_4 8 rfl rfl)
theorem dX0_layCell_104 : decode cX0_layCell 104 = .ok (.aload_n 0, 1) := dk_42 (dk_at dksX0_layCell_4 11 rfl rfl)
theorem dX0_layCell_105 : decode cX0_layCell 105 = .ok (.getfield 111, 3) := dk_180 0 111 (dk_at dksX0_layCell_4 12 rfl rfl)
theorem dX0_layCell_108 : decode cX0_layCell 108 = .ok (.iload 4, 2) := dk_21 4 (dk_at dksX0_layCell_4 15 rfl rfl)
theorem dX0_layCell_110 : decode cX0_layCell 110 = .ok (.iaload, 1) := dk_46 (dk_at dksX0_layCell_4 17 rfl rfl)
theorem dX0_layCell_111 : decode cX0_layCell 111 = .ok (.baload, 1) := dk_51 (dk_at dksX0_layCell_4 18 rfl rfl)
theorem dX0_layCell_112 : decode cX0_layCell 112 = .ok (.bipush 40, 2) := dk_16 40 (dk_at dksX0_layCell_4 19 rfl rfl)
theorem dX0_layCell_114 : decode cX0_layCell 114 = .ok (.if_icmp .ne 7, 3) := dk_160 0 7 (dk_at dksX0_layCell_4 21 rfl rfl)
theorem dX0_layCell_117 : decode cX0_layCell 117 = .ok (.iconst 1, 1) := dk_4 (dk_at dksX0_layCell_5 0 rfl rfl)
theorem dX0_layCell_118 : decode cX0_layCell 118 = .ok (.goto 4, 3) := dk_167 0 4 (dk_at dksX0_layCell_5 1 rfl rfl)
theorem dX0_layCell_121 : decode cX0_layCell 121 = .ok (.iconst 0, 1) := dk_3 (dk_at dksX0_layCell_5 4 rfl rfl)
theorem dX0_layCell_122 : decode cX0_layCell 122 = .ok (.istore 5, 2) := dk_54 5 (dk_at dksX0_layCell_5 5 rfl rfl)
theorem dX0_layCell_124 : decode cX0_layCell 124 = .ok (.aload_n 0, 1) := dk_42 (dk_at dksX0_layCell_5 7 rfl rfl)
theorem dX0_layCell_125 : decode cX0_layCell 125 = .ok (.getfield 537, 3) := dk_180 2 25 (dk_at dksX0_layCell_5 8 rfl rfl)
theorem dX0_layCell_128 : decode cX0_layCell 128 = .ok (.iload_n 2, 1) := dk_28 (dk_at dksX0_layCell_5 11 rfl rfl)
theorem dX0_layCell_129 : decode cX0_layCell 129 = .ok (.iadd, 1) := dk_96 (dk_at dksX0_layCell_5 12 rfl rfl)
theorem dX0_layCell_130 : decode cX0_layCell 130 = .ok (.iconst 1, 1) := dk_4 (dk_at dksX0_layCell_5 13 rfl rfl)
theorem dX0_layCell_131 : decode cX0_layCell 131 = .ok (.isub, 1) := dk_100 (dk_at dksX0_layCell_5 14 rfl rfl)
theorem dX0_layCell_132 : decode cX0_layCell 132 = .ok (.istore 6, 2) := dk_54 6 (dk_at dksX0_layCell_5 15 rfl rfl)
theorem dX0_layCell_134 : decode cX0_layCell 134 = .ok (.iload_n 2, 1) := dk_28 (dk_at dksX0_layCell_5 17 rfl rfl)
theorem dX0_layCell_135 : decode cX0_layCell 135 = .ok (.iload_n 1, 1) := dk_27 (dk_at dksX0_layCell_5 18 rfl rfl)
theorem dX0_layCell_136 : decode cX0_layCell 136 = .ok (.isub, 1) := dk_100 (dk_at dksX0_layCell_5 19 rfl rfl)
theorem dX0_layCell_137 : decode cX0_layCell 137 = .ok (.iconst 2, 1) := dk_5 (dk_at dksX0_layCell_5 20 rfl rfl)
theorem dX0_layCell_138 : decode cX0_layCell 138 = .ok (.if_icmp .le 78, 3) := dk_164 0 78 (dk_at dksX0_layCell_5 21 rfl rfl)
theorem dX0_layCell_141 : decode cX0_layCell 141 = .ok (.iload 5, 2) := dk_21 5 (dk_at dksX0_layCell_6 0 rfl rfl)
theorem dX0_layCell_143 : decode cX0_layCell 143 = .ok (.ifCond .eq 73, 3) := dk_153 0 73 (dk_at dksX0_layCell_6 2 rfl rfl)
theorem dX0_layCell_146 : decode cX0_layCell 146 = .ok (.aload_n 0, 1) := dk_42 (dk_at dksX0_layCell_6 5 rfl rfl)
theorem dX0_layCell_147 : decode cX0_layCell 147 = .ok (.getfield 108, 3) := dk_180 0 108 (dk_at dksX0_layCell_6 6 rfl rfl)
theorem dX0_layCell_150 : decode cX0_layCell 150 = .ok (.iload 6, 2) := dk_21 6 (dk_at dksX0_layCell_6 9 rfl rfl)
theorem dX0_layCell_152 : decode cX0_layCell 152 = .ok (.iaload, 1) := dk_46 (dk_at dksX0_layCell_6 11 rfl rfl)
theorem dX0_layCell_153 : decode cX0_layCell 153 = .ok (.iconst 1, 1) := dk_4 (dk_at dksX0_layCell_6 12 rfl rfl)
theorem dX0_layCell_154 : decode cX0_layCell 154 = .ok (.if_icmp .ne 62, 3) := dk_160 0 62 (dk_at dksX0_layCell_6 13 rfl rfl)
theorem dX0_layCell_157 : decode cX0_layCell 157 = .ok (.aload_n 0, 1) := dk_42 (dk_at dksX0_layCell_6 16 rfl rfl)
theorem dX0_layCell_158 : decode cX0_layCell 158 = .ok (.getfield 27, 3) := dk_180 0 27 (dk_at dksX0_layCell_6 17 rfl rfl)
theorem dX0_layCell_161 : decode cX0_layCell 161 = .ok (.aload_n 0, 1) := dk_42 (dk_at dksX0_layCell_6 20 rfl rfl)
theorem dX0_layCell_162 : decode cX0_layCell 162 = .ok (.getfield 111, 3) := dk_180 0 111 (dk_at dksX0_layCell_6 21 rfl rfl)
theorem dX0_layCell_165 : decode cX0_layCell 165 = .ok (.iload 6, 2) := dk_21 6 (dk_at dksX0_layCell_7 0 rfl rfl)
theorem dX0_layCell_167 : decode cX0_layCell 167 = .ok (.iaload, 1) := dk_46 (dk_at dksX0_layCell_7 2 rfl rfl)
theorem dX0_layCell_168 : decode cX0_layCell 168 = .ok (.baload, 1) := dk_51 (dk_at dksX0_layCell_7 3 rfl rfl)
theorem dX0_layCell_169 : decode cX0_layCell 169 = .ok (.bipush 41, 2) := dk_16 41 (dk_at dksX0_layCell_7 4 rfl rfl)
theorem dX0_layCell_171 : decode cX0_layCell 171 = .ok (.if_icmp .ne 45, 3) := dk_160 0 45 (dk_at dksX0_layCell_7 6 rfl rfl)
theorem dX0_layCell_174 : decode cX0_layCell 174 = .ok (.aload_n 0, 1) := dk_42 (dk_at dksX0_layCell_7 9 rfl rfl)
theorem dX0_layCell_175 : decode cX0_layCell 175 = .ok (.getfield 506, 3) := dk_180 1 250 (dk_at dksX0_layCell_7 10 rfl rfl)
theorem dX0_layCell_178 : decode cX0_layCell 178 = .ok (.iload_n 1, 1) := dk_27 (dk_at dksX0_layCell_7 13 rfl rfl)
theorem dX0_layCell_179 : decode cX0_layCell 179 = .ok (.iconst 1, 1) := dk_4 (dk_at dksX0_layCell_7 14 rfl rfl)
theorem dX0_layCell_180 : decode cX0_layCell 180 = .ok (.iadd, 1) := dk_96 (dk_at dksX0_layCell_7 15 rfl rfl)
theorem dX0_layCell_181 : decode cX0_layCell 181 = .ok (.iload_n 2, 1) := dk_28 (dk_at dksX0_layCell_7 16 rfl rfl)
theorem dX0_layCell_182 : decode cX0_layCell 182 = .ok (.iconst 1, 1) := dk_4 (dk_at dksX0_layCell_7 17 rfl rfl)
theorem dX0_layCell_183 : decode cX0_layCell 183 = .ok (.isub, 1) := dk_100 (dk_at dksX0_layCell_7 18 rfl rfl)
theorem dX0_layCell_184 : decode cX0_layCell 184 = .ok (.invokestatic 547, 3) := dk_184 2 35 (dk_at dksX0_layCell_7 19 rfl rfl)
theorem dX0_layCell_187 : decode cX0_layCell 187 = .ok (.iaload, 1) := dk_46 (dk_at dksX0_layCell_7 22 rfl rfl)
theorem dX0_layCell_188 : decode cX0_layCell 188 = .ok (.istore 7, 2) := dk_54 7 (dk_at dksX0_layCell_8 0 rfl rfl)
theorem dX0_layCell_190 : decode cX0_layCell 190 = .ok (.iload 7, 2) := dk_21 7 (dk_at dksX0_layCell_8 2 rfl rfl)
theorem dX0_layCell_192 : decode cX0_layCell 192 = .ok (.bipush (-2), 2) := dk_16 254 (dk_at dksX0_layCell_8 4 rfl rfl)
theorem dX0_layCell_194 : decode cX0_layCell 194 = .ok (.if_icmp .eq 22, 3) := dk_159 0 22 (dk_at dksX0_layCell_8 6 rfl rfl)
theorem dX0_layCell_197 : decode cX0_layCell 197 = .ok (.aload_n 0, 1) := dk_42 (dk_at dksX0_layCell_8 9 rfl rfl)
theorem dX0_layCell_198 : decode cX0_layCell 198 = .ok (.iload_n 3, 1) := dk_29 (dk_at dksX0_layCell_8 10 rfl rfl)
theorem dX0_layCell_199 : decode cX0_layCell 199 = .ok (.iload 7, 2) := dk_21 7 (dk_at dksX0_layCell_8 11 rfl rfl)
theorem dX0_layCell_201 : decode cX0_layCell 201 = .ok (.invokevirtual 556, 3) := dk_182 2 44 (dk_at dksX0_layCell_8 13 rfl rfl)
theorem dX0_layCell_204 : decode cX0_layCell 204 = .ok (.aload_n 0, 1) := dk_42 (dk_at dksX0_layCell_8 16 rfl rfl)
theorem dX0_layCell_205 : decode cX0_layCell 205 = .ok (.getfield 515, 3) := dk_180 2 3 (dk_at dksX0_layCell_8 17 rfl rfl)
theorem dX0_layCell_208 : decode cX0_layCell 208 = .ok (.iload 7, 2) := dk_21 7 (dk_at dksX0_layCell_8 20 rfl rfl)
theorem dX0_layCell_210 : decode cX0_layCell 210 = .ok (.iaload, 1) := dk_46 (dk_at dksX0_layCell_8 22 rfl rfl)
theorem dX0_layCell_211 : decode cX0_layCell 211 = .ok (.istore 7, 2) := dk_54 7 (dk_at dksX0_layCell_9 0 rfl rfl)
theorem dX0_layCell_213 : decode cX0_layCell 213 = .ok (.goto (-23), 3) := dk_167 255 233 (dk_at dksX0_layCell_9 2 rfl rfl)
theorem dX0_layCell_216 : decode cX0_layCell 216 = .ok (.iconst 0, 1) := dk_3 (dk_at dksX0_layCell_9 5 rfl rfl)
theorem dX0_layCell_217 : decode cX0_layCell 217 = .ok (.istore 7, 2) := dk_54 7 (dk_at dksX0_layCell_9 6 rfl rfl)
theorem dX0_layCell_219 : decode cX0_layCell 219 = .ok (.iload 7, 2) := dk_21 7 (dk_at dksX0_layCell_9 8 rfl rfl)
theorem dX0_layCell_221 : decode cX0_layCell 221 = .ok (.aload_n 0, 1) := dk_42 (dk_at dksX0_layCell_9 10 rfl rfl)
theorem dX0_layCell_222 : decode cX0_layCell 222 = .ok (.getfield 166, 3) := dk_180 0 166 (dk_at dksX0_layCell_9 11 rfl rfl)
theorem dX0_layCell_225 : decode cX0_layCell 225 = .ok (.if_icmp .ge 25, 3) := dk_162 0 25 (dk_at dksX0_layCell_9 14 rfl rfl)
theorem dX0_layCell_228 : decode cX0_layCell 228 = .ok (.aload_n 0, 1) := dk_42 (dk_at dksX0_layCell_9 17 rfl rfl)
theorem dX0_layCell_229 : decode cX0_layCell 229 = .ok (.iconst 0, 1) := dk_3 (dk_at dksX0_layCell_9 18 rfl rfl)
theorem dX0_layCell_230 : decode cX0_layCell 230 = .ok (.putfield 530, 3) := dk_181 2 18 (dk_at dksX0_layCell_9 19 rfl rfl)
theorem dX0_layCell_233 : decode cX0_layCell 233 = .ok (.aload_n 0, 1) := dk_42 (dk_at dksX0_layCell_9 22 rfl rfl)
theorem dX0_layCell_234 : decode cX0_layCell 234 = .ok (.iload 7, 2) := dk_21 7 (dk_at dksX0_layCell_10 0 rfl rfl)
theorem dX0_layCell_236 : decode cX0_layCell 236 = .ok (.iconst 0, 1) := dk_3 (dk_at dksX0_layCell_10 2 rfl rfl)
theorem dX0_layCell_237 : decode cX0_layCell 237 = .ok (.iconst 0, 1) := dk_3 (dk_at dksX0_layCell_10 3 rfl rfl)
theorem dX0_layCell_238 : decode cX0_layCell 238 = .ok (.iload_n 1, 1) := dk_27 (dk_at dksX0_layCell_10 4 rfl rfl)
theorem dX0_layCell_239 : decode cX0_layCell 239 = .ok (.iload_n 2, 1) := dk_28 (dk_at dksX0_layCell_10 5 rfl rfl)
theorem dX0_layCell_240 : decode cX0_layCell 240 = .ok (.iload_n 3, 1) := dk_29 (dk_at dksX0_layCell_10 6 rfl rfl)
theorem dX0_layCell_241 : decode cX0_layCell 241 = .ok (.invokevirtual 540, 3) := dk_182 2 28 (dk_at dksX0_layCell_10 7 rfl rfl)
theorem dX0_layCell_244 : decode cX0_layCell 244 = .ok (.iinc 7 1, 3) := dk_132 7 1 (dk_at dksX0_layCell_10 10 rfl rfl)
theorem dX0_layCell_247 : decode cX0_layCell 247 = .ok (.goto (-28), 3) := dk_167 255 228 (dk_at dksX0_layCell_10 13 rfl rfl)
theorem dX0_layCell_250 : decode cX0_layCell 250 = .ok (.return_, 1) := dk_177 (dk_at dksX0_layCell_10 16 rfl rfl)
abbrev cX0_cellOf : ByteArray := prog_1_method_62_code
def yX0_cellOf : MethodName := ⟨RX0, "cellOf", "(II)I"⟩
def dkwX0_cellOf_0 : List UInt8 := [26, 16, 33, 104, 27, 96, 172]
abbrev dktX0_cellOf_0 : List UInt8 := dkwX0_cellOf_0 ++ []
theorem dksX0_cellOf_0 : cX0_cellOf.data.toList.drop 0 = dktX0_cellOf_0 := by decide +kernel
theorem dX0_cellOf_0 : decode cX0_cellOf 0 = .ok (.iload_n 0, 1) := dk_26 (dk_at dksX0_cellOf_0 0 rfl rfl)
theorem dX0_cellOf_1 : decode cX0_cellOf 1 = .ok (.bipush 33, 2) := dk_16 33 (dk_at dksX0_cellOf_0 1 rfl rfl)
theorem dX0_cellOf_3 : decode cX0_cellOf 3 = .ok (.imul, 1) := dk_104 (dk_at dksX0_cellOf_0 3 rfl rfl)
theorem dX0_cellOf_4 : decode cX0_cellOf 4 = .ok (.iload_n 1, 1) := dk_27 (dk_at dksX0_cellOf_0 4 rfl rfl)
theorem dX0_cellOf_5 : decode cX0_cellOf 5 = .ok (.iadd, 1) := dk_96 (dk_at dksX0_cellOf_0 5 rfl rfl)
theorem dX0_cellOf_6 : decode cX0_cellOf 6 = .ok (.ireturn, 1) := dk_172 (dk_at dksX0_cellOf_0 6 rfl rfl)
abbrev cX0_addReading : ByteArray := prog_1_method_61_code
def yX0_addReading : MethodName := ⟨RX0, "addReading", "(IIIII)V"⟩
def dkwX0_addReading_6 : List UInt8 := [42, 180, 2, 3, 21, 7, 42, 180, 1, 250, 27, 46, 79, 42, 180, 1, 250, 27, 21, 7, 79, 177]
abbrev dktX0_addReading_6 : List UInt8 := dkwX0_addReading_6 ++ []
def dkwX0_addReading_5 : List UInt8 := [180, 2, 12, 6, 21, 7, 104, 21, 8, 96, 42, 180, 2, 15, 21, 8, 46, 79, 132, 8, 1, 167, 255, 227]
abbrev dktX0_addReading_5 : List UInt8 := dkwX0_addReading_5 ++ dktX0_addReading_6
def dkwX0_addReading_4 : List UInt8 := [21, 7, 29, 79, 42, 180, 2, 9, 21, 7, 21, 4, 79, 3, 54, 8, 21, 8, 21, 5, 162, 0, 28, 42]
abbrev dktX0_addReading_4 : List UInt8 := dkwX0_addReading_4 ++ dktX0_addReading_5
def dkwX0_addReading_3 : List UInt8 := [180, 2, 6, 90, 4, 96, 181, 2, 6, 54, 7, 42, 180, 1, 253, 21, 7, 28, 79, 42, 180, 2, 0]
abbrev dktX0_addReading_3 : List UInt8 := dkwX0_addReading_3 ++ dktX0_addReading_4
def dkwX0_addReading_2 : List UInt8 := [54, 6, 42, 180, 2, 3, 21, 7, 46, 54, 7, 167, 255, 208, 21, 6, 4, 164, 0, 4, 177, 42, 89]
abbrev dktX0_addReading_2 : List UInt8 := dkwX0_addReading_2 ++ dktX0_addReading_3
def dkwX0_addReading_1 : List UInt8 := [21, 7, 46, 28, 160, 0, 18, 42, 180, 2, 0, 21, 7, 46, 29, 160, 0, 7, 4, 167, 0, 4, 3, 96]
abbrev dktX0_addReading_1 : List UInt8 := dkwX0_addReading_1 ++ dktX0_addReading_2
def dkwX0_addReading_0 : List UInt8 := [3, 54, 6, 42, 180, 1, 250, 27, 46, 54, 7, 21, 7, 16, 254, 159, 0, 47, 21, 6, 42, 180, 1, 253]
abbrev dktX0_addReading_0 : List UInt8 := dkwX0_addReading_0 ++ dktX0_addReading_1
theorem dksX0_addReading_0 : cX0_addReading.data.toList.drop 0 = dktX0_addReading_0 := by decide +kernel
theorem dksX0_addReading_1 : cX0_addReading.data.toList.drop 24 = dktX0_addReading_1 := dk_seg dksX0_addReading_0 24 rfl rfl
theorem dksX0_addReading_2 : cX0_addReading.data.toList.drop 48 = dktX0_addReading_2 := dk_seg dksX0_addReading_1 24 rfl rfl
theorem dksX0_addReading_3 : cX0_addReading.data.toList.drop 71 = dktX0_addReading_3 := dk_seg dksX0_addReading_2 23 rfl rfl
theorem dksX0_addReading_4 : cX0_addReading.data.toList.drop 94 = dktX0_addReading_4 := dk_seg dksX0_addReading_3 23 rfl rfl
theorem dksX0_addReading_5 : cX0_addReading.data.toList.drop 118 = dktX0_addReading_5 := dk_seg dksX0_addReading_4 24 rfl rfl
theorem dksX0_addReading_6 : cX0_addReading.data.toList.drop 142 = dktX0_addReading_6 := dk_seg dksX0_addReading_5 24 rfl rfl
theorem dX0_addReading_0 : decode cX0_addReading 0 = .ok (.iconst 0, 1) := dk_3 (dk_at dksX0_addReading_0 0 rfl rfl)
theorem dX0_addReading_1 : decode cX0_addReading 1 = .ok (.istore 6, 2) := dk_54 6 (dk_at dksX0_addReading_0 1 rfl rfl)
theorem dX0_addReading_3 : decode cX0_addReading 3 = .ok (.aload_n 0, 1) := dk_42 (dk_at dksX0_addReading_0 3 rfl rfl)
theorem dX0_addReading_4 : decode cX0_addReading 4 = .ok (.getfield 506, 3) := dk_180 1 250 (dk_at dksX0_addReading_0 4 rfl rfl)
theorem dX0_addReading_7 : decode cX0_addReading 7 = .ok (.iload_n 1, 1) := dk_27 (dk_at dksX0_addReading_0 7 rfl rfl)
theorem dX0_addReading_8 : decode cX0_addReading 8 = .ok (.iaload, 1) := dk_46 (dk_at dksX0_addReading_0 8 rfl rfl)
theorem dX0_addReading_9 : decode cX0_addReading 9 = .ok (.istore 7, 2) := dk_54 7 (dk_at dksX0_addReading_0 9 rfl rfl)
theorem dX0_addReading_11 : decode cX0_addReading 11 = .ok (.iload 7, 2) := dk_21 7 (dk_at dksX0_addReading_0 11 rfl rfl)
theorem dX0_addReading_13 : decode cX0_addReading 13 = .ok (.bipush (-2), 2) := dk_16 254 (dk_at dksX0_addReading_0 13 rfl rfl)
theorem dX0_addReading_15 : decode cX0_addReading 15 = .ok (.if_icmp .eq 47, 3) := dk_159 0 47 (dk_at dksX0_addReading_0 15 rfl rfl)
theorem dX0_addReading_18 : decode cX0_addReading 18 = .ok (.iload 6, 2) := dk_21 6 (dk_at dksX0_addReading_0 18 rfl rfl)
theorem dX0_addReading_20 : decode cX0_addReading 20 = .ok (.aload_n 0, 1) := dk_42 (dk_at dksX0_addReading_0 20 rfl rfl)
theorem dX0_addReading_21 : decode cX0_addReading 21 = .ok (.getfield 509, 3) := dk_180 1 253 (dk_at dksX0_addReading_0 21 rfl rfl)
theorem dX0_addReading_24 : decode cX0_addReading 24 = .ok (.iload 7, 2) := dk_21 7 (dk_at dksX0_addReading_1 0 rfl rfl)
theorem dX0_addReading_26 : decode cX0_addReading 26 = .ok (.iaload, 1) := dk_46 (dk_at dksX0_addReading_1 2 rfl rfl)
theorem dX0_addReading_27 : decode cX0_addReading 27 = .ok (.iload_n 2, 1) := dk_28 (dk_at dksX0_addReading_1 3 rfl rfl)
theorem dX0_addReading_28 : decode cX0_addReading 28 = .ok (.if_icmp .ne 18, 3) := dk_160 0 18 (dk_at dksX0_addReading_1 4 rfl rfl)
theorem dX0_addReading_31 : decode cX0_addReading 31 = .ok (.aload_n 0, 1) := dk_42 (dk_at dksX0_addReading_1 7 rfl rfl)
theorem dX0_addReading_32 : decode cX0_addReading 32 = .ok (.getfield 512, 3) := dk_180 2 0 (dk_at dksX0_addReading_1 8 rfl rfl)
theorem dX0_addReading_35 : decode cX0_addReading 35 = .ok (.iload 7, 2) := dk_21 7 (dk_at dksX0_addReading_1 11 rfl rfl)
theorem dX0_addReading_37 : decode cX0_addReading 37 = .ok (.iaload, 1) := dk_46 (dk_at dksX0_addReading_1 13 rfl rfl)
theorem dX0_addReading_38 : decode cX0_addReading 38 = .ok (.iload_n 3, 1) := dk_29 (dk_at dksX0_addReading_1 14 rfl rfl)
theorem dX0_addReading_39 : decode cX0_addReading 39 = .ok (.if_icmp .ne 7, 3) := dk_160 0 7 (dk_at dksX0_addReading_1 15 rfl rfl)
theorem dX0_addReading_42 : decode cX0_addReading 42 = .ok (.iconst 1, 1) := dk_4 (dk_at dksX0_addReading_1 18 rfl rfl)
theorem dX0_addReading_43 : decode cX0_addReading 43 = .ok (.goto 4, 3) := dk_167 0 4 (dk_at dksX0_addReading_1 19 rfl rfl)
theorem dX0_addReading_46 : decode cX0_addReading 46 = .ok (.iconst 0, 1) := dk_3 (dk_at dksX0_addReading_1 22 rfl rfl)
theorem dX0_addReading_47 : decode cX0_addReading 47 = .ok (.iadd, 1) := dk_96 (dk_at dksX0_addReading_1 23 rfl rfl)
theorem dX0_addReading_48 : decode cX0_addReading 48 = .ok (.istore 6, 2) := dk_54 6 (dk_at dksX0_addReading_2 0 rfl rfl)
theorem dX0_addReading_50 : decode cX0_addReading 50 = .ok (.aload_n 0, 1) := dk_42 (dk_at dksX0_addReading_2 2 rfl rfl)
theorem dX0_addReading_51 : decode cX0_addReading 51 = .ok (.getfield 515, 3) := dk_180 2 3 (dk_at dksX0_addReading_2 3 rfl rfl)
theorem dX0_addReading_54 : decode cX0_addReading 54 = .ok (.iload 7, 2) := dk_21 7 (dk_at dksX0_addReading_2 6 rfl rfl)
theorem dX0_addReading_56 : decode cX0_addReading 56 = .ok (.iaload, 1) := dk_46 (dk_at dksX0_addReading_2 8 rfl rfl)
theorem dX0_addReading_57 : decode cX0_addReading 57 = .ok (.istore 7, 2) := dk_54 7 (dk_at dksX0_addReading_2 9 rfl rfl)
theorem dX0_addReading_59 : decode cX0_addReading 59 = .ok (.goto (-48), 3) := dk_167 255 208 (dk_at dksX0_addReading_2 11 rfl rfl)
theorem dX0_addReading_62 : decode cX0_addReading 62 = .ok (.iload 6, 2) := dk_21 6 (dk_at dksX0_addReading_2 14 rfl rfl)
theorem dX0_addReading_64 : decode cX0_addReading 64 = .ok (.iconst 1, 1) := dk_4 (dk_at dksX0_addReading_2 16 rfl rfl)
theorem dX0_addReading_65 : decode cX0_addReading 65 = .ok (.if_icmp .le 4, 3) := dk_164 0 4 (dk_at dksX0_addReading_2 17 rfl rfl)
theorem dX0_addReading_68 : decode cX0_addReading 68 = .ok (.return_, 1) := dk_177 (dk_at dksX0_addReading_2 20 rfl rfl)
theorem dX0_addReading_69 : decode cX0_addReading 69 = .ok (.aload_n 0, 1) := dk_42 (dk_at dksX0_addReading_2 21 rfl rfl)
theorem dX0_addReading_70 : decode cX0_addReading 70 = .ok (.dup, 1) := dk_89 (dk_at dksX0_addReading_2 22 rfl rfl)
theorem dX0_addReading_71 : decode cX0_addReading 71 = .ok (.getfield 518, 3) := dk_180 2 6 (dk_at dksX0_addReading_3 0 rfl rfl)
theorem dX0_addReading_74 : decode cX0_addReading 74 = .ok (.dup_x1, 1) := dk_90 (dk_at dksX0_addReading_3 3 rfl rfl)
theorem dX0_addReading_75 : decode cX0_addReading 75 = .ok (.iconst 1, 1) := dk_4 (dk_at dksX0_addReading_3 4 rfl rfl)
theorem dX0_addReading_76 : decode cX0_addReading 76 = .ok (.iadd, 1) := dk_96 (dk_at dksX0_addReading_3 5 rfl rfl)
theorem dX0_addReading_77 : decode cX0_addReading 77 = .ok (.putfield 518, 3) := dk_181 2 6 (dk_at dksX0_addReading_3 6 rfl rfl)
theorem dX0_addReading_80 : decode cX0_addReading 80 = .ok (.istore 7, 2) := dk_54 7 (dk_at dksX0_addReading_3 9 rfl rfl)
theorem dX0_addReading_82 : decode cX0_addReading 82 = .ok (.aload_n 0, 1) := dk_42 (dk_at dksX0_addReading_3 11 rfl rfl)
theorem dX0_addReading_83 : decode cX0_addReading 83 = .ok (.getfield 509, 3) := dk_180 1 253 (dk_at dksX0_addReading_3 12 rfl rfl)
theorem dX0_addReading_86 : decode cX0_addReading 86 = .ok (.iload 7, 2) := dk_21 7 (dk_at dksX0_addReading_3 15 rfl rfl)
theorem dX0_addReading_88 : decode cX0_addReading 88 = .ok (.iload_n 2, 1) := dk_28 (dk_at dksX0_addReading_3 17 rfl rfl)
theorem dX0_addReading_89 : decode cX0_addReading 89 = .ok (.iastore, 1) := dk_79 (dk_at dksX0_addReading_3 18 rfl rfl)
theorem dX0_addReading_90 : decode cX0_addReading 90 = .ok (.aload_n 0, 1) := dk_42 (dk_at dksX0_addReading_3 19 rfl rfl)
theorem dX0_addReading_91 : decode cX0_addReading 91 = .ok (.getfield 512, 3) := dk_180 2 0 (dk_at dksX0_addReading_3 20 rfl rfl)
theorem dX0_addReading_94 : decode cX0_addReading 94 = .ok (.iload 7, 2) := dk_21 7 (dk_at dksX0_addReading_4 0 rfl rfl)
theorem dX0_addReading_96 : decode cX0_addReading 96 = .ok (.iload_n 3, 1) := dk_29 (dk_at dksX0_addReading_4 2 rfl rfl)
theorem dX0_addReading_97 : decode cX0_addReading 97 = .ok (.iastore, 1) := dk_79 (dk_at dksX0_addReading_4 3 rfl rfl)
theorem dX0_addReading_98 : decode cX0_addReading 98 = .ok (.aload_n 0, 1) := dk_42 (dk_at dksX0_addReading_4 4 rfl rfl)
theorem dX0_addReading_99 : decode cX0_addReading 99 = .ok (.getfield 521, 3) := dk_180 2 9 (dk_at dksX0_addReading_4 5 rfl rfl)
theorem dX0_addReading_102 : decode cX0_addReading 102 = .ok (.iload 7, 2) := dk_21 7 (dk_at dksX0_addReading_4 8 rfl rfl)
theorem dX0_addReading_104 : decode cX0_addReading 104 = .ok (.iload 4, 2) := dk_21 4 (dk_at dksX0_addReading_4 10 rfl rfl)
theorem dX0_addReading_106 : decode cX0_addReading 106 = .ok (.iastore, 1) := dk_79 (dk_at dksX0_addReading_4 12 rfl rfl)
theorem dX0_addReading_107 : decode cX0_addReading 107 = .ok (.iconst 0, 1) := dk_3 (dk_at dksX0_addReading_4 13 rfl rfl)
theorem dX0_addReading_108 : decode cX0_addReading 108 = .ok (.istore 8, 2) := dk_54 8 (dk_at dksX0_addReading_4 14 rfl rfl)
theorem dX0_addReading_110 : decode cX0_addReading 110 = .ok (.iload 8, 2) := dk_21 8 (dk_at dksX0_addReading_4 16 rfl rfl)
theorem dX0_addReading_112 : decode cX0_addReading 112 = .ok (.iload 5, 2) := dk_21 5 (dk_at dksX0_addReading_4 18 rfl rfl)
theorem dX0_addReading_114 : decode cX0_addReading 114 = .ok (.if_icmp .ge 28, 3) := dk_162 0 28 (dk_at dksX0_addReading_4 20 rfl rfl)
theorem dX0_addReading_117 : decode cX0_addReading 117 = .ok (.aload_n 0, 1) := dk_42 (dk_at dksX0_addReading_4 23 rfl rfl)
theorem dX0_addReading_118 : decode cX0_addReading 118 = .ok (.getfield 524, 3) := dk_180 2 12 (dk_at dksX0_addReading_5 0 rfl rfl)
theorem dX0_addReading_121 : decode cX0_addReading 121 = .ok (.iconst 3, 1) := dk_6 (dk_at dksX0_addReading_5 3 rfl rfl)
theorem dX0_addReading_122 : decode cX0_addReading 122 = .ok (.iload 7, 2) := dk_21 7 (dk_at dksX0_addReading_5 4 rfl rfl)
theorem dX0_addReading_124 : decode cX0_addReading 124 = .ok (.imul, 1) := dk_104 (dk_at dksX0_addReading_5 6 rfl rfl)
theorem dX0_addReading_125 : decode cX0_addReading 125 = .ok (.iload 8, 2) := dk_21 8 (dk_at dksX0_addReading_5 7 rfl rfl)
theorem dX0_addReading_127 : decode cX0_addReading 127 = .ok (.iadd, 1) := dk_96 (dk_at dksX0_addReading_5 9 rfl rfl)
theorem dX0_addReading_128 : decode cX0_addReading 128 = .ok (.aload_n 0, 1) := dk_42 (dk_at dksX0_addReading_5 10 rfl rfl)
theorem dX0_addReading_129 : decode cX0_addReading 129 = .ok (.getfield 527, 3) := dk_180 2 15 (dk_at dksX0_addReading_5 11 rfl rfl)
theorem dX0_addReading_132 : decode cX0_addReading 132 = .ok (.iload 8, 2) := dk_21 8 (dk_at dksX0_addReading_5 14 rfl rfl)
theorem dX0_addReading_134 : decode cX0_addReading 134 = .ok (.iaload, 1) := dk_46 (dk_at dksX0_addReading_5 16 rfl rfl)
theorem dX0_addReading_135 : decode cX0_addReading 135 = .ok (.iastore, 1) := dk_79 (dk_at dksX0_addReading_5 17 rfl rfl)
theorem dX0_addReading_136 : decode cX0_addReading 136 = .ok (.iinc 8 1, 3) := dk_132 8 1 (dk_at dksX0_addReading_5 18 rfl rfl)
theorem dX0_addReading_139 : decode cX0_addReading 139 = .ok (.goto (-29), 3) := dk_167 255 227 (dk_at dksX0_addReading_5 21 rfl rfl)
theorem dX0_addReading_142 : decode cX0_addReading 142 = .ok (.aload_n 0, 1) := dk_42 (dk_at dksX0_addReading_6 0 rfl rfl)
theorem dX0_addReading_143 : decode cX0_addReading 143 = .ok (.getfield 515, 3) := dk_180 2 3 (dk_at dksX0_addReading_6 1 rfl rfl)
theorem dX0_addReading_146 : decode cX0_addReading 146 = .ok (.iload 7, 2) := dk_21 7 (dk_at dksX0_addReading_6 4 rfl rfl)
theorem dX0_addReading_148 : decode cX0_addReading 148 = .ok (.aload_n 0, 1) := dk_42 (dk_at dksX0_addReading_6 6 rfl rfl)
theorem dX0_addReading_149 : decode cX0_addReading 149 = .ok (.getfield 506, 3) := dk_180 1 250 (dk_at dksX0_addReading_6 7 rfl rfl)
theorem dX0_addReading_152 : decode cX0_addReading 152 = .ok (.iload_n 1, 1) := dk_27 (dk_at dksX0_addReading_6 10 rfl rfl)
theorem dX0_addReading_153 : decode cX0_addReading 153 = .ok (.iaload, 1) := dk_46 (dk_at dksX0_addReading_6 11 rfl rfl)
theorem dX0_addReading_154 : decode cX0_addReading 154 = .ok (.iastore, 1) := dk_79 (dk_at dksX0_addReading_6 12 rfl rfl)
theorem dX0_addReading_155 : decode cX0_addReading 155 = .ok (.aload_n 0, 1) := dk_42 (dk_at dksX0_addReading_6 13 rfl rfl)
theorem dX0_addReading_156 : decode cX0_addReading 156 = .ok (.getfield 506, 3) := dk_180 1 250 (dk_at dksX0_addReading_6 14 rfl rfl)
theorem dX0_addReading_159 : decode cX0_addReading 159 = .ok (.iload_n 1, 1) := dk_27 (dk_at dksX0_addReading_6 17 rfl rfl)
theorem dX0_addReading_160 : decode cX0_addReading 160 = .ok (.iload 7, 2) := dk_21 7 (dk_at dksX0_addReading_6 18 rfl rfl)
theorem dX0_addReading_162 : decode cX0_addReading 162 = .ok (.iastore, 1) := dk_79 (dk_at dksX0_addReading_6 20 rfl rfl)
theorem dX0_addReading_163 : decode cX0_addReading 163 = .ok (.return_, 1) := dk_177 (dk_at dksX0_addReading_6 21 rfl rfl)
