/-! NAMES: classes of the world, fields by global numbers, words of the tables (printed by gen/out_names.py) -/
def jx_ncl : Nat := 16
def jx_cnl : List String := ["LiveHouseModel", "LiveHouse", "LiveHouse$Build", "LiveHouse$BuildReader", "LiveHouse$Code", "LiveHouse$Crossing", "LiveHouse$Exp", "LiveHouse$Judge", "LiveHouse$Method", "LiveHouse$Mover", "LiveHouse$Program", "LiveHouse$Reader", "LiveHouse$Refusal", "LiveHouse$Rules", "LiveHouse$RulesReader", "LiveHouse$Traffic"]
def jx_cn (k : Nat) : String := jx_cnl.getD k ""
def jx_fol : List Nat := [1, 101, 132, 143, 152, 161, 164, 170, 174, 183, 195, 237, 246, 248, 267, 274]
def jx_fo (k : Nat) : Nat := jx_fol.getD k 0
def jx_nfl : List Nat := [100, 31, 11, 9, 9, 3, 6, 4, 9, 12, 42, 9, 2, 19, 7, 14]
def jx_nf (k : Nat) : Nat := jx_nfl.getD k 0
def jx_fdl : List (String × String × String × Bool) := [("", "", "", false),
  ("LiveHouseModel", "tape", "[B", true),
  ("LiveHouseModel", "taped", "I", false),
  ("LiveHouseModel", "from", "[I", true),
  ("LiveHouseModel", "to", "[I", true),
  ("LiveHouseModel", "words", "I", false),
  ("LiveHouseModel", "lineEnd", "I", false),
  ("LiveHouseModel", "there", "[Z", true),
  ("LiveHouseModel", "classes", "[I", true),
  ("LiveHouseModel", "className", "[J", true),
  ("LiveHouseModel", "fields", "[I", true),
  ("LiveHouseModel", "fieldName", "[J", true),
  ("LiveHouseModel", "fieldWord", "[J", true),
  ("LiveHouseModel", "fieldKind", "[I", true),
  ("LiveHouseModel", "globals", "[I", true),
  ("LiveHouseModel", "globalName", "[J", true),
  ("LiveHouseModel", "globalWord", "[J", true),
  ("LiveHouseModel", "globalKind", "[I", true),
  ("LiveHouseModel", "methods", "[I", true),
  ("LiveHouseModel", "methodName", "[J", true),
  ("LiveHouseModel", "resultWord", "[J", true),
  ("LiveHouseModel", "result", "[I", true),
  ("LiveHouseModel", "params", "[I", true),
  ("LiveHouseModel", "vars", "[I", true),
  ("LiveHouseModel", "varName", "[J", true),
  ("LiveHouseModel", "varWord", "[J", true),
  ("LiveHouseModel", "varKind", "[I", true),
  ("LiveHouseModel", "codes", "[I", true),
  ("LiveHouseModel", "op", "[I", true),
  ("LiveHouseModel", "first", "[J", true),
  ("LiveHouseModel", "second", "[J", true),
  ("LiveHouseModel", "value", "[I", true),
  ("LiveHouseModel", "lies", "[I", true),
  ("LiveHouseModel", "lying", "[I", true),
  ("LiveHouseModel", "methodLine", "[I", true),
  ("LiveHouseModel", "codeLine", "[I", true),
  ("LiveHouseModel", "faultLine", "I", false),
  ("LiveHouseModel", "behind", "I", false),
  ("LiveHouseModel", "readFault", "I", false),
  ("LiveHouseModel", "laid", "[I", true),
  ("LiveHouseModel", "heap", "I", false),
  ("LiveHouseModel", "sound", "Z", false),
  ("LiveHouseModel", "passed", "[Z", true),
  ("LiveHouseModel", "rowSort", "[I", true),
  ("LiveHouseModel", "rowPlace", "[I", true),
  ("LiveHouseModel", "rowField", "[I", true),
  ("LiveHouseModel", "rows", "I", false),
  ("LiveHouseModel", "told", "I", false),
  ("LiveHouseModel", "sorts", "[I", true),
  ("LiveHouseModel", "row", "[I", true),
  ("LiveHouseModel", "backFrom", "[I", true),
  ("LiveHouseModel", "backRules", "[I", true),
  ("LiveHouseModel", "losts", "[I", true),
  ("LiveHouseModel", "lostObject", "[I", true),
  ("LiveHouseModel", "lostField", "[I", true),
  ("LiveHouseModel", "recorded", "[Z", true),
  ("LiveHouseModel", "given", "[I", true),
  ("LiveHouseModel", "said", "[I", true),
  ("LiveHouseModel", "saying", "I", false),
  ("LiveHouseModel", "ruled", "[Z", true),
  ("LiveHouseModel", "ruleFrom", "[I", true),
  ("LiveHouseModel", "ruleTo", "[I", true),
  ("LiveHouseModel", "ruleLines", "[I", true),
  ("LiveHouseModel", "ruleSort", "[I", true),
  ("LiveHouseModel", "ruleName", "[J", true),
  ("LiveHouseModel", "ruleOther", "[J", true),
  ("LiveHouseModel", "rulePlace", "[I", true),
  ("LiveHouseModel", "ruleField", "[I", true),
  ("LiveHouseModel", "expWords", "[I", true),
  ("LiveHouseModel", "expSort", "[I", true),
  ("LiveHouseModel", "expName", "[J", true),
  ("LiveHouseModel", "expValue", "[I", true),
  ("LiveHouseModel", "isOf", "[I", true),
  ("LiveHouseModel", "lacks", "[I", true),
  ("LiveHouseModel", "lackSort", "[I", true),
  ("LiveHouseModel", "lackPlace", "[I", true),
  ("LiveHouseModel", "lackField", "[I", true),
  ("LiveHouseModel", "lineOf", "[I", true),
  ("LiveHouseModel", "map", "[I", true),
  ("LiveHouseModel", "reached", "[Z", true),
  ("LiveHouseModel", "waiting", "[I", true),
  ("LiveHouseModel", "waitings", "I", false),
  ("LiveHouseModel", "worth", "[I", true),
  ("LiveHouseModel", "news", "[I", true),
  ("LiveHouseModel", "newGlobals", "[I", true),
  ("LiveHouseModel", "served", "[I", true),
  ("LiveHouseModel", "came", "[I", true),
  ("LiveHouseModel", "comings", "[I", true),
  ("LiveHouseModel", "rowMethod", "[I", true),
  ("LiveHouseModel", "rowMark", "[I", true),
  ("LiveHouseModel", "rowArgs", "[I", true),
  ("LiveHouseModel", "rowState", "[I", true),
  ("LiveHouseModel", "rowAnswer", "[I", true),
  ("LiveHouseModel", "rowOuts", "[I", true),
  ("LiveHouseModel", "rowOut", "[I", true),
  ("LiveHouseModel", "differences", "I", false),
  ("LiveHouseModel", "dNumber", "[I", true),
  ("LiveHouseModel", "dState", "[I", true),
  ("LiveHouseModel", "dAnswer", "[I", true),
  ("LiveHouseModel", "dOuts", "[I", true),
  ("LiveHouseModel", "dPlace", "[I", true),
  ("LiveHouse", "tape", "[B", true),
  ("LiveHouse", "taped", "I", false),
  ("LiveHouse", "reader", "LLiveHouse$Reader;", true),
  ("LiveHouse", "buildReader", "LLiveHouse$BuildReader;", true),
  ("LiveHouse", "rulesReader", "LLiveHouse$RulesReader;", true),
  ("LiveHouse", "mover", "LLiveHouse$Mover;", true),
  ("LiveHouse", "builds", "[LLiveHouse$Build;", true),
  ("LiveHouse", "spareBuild", "LLiveHouse$Build;", false),
  ("LiveHouse", "rules", "[LLiveHouse$Rules;", true),
  ("LiveHouse", "spareRules", "LLiveHouse$Rules;", false),
  ("LiveHouse", "programs", "[LLiveHouse$Program;", true),
  ("LiveHouse", "traffics", "[LLiveHouse$Traffic;", true),
  ("LiveHouse", "beside", "LLiveHouse$Program;", true),
  ("LiveHouse", "faultLine", "I", false),
  ("LiveHouse", "changed", "I", false),
  ("LiveHouse", "changeSort", "[I", true),
  ("LiveHouse", "changePlace", "[I", true),
  ("LiveHouse", "changeField", "[I", true),
  ("LiveHouse", "keeps", "Z", false),
  ("LiveHouse", "sorts", "I", false),
  ("LiveHouse", "given", "[I", true),
  ("LiveHouse", "givens", "I", false),
  ("LiveHouse", "asked", "J", false),
  ("LiveHouse", "differences", "I", false),
  ("LiveHouse", "differenceRow", "[I", true),
  ("LiveHouse", "differenceState", "[I", true),
  ("LiveHouse", "differenceAnswer", "[I", true),
  ("LiveHouse", "differenceOuts", "[I", true),
  ("LiveHouse", "differenceAt", "[I", true),
  ("LiveHouse", "passed", "I", false),
  ("LiveHouse", "pass", "[J", true),
  ("LiveHouse$Build", "there", "Z", false),
  ("LiveHouse$Build", "classes", "I", false),
  ("LiveHouse$Build", "classNames", "[J", true),
  ("LiveHouse$Build", "fields", "[I", true),
  ("LiveHouse$Build", "fieldNames", "[J", true),
  ("LiveHouse$Build", "fieldKinds", "[I", true),
  ("LiveHouse$Build", "globals", "I", false),
  ("LiveHouse$Build", "globalNames", "[J", true),
  ("LiveHouse$Build", "globalKinds", "[I", true),
  ("LiveHouse$Build", "methods", "I", false),
  ("LiveHouse$Build", "method", "[LLiveHouse$Method;", true),
  ("LiveHouse$BuildReader", "in", "LLiveHouse$Reader;", true),
  ("LiveHouse$BuildReader", "waits", "I", false),
  ("LiveHouse$BuildReader", "waitNames", "[J", true),
  ("LiveHouse$BuildReader", "waitLines", "[I", true),
  ("LiveHouse$BuildReader", "waitSorts", "[I", true),
  ("LiveHouse$BuildReader", "waitAt", "[I", true),
  ("LiveHouse$BuildReader", "b", "LLiveHouse$Build;", false),
  ("LiveHouse$BuildReader", "judge", "LLiveHouse$Judge;", true),
  ("LiveHouse$BuildReader", "ops", "[LLiveHouse$Op;", true),
  ("LiveHouse$Code", "op", "LLiveHouse$Op;", false),
  ("LiveHouse$Code", "first", "J", false),
  ("LiveHouse$Code", "second", "J", false),
  ("LiveHouse$Code", "line", "I", false),
  ("LiveHouse$Code", "what", "I", false),
  ("LiveHouse$Code", "field", "I", false),
  ("LiveHouse$Code", "pile", "I", false),
  ("LiveHouse$Code", "kinds", "[I", true),
  ("LiveHouse$Code", "done", "Z", false),
  ("LiveHouse$Crossing", "is", "[I", true),
  ("LiveHouse$Crossing", "a", "LLiveHouse$Build;", false),
  ("LiveHouse$Crossing", "b", "LLiveHouse$Build;", false),
  ("LiveHouse$Exp", "words", "I", false),
  ("LiveHouse$Exp", "act", "[I", true),
  ("LiveHouse$Exp", "value", "[I", true),
  ("LiveHouse$Exp", "name", "[J", true),
  ("LiveHouse$Exp", "line", "I", false),
  ("LiveHouse$Exp", "tooMany", "Z", false),
  ("LiveHouse$Judge", "b", "LLiveHouse$Build;", false),
  ("LiveHouse$Judge", "in", "LLiveHouse$Reader;", true),
  ("LiveHouse$Judge", "height", "I", false),
  ("LiveHouse$Judge", "pile", "[I", true),
  ("LiveHouse$Method", "name", "J", false),
  ("LiveHouse$Method", "line", "I", false),
  ("LiveHouse$Method", "result", "I", false),
  ("LiveHouse$Method", "params", "I", false),
  ("LiveHouse$Method", "locals", "I", false),
  ("LiveHouse$Method", "names", "[J", true),
  ("LiveHouse$Method", "kinds", "[I", true),
  ("LiveHouse$Method", "codes", "I", false),
  ("LiveHouse$Method", "code", "[LLiveHouse$Code;", true),
  ("LiveHouse$Mover", "p", "LLiveHouse$Program;", false),
  ("LiveHouse$Mover", "over", "LLiveHouse$Crossing;", false),
  ("LiveHouse$Mover", "ways", "[I", true),
  ("LiveHouse$Mover", "isReached", "[Z", true),
  ("LiveHouse$Mover", "pending", "[I", true),
  ("LiveHouse$Mover", "pendings", "I", false),
  ("LiveHouse$Mover", "classes", "[I", true),
  ("LiveHouse$Mover", "values", "[I", true),
  ("LiveHouse$Mover", "globals", "[I", true),
  ("LiveHouse$Mover", "locals", "[I", true),
  ("LiveHouse$Mover", "work", "[I", true),
  ("LiveHouse$Mover", "isMet", "[Z", true),
  ("LiveHouse$Program", "there", "Z", false),
  ("LiveHouse$Program", "edition", "I", false),
  ("LiveHouse$Program", "build", "LLiveHouse$Build;", false),
  ("LiveHouse$Program", "steps", "I", false),
  ("LiveHouse$Program", "globals", "[I", true),
  ("LiveHouse$Program", "made", "I", false),
  ("LiveHouse$Program", "classOf", "[I", true),
  ("LiveHouse$Program", "isThere", "[Z", true),
  ("LiveHouse$Program", "isOld", "[Z", true),
  ("LiveHouse$Program", "values", "[I", true),
  ("LiveHouse$Program", "state", "[I", true),
  ("LiveHouse$Program", "answer", "[I", true),
  ("LiveHouse$Program", "frames", "[I", true),
  ("LiveHouse$Program", "method", "[I", true),
  ("LiveHouse$Program", "place", "[I", true),
  ("LiveHouse$Program", "isOldCode", "[Z", true),
  ("LiveHouse$Program", "locals", "[I", true),
  ("LiveHouse$Program", "height", "[I", true),
  ("LiveHouse$Program", "pile", "[I", true),
  ("LiveHouse$Program", "oldNumber", "I", false),
  ("LiveHouse$Program", "old", "LLiveHouse$Crossing;", true),
  ("LiveHouse$Program", "waiting", "I", false),
  ("LiveHouse$Program", "inputs", "[I", true),
  ("LiveHouse$Program", "outs", "I", false),
  ("LiveHouse$Program", "out", "[I", true),
  ("LiveHouse$Program", "canGoBack", "Z", false),
  ("LiveHouse$Program", "rulesNumber", "I", false),
  ("LiveHouse$Program", "backNumber", "I", false),
  ("LiveHouse$Program", "rules", "LLiveHouse$Rules;", false),
  ("LiveHouse$Program", "keptMade", "I", false),
  ("LiveHouse$Program", "keptGlobals", "[I", true),
  ("LiveHouse$Program", "kept", "[I", true),
  ("LiveHouse$Program", "wasThere", "[Z", true),
  ("LiveHouse$Program", "isLostField", "[Z", true),
  ("LiveHouse$Program", "isLostGlobal", "[Z", true),
  ("LiveHouse$Program", "isTold", "[Z", true),
  ("LiveHouse$Program", "losses", "I", false),
  ("LiveHouse$Program", "loss", "[I", true),
  ("LiveHouse$Program", "work", "[I", true),
  ("LiveHouse$Program", "fresh", "[I", true),
  ("LiveHouse$Program", "gathered", "I", false),
  ("LiveHouse$Program", "gather", "[I", true),
  ("LiveHouse$Reader", "text", "[B", true),
  ("LiveHouse$Reader", "size", "I", false),
  ("LiveHouse$Reader", "next", "I", false),
  ("LiveHouse$Reader", "line", "I", false),
  ("LiveHouse$Reader", "words", "I", false),
  ("LiveHouse$Reader", "from", "[I", true),
  ("LiveHouse$Reader", "to", "[I", true),
  ("LiveHouse$Reader", "refusal", "LLiveHouse$Refusal;", true),
  ("LiveHouse$Reader", "number", "I", false),
  ("LiveHouse$Refusal", "fault", "I", false),
  ("LiveHouse$Refusal", "line", "I", false),
  ("LiveHouse$Rules", "there", "Z", false),
  ("LiveHouse$Rules", "from", "I", false),
  ("LiveHouse$Rules", "to", "I", false),
  ("LiveHouse$Rules", "over", "LLiveHouse$Crossing;", true),
  ("LiveHouse$Rules", "again", "LLiveHouse$Crossing;", true),
  ("LiveHouse$Rules", "lines", "I", false),
  ("LiveHouse$Rules", "sort", "[I", true),
  ("LiveHouse$Rules", "line", "[I", true),
  ("LiveHouse$Rules", "first", "[J", true),
  ("LiveHouse$Rules", "second", "[J", true),
  ("LiveHouse$Rules", "what", "[I", true),
  ("LiveHouse$Rules", "exp", "[LLiveHouse$Exp;", true),
  ("LiveHouse$Rules", "lets", "[I", true),
  ("LiveHouse$Rules", "alls", "[I", true),
  ("LiveHouse$Rules", "backs", "[I", true),
  ("LiveHouse$Rules", "lacks", "I", false),
  ("LiveHouse$Rules", "lackSort", "[I", true),
  ("LiveHouse$Rules", "lackPlace", "[I", true),
  ("LiveHouse$Rules", "lackField", "[I", true),
  ("LiveHouse$RulesReader", "in", "LLiveHouse$Reader;", true),
  ("LiveHouse$RulesReader", "told", "[Z", true),
  ("LiveHouse$RulesReader", "gone", "[Z", true),
  ("LiveHouse$RulesReader", "extra", "LLiveHouse$Exp;", true),
  ("LiveHouse$RulesReader", "\x72", "LLiveHouse$Rules;", false),
  ("LiveHouse$RulesReader", "a", "LLiveHouse$Build;", false),
  ("LiveHouse$RulesReader", "b", "LLiveHouse$Build;", false),
  ("LiveHouse$Traffic", "on", "Z", false),
  ("LiveHouse$Traffic", "aside", "LLiveHouse$Program;", true),
  ("LiveHouse$Traffic", "rows", "I", false),
  ("LiveHouse$Traffic", "method", "[J", true),
  ("LiveHouse$Traffic", "args", "[I", true),
  ("LiveHouse$Traffic", "arg", "[I", true),
  ("LiveHouse$Traffic", "state", "[I", true),
  ("LiveHouse$Traffic", "answer", "[I", true),
  ("LiveHouse$Traffic", "isInt", "[Z", true),
  ("LiveHouse$Traffic", "outs", "[I", true),
  ("LiveHouse$Traffic", "out", "[I", true),
  ("LiveHouse$Traffic", "since", "I", false),
  ("LiveHouse$Traffic", "input", "[I", true),
  ("LiveHouse$Traffic", "had", "[I", true),
  ("", "script", "[I", true)]
def jx_fd (g : Nat) : String × String × String × Bool := jx_fdl.getD g ("", "", "", false)
def jx_ftl : List Nat := [0, 104, 1, 101, 101, 1, 1, 103, 101, 102, 101, 102, 102, 101, 101, 102, 102, 101, 101, 102, 102, 101, 101, 101, 102, 102, 101, 101, 101, 102, 102, 101, 101, 101, 101, 101, 1, 1, 1, 101, 1, 3, 103, 101, 101, 101, 1, 1, 101, 101, 101, 101, 101, 101, 101, 103, 101, 101, 1, 103, 101, 101, 101, 101, 102, 102, 101, 101, 101, 101, 102, 101, 101, 101, 101, 101, 101, 101, 101, 103, 101, 1, 101, 101, 101, 101, 101, 101, 101, 101, 101, 101, 101, 101, 101, 1, 101, 101, 101, 101, 101, 104, 1, 21, 13, 24, 19, 112, 12, 123, 23, 120, 125, 20, 1, 1, 101, 101, 101, 3, 1, 101, 1, 2, 1, 101, 101, 101, 101, 101, 1, 102, 3, 1, 102, 101, 102, 101, 1, 102, 101, 1, 118, 21, 1, 102, 101, 101, 101, 12, 17, 106, 6, 2, 2, 1, 1, 1, 1, 101, 3, 101, 12, 12, 1, 101, 101, 102, 1, 3, 12, 21, 1, 101, 2, 1, 1, 1, 1, 102, 101, 1, 114, 20, 15, 101, 103, 101, 1, 101, 101, 101, 101, 101, 103, 3, 1, 12, 1, 101, 1, 101, 103, 103, 101, 101, 101, 101, 101, 101, 103, 101, 101, 101, 1, 15, 1, 101, 1, 101, 3, 1, 1, 23, 1, 101, 101, 103, 103, 103, 103, 1, 101, 101, 101, 1, 101, 104, 1, 1, 1, 1, 101, 101, 22, 1, 1, 1, 3, 1, 1, 15, 15, 1, 101, 101, 102, 102, 101, 116, 101, 101, 101, 1, 101, 101, 101, 21, 103, 103, 16, 23, 12, 12, 3, 20, 1, 102, 101, 101, 101, 101, 103, 101, 101, 1, 101, 101, 101]
def jx_ft (g : Nat) : Nat := jx_ftl.getD g 0
def jx_fll : List Nat := [0, 2000, 0, 1001, 1001, 0, 0, 9, 9, 72, 72, 576, 576, 576, 9, 72, 72, 72, 9, 108, 108, 108, 108, 108, 648, 648, 648, 108, 4320, 4320, 4320, 4320, 4320, 34560, 12, 480, 0, 0, 0, 16, 0, 0, 40, 400, 400, 400, 0, 0, 13, 60983, 4, 4, 4, 10000, 10000, 4, 6, 20, 0, 8, 8, 8, 9, 360, 360, 360, 360, 360, 360, 4320, 4320, 4320, 72, 9, 810, 810, 810, 40, 8, 301, 301, 0, 12, 2408, 8, 4, 4, 2000, 241, 241, 1446, 241, 241, 241, 4820, 0, 60, 60, 60, 60, 60, 2000, 0, 0, 0, 0, 0, 8, 0, 8, 0, 4, 4, 0, 0, 0, 184, 184, 184, 0, 0, 6, 0, 0, 0, 60, 60, 60, 60, 60, 0, 1000, 0, 0, 8, 8, 64, 64, 0, 8, 8, 0, 12, 0, 0, 1000, 1000, 1000, 1000, 0, 0, 27, 0, 0, 0, 0, 0, 0, 0, 8, 0, 8, 0, 0, 0, 12, 12, 12, 0, 0, 0, 0, 0, 10, 0, 0, 0, 0, 0, 6, 6, 0, 40, 0, 0, 36, 301, 301, 0, 301, 2408, 8, 216, 13, 40, 0, 0, 0, 0, 8, 0, 301, 301, 301, 2408, 3, 3, 3, 36, 36, 36, 216, 36, 288, 0, 0, 0, 600, 0, 300, 0, 0, 0, 0, 0, 8, 2408, 301, 64, 8, 2416, 0, 2416, 13, 8, 0, 20, 2000, 0, 0, 0, 0, 1001, 1001, 0, 0, 0, 0, 0, 0, 0, 0, 0, 0, 40, 40, 40, 40, 40, 40, 64, 8, 64, 0, 80, 80, 80, 0, 8, 8, 0, 0, 0, 0, 0, 0, 0, 60, 60, 360, 60, 60, 60, 60, 1200, 0, 500, 60, 0]
def jx_fl (g : Nat) : Nat := jx_fll.getD g 0
def jx_script : Nat := 288
def jx_refusal : Nat := 12
/-- how long the array of field g of x is (the script: its number tells) -/
def jx_ln (x : Int) (g : Nat) : Int := if g = 288 then x - 1000000 else (jx_fl g : Int)
def jx_T (k : Nat) : u_T := fun j => jx_fd (jx_fo k + j)
def jx_cls : List vw_C := (List.range 16).map fun k => (jx_cn k, jx_T k, jx_nf k)
def jx_fty0 (t : Nat) : FieldType := if t = 1 then .int else if t = 2 then .long else if t = 3 then .boolean else if t = 4 then .byte else if t = 5 then .object "java/lang/String" else if t = 6 then .object "LiveHouse$Op" else .object (jx_cn (t - 10))
def jx_fty (t : Nat) : FieldType := if t < 100 then jx_fty0 t else .array (jx_fty0 (t - 100))
def jx_arr (w : Cond) : Bool := match w with
  | .arrayClass _ => true
  | _ => false
def jx_good (w : Cond) : Bool := (w.onTables && w.keeps) || jx_arr w
def jx_tb : List Cond := lw_tbl.filter jx_good
def jx_nest (w : Cond) : Bool := match w with
  | .fieldLinkNest _ _ _ _ _ _ => true
  | .methodLinkNest _ _ _ _ => true
  | _ => false
def jx_nw : List Cond := lw_tbl.filter jx_nest
def jx_strs : List (String × Nat × String × Int) := [("LiveHouse$BuildReader", 87, "class", 1), ("LiveHouse$Reader", 74, "int", 2), ("LiveHouse$Reader", 80, "none", 3), ("LiveHouse$Reader", 82, "nil", 4), ("LiveHouse$BuildReader", 118, "field", 5), ("LiveHouse$BuildReader", 144, "int", 2), ("LiveHouse$BuildReader", 149, "none", 3), ("LiveHouse$BuildReader", 123, "global", 6), ("LiveHouse$BuildReader", 128, "method", 7), ("LiveHouse$BuildReader", 131, "local", 8), ("LiveHouse$RulesReader", 75, "name", 9), ("LiveHouse$RulesReader", 81, "gone", 10), ("LiveHouse$RulesReader", 82, "let", 11), ("LiveHouse$RulesReader", 84, "all", 12), ("LiveHouse$RulesReader", 86, "hold", 13), ("LiveHouse$RulesReader", 88, "back", 14), ("LiveHouse$Exp", 41, "nil", 4), ("LiveHouse$Exp", 47, "add", 15), ("LiveHouse$Exp", 49, "sub", 16), ("LiveHouse$Exp", 51, "mul", 17), ("LiveHouse$Exp", 53, "less", 18), ("LiveHouse$Exp", 55, "like", 19), ("LiveHouseModel", 340, "class", 1), ("LiveHouseModel", 313, "int", 2), ("LiveHouseModel", 319, "none", 3), ("LiveHouseModel", 321, "nil", 4), ("LiveHouseModel", 345, "field", 5), ("LiveHouseModel", 350, "global", 6), ("LiveHouseModel", 355, "method", 7), ("LiveHouseModel", 360, "local", 8), ("LiveHouseModel", 335, "push nil new load store read write get set add sub mul div rem less like same drop twice out in call give at point go when ", 20), ("LiveHouseModel", 595, "name", 9), ("LiveHouseModel", 596, "gone", 10), ("LiveHouseModel", 598, "let", 11), ("LiveHouseModel", 600, "all", 12), ("LiveHouseModel", 602, "hold", 13), ("LiveHouseModel", 604, "back", 14), ("LiveHouseModel", 606, "add", 15), ("LiveHouseModel", 608, "sub", 16), ("LiveHouseModel", 610, "mul", 17), ("LiveHouseModel", 612, "less", 18), ("LiveHouseModel", 614, "like", 19), ("LiveHouse$Op", 117, "push", 21), ("LiveHouse$Op", 189, "at", 22), ("LiveHouse$Op", 192, "point", 23), ("LiveHouse$Op", 147, "add", 15), ("LiveHouse$Op", 165, "like", 19), ("LiveHouse$Op", 195, "go", 24), ("LiveHouse$Op", 186, "give", 25), ("LiveHouse$Op", 198, "when", 26), ("LiveHouse$Op", 156, "div", 27), ("LiveHouse$Op", 159, "rem", 28), ("LiveHouse$Op", 144, "set", 29), ("LiveHouse$Op", 141, "get", 30), ("LiveHouse$Op", 123, "nil", 4), ("LiveHouse$Op", 126, "new", 31), ("LiveHouse$Op", 135, "read", 32), ("LiveHouse$Op", 138, "write", 33), ("LiveHouse$Op", 183, "call", 34), ("LiveHouse$Op", 129, "load", 35), ("LiveHouse$Op", 132, "store", 36), ("LiveHouse$Op", 150, "sub", 16), ("LiveHouse$Op", 153, "mul", 17), ("LiveHouse$Op", 162, "less", 18), ("LiveHouse$Op", 168, "same", 37), ("LiveHouse$Op", 171, "drop", 38), ("LiveHouse$Op", 174, "twice", 39), ("LiveHouse$Op", 177, "out", 40), ("LiveHouse$Op", 180, "in", 41)]
def jx_stl : List Nat := [5, 3, 4, 3, 5, 6, 6, 5, 4, 4, 3, 3, 4, 4, 3, 3, 3, 4, 4, 123, 4, 2, 5, 2, 4, 4, 3, 3, 3, 3, 3, 4, 5, 4, 4, 5, 4, 4, 5, 3, 2]
def jx_sbl : List (List Int32) := [[99, 108, 97, 115, 115], [105, 110, 116], [110, 111, 110, 101], [110, 105, 108], [102, 105, 101, 108, 100], [103, 108, 111, 98, 97, 108], [109, 101, 116, 104, 111, 100], [108, 111, 99, 97, 108], [110, 97, 109, 101], [103, 111, 110, 101], [108, 101, 116], [97, 108, 108], [104, 111, 108, 100], [98, 97, 99, 107], [97, 100, 100], [115, 117, 98], [109, 117, 108], [108, 101, 115, 115], [108, 105, 107, 101], [112, 117, 115, 104, 32, 110, 105, 108, 32, 110, 101, 119, 32, 108, 111, 97, 100, 32, 115, 116, 111, 114, 101, 32, 114, 101, 97, 100, 32, 119, 114, 105, 116, 101, 32, 103, 101, 116, 32, 115, 101, 116, 32, 97, 100, 100, 32, 115, 117, 98, 32, 109, 117, 108, 32, 100, 105, 118, 32, 114, 101, 109, 32, 108, 101, 115, 115, 32, 108, 105, 107, 101, 32, 115, 97, 109, 101, 32, 100, 114, 111, 112, 32, 116, 119, 105, 99, 101, 32, 111, 117, 116, 32, 105, 110, 32, 99, 97, 108, 108, 32, 103, 105, 118, 101, 32, 97, 116, 32, 112, 111, 105, 110, 116, 32, 103, 111, 32, 119, 104, 101, 110, 32], [112, 117, 115, 104], [97, 116], [112, 111, 105, 110, 116], [103, 111], [103, 105, 118, 101], [119, 104, 101, 110], [100, 105, 118], [114, 101, 109], [115, 101, 116], [103, 101, 116], [110, 101, 119], [114, 101, 97, 100], [119, 114, 105, 116, 101], [99, 97, 108, 108], [108, 111, 97, 100], [115, 116, 111, 114, 101], [115, 97, 109, 101], [100, 114, 111, 112], [116, 119, 105, 99, 101], [111, 117, 116], [105, 110]]
def jx_opn : List String := ["PUSH", "NIL", "NEW", "LOAD", "STORE", "READ", "WRITE", "GET", "SET", "ADD", "SUB", "MUL", "DIV", "REM", "LESS", "LIKE", "SAME", "DROP", "TWICE", "OUT", "IN", "CALL", "GIVE", "AT", "POINT", "GO", "WHEN"]
def jx_opi : List Int32 := [1, 1, 1, 1, 1, 1, 1, 2, 2, 0, 0, 0, 0, 0, 0, 0, 0, 0, 0, 0, 0, 1, 0, 1, 1, 1, 1]
def jx_opw : List Int := [21, 4, 31, 35, 36, 32, 33, 30, 29, 15, 16, 17, 27, 28, 18, 19, 37, 38, 39, 40, 41, 34, 25, 22, 23, 24, 26]
def jx_atl : List Nat := [1, 2, 3, 4, 6, 12, 14, 16, 18, 20, 23, 25]
theorem jx_fty_ok : ∀ g, g < 288 → 1 ≤ g → parseFieldDescriptor (jx_fd g).2.2.1 = some (jx_fty (jx_ft g)) := by decide +kernel
def jx_kl : List Nat := [0, 0, 0, 0, 0, 0, 0, 0, 0, 0, 0, 0, 0, 0, 0, 0, 0, 0, 0, 0, 0, 0, 0, 0, 0, 0, 0, 0, 0, 0, 0, 0, 0, 0, 0, 0, 0, 0, 0, 0, 0, 0, 0, 0, 0, 0, 0, 0, 0, 0, 0, 0, 0, 0, 0, 0, 0, 0, 0, 0, 0, 0, 0, 0, 0, 0, 0, 0, 0, 0, 0, 0, 0, 0, 0, 0, 0, 0, 0, 0, 0, 0, 0, 0, 0, 0, 0, 0, 0, 0, 0, 0, 0, 0, 0, 0, 0, 0, 0, 0, 0, 1, 1, 1, 1, 1, 1, 1, 1, 1, 1, 1, 1, 1, 1, 1, 1, 1, 1, 1, 1, 1, 1, 1, 1, 1, 1, 1, 1, 1, 1, 1, 2, 2, 2, 2, 2, 2, 2, 2, 2, 2, 2, 3, 3, 3, 3, 3, 3, 3, 3, 3, 4, 4, 4, 4, 4, 4, 4, 4, 4, 5, 5, 5, 6, 6, 6, 6, 6, 6, 7, 7, 7, 7, 8, 8, 8, 8, 8, 8, 8, 8, 8, 9, 9, 9, 9, 9, 9, 9, 9, 9, 9, 9, 9, 10, 10, 10, 10, 10, 10, 10, 10, 10, 10, 10, 10, 10, 10, 10, 10, 10, 10, 10, 10, 10, 10, 10, 10, 10, 10, 10, 10, 10, 10, 10, 10, 10, 10, 10, 10, 10, 10, 10, 10, 10, 10, 11, 11, 11, 11, 11, 11, 11, 11, 11, 12, 12, 13, 13, 13, 13, 13, 13, 13, 13, 13, 13, 13, 13, 13, 13, 13, 13, 13, 13, 13, 14, 14, 14, 14, 14, 14, 14, 15, 15, 15, 15, 15, 15, 15, 15, 15, 15, 15, 15, 15, 15, 99]
def jx_kof (g : Nat) : Nat := jx_kl.getD g 0
theorem jx_own_ok : ∀ k, k < 16 → ∀ j, j < jx_nf k → jx_kof (jx_fo k + j) = k ∧ jx_ft (jx_fo k + j) ≠ 0 ∧ jx_fo k + j < 288 ∧ 1 ≤ jx_fo k + j := by decide +kernel
def jx_lay (g : Nat) : Cond := u_lay (jx_cn (jx_kof g)) (jx_T (jx_kof g)) (g - jx_fo (jx_kof g))
set_option maxRecDepth 20000 in
theorem jx_lay_1 : jx_lay 1 ∈ tables_1 := jx_t9 (List.mem_of_getElem? (i := 61) rfl)
set_option maxRecDepth 20000 in
theorem jx_lay_2 : jx_lay 2 ∈ tables_1 := jx_t9 (List.mem_of_getElem? (i := 63) rfl)
set_option maxRecDepth 20000 in
theorem jx_lay_3 : jx_lay 3 ∈ tables_1 := jx_t9 (List.mem_of_getElem? (i := 65) rfl)
set_option maxRecDepth 20000 in
theorem jx_lay_4 : jx_lay 4 ∈ tables_1 := jx_t9 (List.mem_of_getElem? (i := 67) rfl)
set_option maxRecDepth 20000 in
theorem jx_lay_5 : jx_lay 5 ∈ tables_1 := jx_t9 (List.mem_of_getElem? (i := 69) rfl)
set_option maxRecDepth 20000 in
theorem jx_lay_6 : jx_lay 6 ∈ tables_1 := jx_t9 (List.mem_of_getElem? (i := 71) rfl)
set_option maxRecDepth 20000 in
theorem jx_lay_7 : jx_lay 7 ∈ tables_1 := jx_t9 (List.mem_of_getElem? (i := 73) rfl)
set_option maxRecDepth 20000 in
theorem jx_lay_8 : jx_lay 8 ∈ tables_1 := jx_t9 (List.mem_of_getElem? (i := 75) rfl)
set_option maxRecDepth 20000 in
theorem jx_lay_9 : jx_lay 9 ∈ tables_1 := jx_t9 (List.mem_of_getElem? (i := 77) rfl)
set_option maxRecDepth 20000 in
theorem jx_lay_10 : jx_lay 10 ∈ tables_1 := jx_t9 (List.mem_of_getElem? (i := 79) rfl)
set_option maxRecDepth 20000 in
theorem jx_lay_11 : jx_lay 11 ∈ tables_1 := jx_t9 (List.mem_of_getElem? (i := 81) rfl)
set_option maxRecDepth 20000 in
theorem jx_lay_12 : jx_lay 12 ∈ tables_1 := jx_t9 (List.mem_of_getElem? (i := 83) rfl)
set_option maxRecDepth 20000 in
theorem jx_lay_13 : jx_lay 13 ∈ tables_1 := jx_t9 (List.mem_of_getElem? (i := 85) rfl)
set_option maxRecDepth 20000 in
theorem jx_lay_14 : jx_lay 14 ∈ tables_1 := jx_t9 (List.mem_of_getElem? (i := 87) rfl)
set_option maxRecDepth 20000 in
theorem jx_lay_15 : jx_lay 15 ∈ tables_1 := jx_t9 (List.mem_of_getElem? (i := 89) rfl)
set_option maxRecDepth 20000 in
theorem jx_lay_16 : jx_lay 16 ∈ tables_1 := jx_t9 (List.mem_of_getElem? (i := 91) rfl)
set_option maxRecDepth 20000 in
theorem jx_lay_17 : jx_lay 17 ∈ tables_1 := jx_t9 (List.mem_of_getElem? (i := 93) rfl)
set_option maxRecDepth 20000 in
theorem jx_lay_18 : jx_lay 18 ∈ tables_1 := jx_t9 (List.mem_of_getElem? (i := 95) rfl)
set_option maxRecDepth 20000 in
theorem jx_lay_19 : jx_lay 19 ∈ tables_1 := jx_t9 (List.mem_of_getElem? (i := 97) rfl)
set_option maxRecDepth 20000 in
theorem jx_lay_20 : jx_lay 20 ∈ tables_1 := jx_t9 (List.mem_of_getElem? (i := 99) rfl)
set_option maxRecDepth 20000 in
theorem jx_lay_21 : jx_lay 21 ∈ tables_1 := jx_t9 (List.mem_of_getElem? (i := 101) rfl)
set_option maxRecDepth 20000 in
theorem jx_lay_22 : jx_lay 22 ∈ tables_1 := jx_t9 (List.mem_of_getElem? (i := 103) rfl)
set_option maxRecDepth 20000 in
theorem jx_lay_23 : jx_lay 23 ∈ tables_1 := jx_t9 (List.mem_of_getElem? (i := 105) rfl)
set_option maxRecDepth 20000 in
theorem jx_lay_24 : jx_lay 24 ∈ tables_1 := jx_t9 (List.mem_of_getElem? (i := 107) rfl)
set_option maxRecDepth 20000 in
theorem jx_lay_25 : jx_lay 25 ∈ tables_1 := jx_t9 (List.mem_of_getElem? (i := 109) rfl)
set_option maxRecDepth 20000 in
theorem jx_lay_26 : jx_lay 26 ∈ tables_1 := jx_t9 (List.mem_of_getElem? (i := 111) rfl)
set_option maxRecDepth 20000 in
theorem jx_lay_27 : jx_lay 27 ∈ tables_1 := jx_t9 (List.mem_of_getElem? (i := 113) rfl)
set_option maxRecDepth 20000 in
theorem jx_lay_28 : jx_lay 28 ∈ tables_1 := jx_t9 (List.mem_of_getElem? (i := 115) rfl)
set_option maxRecDepth 20000 in
theorem jx_lay_29 : jx_lay 29 ∈ tables_1 := jx_t9 (List.mem_of_getElem? (i := 117) rfl)
set_option maxRecDepth 20000 in
theorem jx_lay_30 : jx_lay 30 ∈ tables_1 := jx_t9 (List.mem_of_getElem? (i := 119) rfl)
set_option maxRecDepth 20000 in
theorem jx_lay_31 : jx_lay 31 ∈ tables_1 := jx_t9 (List.mem_of_getElem? (i := 121) rfl)
set_option maxRecDepth 20000 in
theorem jx_lay_32 : jx_lay 32 ∈ tables_1 := jx_t9 (List.mem_of_getElem? (i := 123) rfl)
set_option maxRecDepth 20000 in
theorem jx_lay_33 : jx_lay 33 ∈ tables_1 := jx_t9 (List.mem_of_getElem? (i := 125) rfl)
set_option maxRecDepth 20000 in
theorem jx_lay_34 : jx_lay 34 ∈ tables_1 := jx_t9 (List.mem_of_getElem? (i := 127) rfl)
set_option maxRecDepth 20000 in
theorem jx_lay_35 : jx_lay 35 ∈ tables_1 := jx_t9 (List.mem_of_getElem? (i := 129) rfl)
set_option maxRecDepth 20000 in
theorem jx_lay_36 : jx_lay 36 ∈ tables_1 := jx_t9 (List.mem_of_getElem? (i := 131) rfl)
set_option maxRecDepth 20000 in
theorem jx_lay_37 : jx_lay 37 ∈ tables_1 := jx_t9 (List.mem_of_getElem? (i := 133) rfl)
set_option maxRecDepth 20000 in
theorem jx_lay_38 : jx_lay 38 ∈ tables_1 := jx_t9 (List.mem_of_getElem? (i := 135) rfl)
set_option maxRecDepth 20000 in
theorem jx_lay_39 : jx_lay 39 ∈ tables_1 := jx_t9 (List.mem_of_getElem? (i := 137) rfl)
set_option maxRecDepth 20000 in
theorem jx_lay_40 : jx_lay 40 ∈ tables_1 := jx_t9 (List.mem_of_getElem? (i := 139) rfl)
set_option maxRecDepth 20000 in
theorem jx_lay_41 : jx_lay 41 ∈ tables_1 := jx_t9 (List.mem_of_getElem? (i := 141) rfl)
set_option maxRecDepth 20000 in
theorem jx_lay_42 : jx_lay 42 ∈ tables_1 := jx_t9 (List.mem_of_getElem? (i := 143) rfl)
set_option maxRecDepth 20000 in
theorem jx_lay_43 : jx_lay 43 ∈ tables_1 := jx_t9 (List.mem_of_getElem? (i := 145) rfl)
set_option maxRecDepth 20000 in
theorem jx_lay_44 : jx_lay 44 ∈ tables_1 := jx_t9 (List.mem_of_getElem? (i := 147) rfl)
set_option maxRecDepth 20000 in
theorem jx_lay_45 : jx_lay 45 ∈ tables_1 := jx_t9 (List.mem_of_getElem? (i := 149) rfl)
set_option maxRecDepth 20000 in
theorem jx_lay_46 : jx_lay 46 ∈ tables_1 := jx_t9 (List.mem_of_getElem? (i := 151) rfl)
set_option maxRecDepth 20000 in
theorem jx_lay_47 : jx_lay 47 ∈ tables_1 := jx_t9 (List.mem_of_getElem? (i := 153) rfl)
set_option maxRecDepth 20000 in
theorem jx_lay_48 : jx_lay 48 ∈ tables_1 := jx_t9 (List.mem_of_getElem? (i := 155) rfl)
set_option maxRecDepth 20000 in
theorem jx_lay_49 : jx_lay 49 ∈ tables_1 := jx_t9 (List.mem_of_getElem? (i := 157) rfl)
set_option maxRecDepth 20000 in
theorem jx_lay_50 : jx_lay 50 ∈ tables_1 := jx_t9 (List.mem_of_getElem? (i := 159) rfl)
set_option maxRecDepth 20000 in
theorem jx_lay_51 : jx_lay 51 ∈ tables_1 := jx_t9 (List.mem_of_getElem? (i := 161) rfl)
set_option maxRecDepth 20000 in
theorem jx_lay_52 : jx_lay 52 ∈ tables_1 := jx_t9 (List.mem_of_getElem? (i := 163) rfl)
set_option maxRecDepth 20000 in
theorem jx_lay_53 : jx_lay 53 ∈ tables_1 := jx_t9 (List.mem_of_getElem? (i := 165) rfl)
set_option maxRecDepth 20000 in
theorem jx_lay_54 : jx_lay 54 ∈ tables_1 := jx_t9 (List.mem_of_getElem? (i := 167) rfl)
set_option maxRecDepth 20000 in
theorem jx_lay_55 : jx_lay 55 ∈ tables_1 := jx_t9 (List.mem_of_getElem? (i := 169) rfl)
set_option maxRecDepth 20000 in
theorem jx_lay_56 : jx_lay 56 ∈ tables_1 := jx_t9 (List.mem_of_getElem? (i := 171) rfl)
set_option maxRecDepth 20000 in
theorem jx_lay_57 : jx_lay 57 ∈ tables_1 := jx_t9 (List.mem_of_getElem? (i := 173) rfl)
set_option maxRecDepth 20000 in
theorem jx_lay_58 : jx_lay 58 ∈ tables_1 := jx_t9 (List.mem_of_getElem? (i := 175) rfl)
set_option maxRecDepth 20000 in
theorem jx_lay_59 : jx_lay 59 ∈ tables_1 := jx_t9 (List.mem_of_getElem? (i := 177) rfl)
set_option maxRecDepth 20000 in
theorem jx_lay_60 : jx_lay 60 ∈ tables_1 := jx_t9 (List.mem_of_getElem? (i := 179) rfl)
set_option maxRecDepth 20000 in
theorem jx_lay_61 : jx_lay 61 ∈ tables_1 := jx_t9 (List.mem_of_getElem? (i := 181) rfl)
set_option maxRecDepth 20000 in
theorem jx_lay_62 : jx_lay 62 ∈ tables_1 := jx_t9 (List.mem_of_getElem? (i := 183) rfl)
set_option maxRecDepth 20000 in
theorem jx_lay_63 : jx_lay 63 ∈ tables_1 := jx_t9 (List.mem_of_getElem? (i := 185) rfl)
set_option maxRecDepth 20000 in
theorem jx_lay_64 : jx_lay 64 ∈ tables_1 := jx_t9 (List.mem_of_getElem? (i := 187) rfl)
set_option maxRecDepth 20000 in
theorem jx_lay_65 : jx_lay 65 ∈ tables_1 := jx_t9 (List.mem_of_getElem? (i := 189) rfl)
set_option maxRecDepth 20000 in
theorem jx_lay_66 : jx_lay 66 ∈ tables_1 := jx_t9 (List.mem_of_getElem? (i := 191) rfl)
set_option maxRecDepth 20000 in
theorem jx_lay_67 : jx_lay 67 ∈ tables_1 := jx_t9 (List.mem_of_getElem? (i := 193) rfl)
set_option maxRecDepth 20000 in
theorem jx_lay_68 : jx_lay 68 ∈ tables_1 := jx_t9 (List.mem_of_getElem? (i := 195) rfl)
set_option maxRecDepth 20000 in
theorem jx_lay_69 : jx_lay 69 ∈ tables_1 := jx_t9 (List.mem_of_getElem? (i := 197) rfl)
set_option maxRecDepth 20000 in
theorem jx_lay_70 : jx_lay 70 ∈ tables_1 := jx_t9 (List.mem_of_getElem? (i := 199) rfl)
set_option maxRecDepth 20000 in
theorem jx_lay_71 : jx_lay 71 ∈ tables_1 := jx_t9 (List.mem_of_getElem? (i := 201) rfl)
set_option maxRecDepth 20000 in
theorem jx_lay_72 : jx_lay 72 ∈ tables_1 := jx_t9 (List.mem_of_getElem? (i := 203) rfl)
set_option maxRecDepth 20000 in
theorem jx_lay_73 : jx_lay 73 ∈ tables_1 := jx_t9 (List.mem_of_getElem? (i := 205) rfl)
set_option maxRecDepth 20000 in
theorem jx_lay_74 : jx_lay 74 ∈ tables_1 := jx_t9 (List.mem_of_getElem? (i := 207) rfl)
set_option maxRecDepth 20000 in
theorem jx_lay_75 : jx_lay 75 ∈ tables_1 := jx_t9 (List.mem_of_getElem? (i := 209) rfl)
set_option maxRecDepth 20000 in
theorem jx_lay_76 : jx_lay 76 ∈ tables_1 := jx_t9 (List.mem_of_getElem? (i := 211) rfl)
set_option maxRecDepth 20000 in
theorem jx_lay_77 : jx_lay 77 ∈ tables_1 := jx_t9 (List.mem_of_getElem? (i := 213) rfl)
set_option maxRecDepth 20000 in
theorem jx_lay_78 : jx_lay 78 ∈ tables_1 := jx_t9 (List.mem_of_getElem? (i := 215) rfl)
set_option maxRecDepth 20000 in
theorem jx_lay_79 : jx_lay 79 ∈ tables_1 := jx_t9 (List.mem_of_getElem? (i := 217) rfl)
set_option maxRecDepth 20000 in
theorem jx_lay_80 : jx_lay 80 ∈ tables_1 := jx_t9 (List.mem_of_getElem? (i := 219) rfl)
set_option maxRecDepth 20000 in
theorem jx_lay_81 : jx_lay 81 ∈ tables_1 := jx_t9 (List.mem_of_getElem? (i := 221) rfl)
set_option maxRecDepth 20000 in
theorem jx_lay_82 : jx_lay 82 ∈ tables_1 := jx_t9 (List.mem_of_getElem? (i := 223) rfl)
set_option maxRecDepth 20000 in
theorem jx_lay_83 : jx_lay 83 ∈ tables_1 := jx_t9 (List.mem_of_getElem? (i := 225) rfl)
set_option maxRecDepth 20000 in
theorem jx_lay_84 : jx_lay 84 ∈ tables_1 := jx_t9 (List.mem_of_getElem? (i := 227) rfl)
set_option maxRecDepth 20000 in
theorem jx_lay_85 : jx_lay 85 ∈ tables_1 := jx_t9 (List.mem_of_getElem? (i := 229) rfl)
set_option maxRecDepth 20000 in
theorem jx_lay_86 : jx_lay 86 ∈ tables_1 := jx_t9 (List.mem_of_getElem? (i := 231) rfl)
set_option maxRecDepth 20000 in
theorem jx_lay_87 : jx_lay 87 ∈ tables_1 := jx_t9 (List.mem_of_getElem? (i := 233) rfl)
set_option maxRecDepth 20000 in
theorem jx_lay_88 : jx_lay 88 ∈ tables_1 := jx_t9 (List.mem_of_getElem? (i := 235) rfl)
set_option maxRecDepth 20000 in
theorem jx_lay_89 : jx_lay 89 ∈ tables_1 := jx_t9 (List.mem_of_getElem? (i := 237) rfl)
set_option maxRecDepth 20000 in
theorem jx_lay_90 : jx_lay 90 ∈ tables_1 := jx_t9 (List.mem_of_getElem? (i := 239) rfl)
set_option maxRecDepth 20000 in
theorem jx_lay_91 : jx_lay 91 ∈ tables_1 := jx_t10 (List.mem_of_getElem? (i := 1) rfl)
set_option maxRecDepth 20000 in
theorem jx_lay_92 : jx_lay 92 ∈ tables_1 := jx_t10 (List.mem_of_getElem? (i := 3) rfl)
set_option maxRecDepth 20000 in
theorem jx_lay_93 : jx_lay 93 ∈ tables_1 := jx_t10 (List.mem_of_getElem? (i := 5) rfl)
set_option maxRecDepth 20000 in
theorem jx_lay_94 : jx_lay 94 ∈ tables_1 := jx_t10 (List.mem_of_getElem? (i := 7) rfl)
set_option maxRecDepth 20000 in
theorem jx_lay_95 : jx_lay 95 ∈ tables_1 := jx_t10 (List.mem_of_getElem? (i := 9) rfl)
set_option maxRecDepth 20000 in
theorem jx_lay_96 : jx_lay 96 ∈ tables_1 := jx_t10 (List.mem_of_getElem? (i := 11) rfl)
set_option maxRecDepth 20000 in
theorem jx_lay_97 : jx_lay 97 ∈ tables_1 := jx_t10 (List.mem_of_getElem? (i := 13) rfl)
set_option maxRecDepth 20000 in
theorem jx_lay_98 : jx_lay 98 ∈ tables_1 := jx_t10 (List.mem_of_getElem? (i := 15) rfl)
set_option maxRecDepth 20000 in
theorem jx_lay_99 : jx_lay 99 ∈ tables_1 := jx_t10 (List.mem_of_getElem? (i := 17) rfl)
set_option maxRecDepth 20000 in
theorem jx_lay_100 : jx_lay 100 ∈ tables_1 := jx_t10 (List.mem_of_getElem? (i := 19) rfl)
set_option maxRecDepth 20000 in
theorem jx_lay_101 : jx_lay 101 ∈ tables_1 := jx_t4 (List.mem_of_getElem? (i := 227) rfl)
set_option maxRecDepth 20000 in
theorem jx_lay_102 : jx_lay 102 ∈ tables_1 := jx_t4 (List.mem_of_getElem? (i := 229) rfl)
set_option maxRecDepth 20000 in
theorem jx_lay_103 : jx_lay 103 ∈ tables_1 := jx_t4 (List.mem_of_getElem? (i := 231) rfl)
set_option maxRecDepth 20000 in
theorem jx_lay_104 : jx_lay 104 ∈ tables_1 := jx_t4 (List.mem_of_getElem? (i := 233) rfl)
set_option maxRecDepth 20000 in
theorem jx_lay_105 : jx_lay 105 ∈ tables_1 := jx_t4 (List.mem_of_getElem? (i := 235) rfl)
set_option maxRecDepth 20000 in
theorem jx_lay_106 : jx_lay 106 ∈ tables_1 := jx_t4 (List.mem_of_getElem? (i := 237) rfl)
set_option maxRecDepth 20000 in
theorem jx_lay_107 : jx_lay 107 ∈ tables_1 := jx_t4 (List.mem_of_getElem? (i := 239) rfl)
set_option maxRecDepth 20000 in
theorem jx_lay_108 : jx_lay 108 ∈ tables_1 := jx_t5 (List.mem_of_getElem? (i := 1) rfl)
set_option maxRecDepth 20000 in
theorem jx_lay_109 : jx_lay 109 ∈ tables_1 := jx_t5 (List.mem_of_getElem? (i := 3) rfl)
set_option maxRecDepth 20000 in
theorem jx_lay_110 : jx_lay 110 ∈ tables_1 := jx_t5 (List.mem_of_getElem? (i := 5) rfl)
set_option maxRecDepth 20000 in
theorem jx_lay_111 : jx_lay 111 ∈ tables_1 := jx_t5 (List.mem_of_getElem? (i := 7) rfl)
set_option maxRecDepth 20000 in
theorem jx_lay_112 : jx_lay 112 ∈ tables_1 := jx_t5 (List.mem_of_getElem? (i := 9) rfl)
set_option maxRecDepth 20000 in
theorem jx_lay_113 : jx_lay 113 ∈ tables_1 := jx_t5 (List.mem_of_getElem? (i := 11) rfl)
set_option maxRecDepth 20000 in
theorem jx_lay_114 : jx_lay 114 ∈ tables_1 := jx_t5 (List.mem_of_getElem? (i := 13) rfl)
set_option maxRecDepth 20000 in
theorem jx_lay_115 : jx_lay 115 ∈ tables_1 := jx_t5 (List.mem_of_getElem? (i := 15) rfl)
set_option maxRecDepth 20000 in
theorem jx_lay_116 : jx_lay 116 ∈ tables_1 := jx_t5 (List.mem_of_getElem? (i := 17) rfl)
set_option maxRecDepth 20000 in
theorem jx_lay_117 : jx_lay 117 ∈ tables_1 := jx_t5 (List.mem_of_getElem? (i := 19) rfl)
set_option maxRecDepth 20000 in
theorem jx_lay_118 : jx_lay 118 ∈ tables_1 := jx_t5 (List.mem_of_getElem? (i := 21) rfl)
set_option maxRecDepth 20000 in
theorem jx_lay_119 : jx_lay 119 ∈ tables_1 := jx_t5 (List.mem_of_getElem? (i := 23) rfl)
set_option maxRecDepth 20000 in
theorem jx_lay_120 : jx_lay 120 ∈ tables_1 := jx_t5 (List.mem_of_getElem? (i := 25) rfl)
set_option maxRecDepth 20000 in
theorem jx_lay_121 : jx_lay 121 ∈ tables_1 := jx_t5 (List.mem_of_getElem? (i := 27) rfl)
set_option maxRecDepth 20000 in
theorem jx_lay_122 : jx_lay 122 ∈ tables_1 := jx_t5 (List.mem_of_getElem? (i := 29) rfl)
set_option maxRecDepth 20000 in
theorem jx_lay_123 : jx_lay 123 ∈ tables_1 := jx_t5 (List.mem_of_getElem? (i := 31) rfl)
set_option maxRecDepth 20000 in
theorem jx_lay_124 : jx_lay 124 ∈ tables_1 := jx_t5 (List.mem_of_getElem? (i := 33) rfl)
set_option maxRecDepth 20000 in
theorem jx_lay_125 : jx_lay 125 ∈ tables_1 := jx_t5 (List.mem_of_getElem? (i := 35) rfl)
set_option maxRecDepth 20000 in
theorem jx_lay_126 : jx_lay 126 ∈ tables_1 := jx_t5 (List.mem_of_getElem? (i := 37) rfl)
set_option maxRecDepth 20000 in
theorem jx_lay_127 : jx_lay 127 ∈ tables_1 := jx_t5 (List.mem_of_getElem? (i := 39) rfl)
set_option maxRecDepth 20000 in
theorem jx_lay_128 : jx_lay 128 ∈ tables_1 := jx_t5 (List.mem_of_getElem? (i := 41) rfl)
set_option maxRecDepth 20000 in
theorem jx_lay_129 : jx_lay 129 ∈ tables_1 := jx_t5 (List.mem_of_getElem? (i := 43) rfl)
set_option maxRecDepth 20000 in
theorem jx_lay_130 : jx_lay 130 ∈ tables_1 := jx_t5 (List.mem_of_getElem? (i := 45) rfl)
set_option maxRecDepth 20000 in
theorem jx_lay_131 : jx_lay 131 ∈ tables_1 := jx_t5 (List.mem_of_getElem? (i := 47) rfl)
set_option maxRecDepth 20000 in
theorem jx_lay_132 : jx_lay 132 ∈ tables_1 := jx_t3 (List.mem_of_getElem? (i := 29) rfl)
set_option maxRecDepth 20000 in
theorem jx_lay_133 : jx_lay 133 ∈ tables_1 := jx_t3 (List.mem_of_getElem? (i := 31) rfl)
set_option maxRecDepth 20000 in
theorem jx_lay_134 : jx_lay 134 ∈ tables_1 := jx_t3 (List.mem_of_getElem? (i := 33) rfl)
set_option maxRecDepth 20000 in
theorem jx_lay_135 : jx_lay 135 ∈ tables_1 := jx_t3 (List.mem_of_getElem? (i := 35) rfl)
set_option maxRecDepth 20000 in
theorem jx_lay_136 : jx_lay 136 ∈ tables_1 := jx_t3 (List.mem_of_getElem? (i := 37) rfl)
set_option maxRecDepth 20000 in
theorem jx_lay_137 : jx_lay 137 ∈ tables_1 := jx_t3 (List.mem_of_getElem? (i := 39) rfl)
set_option maxRecDepth 20000 in
theorem jx_lay_138 : jx_lay 138 ∈ tables_1 := jx_t3 (List.mem_of_getElem? (i := 41) rfl)
set_option maxRecDepth 20000 in
theorem jx_lay_139 : jx_lay 139 ∈ tables_1 := jx_t3 (List.mem_of_getElem? (i := 43) rfl)
set_option maxRecDepth 20000 in
theorem jx_lay_140 : jx_lay 140 ∈ tables_1 := jx_t3 (List.mem_of_getElem? (i := 45) rfl)
set_option maxRecDepth 20000 in
theorem jx_lay_141 : jx_lay 141 ∈ tables_1 := jx_t3 (List.mem_of_getElem? (i := 47) rfl)
set_option maxRecDepth 20000 in
theorem jx_lay_142 : jx_lay 142 ∈ tables_1 := jx_t3 (List.mem_of_getElem? (i := 49) rfl)
set_option maxRecDepth 20000 in
theorem jx_lay_143 : jx_lay 143 ∈ tables_1 := jx_t1 (List.mem_of_getElem? (i := 205) rfl)
set_option maxRecDepth 20000 in
theorem jx_lay_144 : jx_lay 144 ∈ tables_1 := jx_t1 (List.mem_of_getElem? (i := 207) rfl)
set_option maxRecDepth 20000 in
theorem jx_lay_145 : jx_lay 145 ∈ tables_1 := jx_t1 (List.mem_of_getElem? (i := 209) rfl)
set_option maxRecDepth 20000 in
theorem jx_lay_146 : jx_lay 146 ∈ tables_1 := jx_t1 (List.mem_of_getElem? (i := 211) rfl)
set_option maxRecDepth 20000 in
theorem jx_lay_147 : jx_lay 147 ∈ tables_1 := jx_t1 (List.mem_of_getElem? (i := 213) rfl)
set_option maxRecDepth 20000 in
theorem jx_lay_148 : jx_lay 148 ∈ tables_1 := jx_t1 (List.mem_of_getElem? (i := 215) rfl)
set_option maxRecDepth 20000 in
theorem jx_lay_149 : jx_lay 149 ∈ tables_1 := jx_t1 (List.mem_of_getElem? (i := 217) rfl)
set_option maxRecDepth 20000 in
theorem jx_lay_150 : jx_lay 150 ∈ tables_1 := jx_t1 (List.mem_of_getElem? (i := 219) rfl)
set_option maxRecDepth 20000 in
theorem jx_lay_151 : jx_lay 151 ∈ tables_1 := jx_t1 (List.mem_of_getElem? (i := 221) rfl)
set_option maxRecDepth 20000 in
theorem jx_lay_152 : jx_lay 152 ∈ tables_1 := jx_t2 (List.mem_of_getElem? (i := 140) rfl)
set_option maxRecDepth 20000 in
theorem jx_lay_153 : jx_lay 153 ∈ tables_1 := jx_t2 (List.mem_of_getElem? (i := 142) rfl)
set_option maxRecDepth 20000 in
theorem jx_lay_154 : jx_lay 154 ∈ tables_1 := jx_t2 (List.mem_of_getElem? (i := 144) rfl)
set_option maxRecDepth 20000 in
theorem jx_lay_155 : jx_lay 155 ∈ tables_1 := jx_t2 (List.mem_of_getElem? (i := 146) rfl)
set_option maxRecDepth 20000 in
theorem jx_lay_156 : jx_lay 156 ∈ tables_1 := jx_t2 (List.mem_of_getElem? (i := 148) rfl)
set_option maxRecDepth 20000 in
theorem jx_lay_157 : jx_lay 157 ∈ tables_1 := jx_t2 (List.mem_of_getElem? (i := 150) rfl)
set_option maxRecDepth 20000 in
theorem jx_lay_158 : jx_lay 158 ∈ tables_1 := jx_t2 (List.mem_of_getElem? (i := 152) rfl)
set_option maxRecDepth 20000 in
theorem jx_lay_159 : jx_lay 159 ∈ tables_1 := jx_t2 (List.mem_of_getElem? (i := 154) rfl)
set_option maxRecDepth 20000 in
theorem jx_lay_160 : jx_lay 160 ∈ tables_1 := jx_t2 (List.mem_of_getElem? (i := 156) rfl)
set_option maxRecDepth 20000 in
theorem jx_lay_161 : jx_lay 161 ∈ tables_1 := jx_t3 (List.mem_of_getElem? (i := 78) rfl)
set_option maxRecDepth 20000 in
theorem jx_lay_162 : jx_lay 162 ∈ tables_1 := jx_t3 (List.mem_of_getElem? (i := 80) rfl)
set_option maxRecDepth 20000 in
theorem jx_lay_163 : jx_lay 163 ∈ tables_1 := jx_t3 (List.mem_of_getElem? (i := 82) rfl)
set_option maxRecDepth 20000 in
theorem jx_lay_164 : jx_lay 164 ∈ tables_1 := jx_t2 (List.mem_of_getElem? (i := 7) rfl)
set_option maxRecDepth 20000 in
theorem jx_lay_165 : jx_lay 165 ∈ tables_1 := jx_t2 (List.mem_of_getElem? (i := 9) rfl)
set_option maxRecDepth 20000 in
theorem jx_lay_166 : jx_lay 166 ∈ tables_1 := jx_t2 (List.mem_of_getElem? (i := 11) rfl)
set_option maxRecDepth 20000 in
theorem jx_lay_167 : jx_lay 167 ∈ tables_1 := jx_t2 (List.mem_of_getElem? (i := 13) rfl)
set_option maxRecDepth 20000 in
theorem jx_lay_168 : jx_lay 168 ∈ tables_1 := jx_t2 (List.mem_of_getElem? (i := 15) rfl)
set_option maxRecDepth 20000 in
theorem jx_lay_169 : jx_lay 169 ∈ tables_1 := jx_t2 (List.mem_of_getElem? (i := 17) rfl)
set_option maxRecDepth 20000 in
theorem jx_lay_170 : jx_lay 170 ∈ tables_1 := jx_t1 (List.mem_of_getElem? (i := 186) rfl)
set_option maxRecDepth 20000 in
theorem jx_lay_171 : jx_lay 171 ∈ tables_1 := jx_t1 (List.mem_of_getElem? (i := 188) rfl)
set_option maxRecDepth 20000 in
theorem jx_lay_172 : jx_lay 172 ∈ tables_1 := jx_t1 (List.mem_of_getElem? (i := 190) rfl)
set_option maxRecDepth 20000 in
theorem jx_lay_173 : jx_lay 173 ∈ tables_1 := jx_t1 (List.mem_of_getElem? (i := 192) rfl)
set_option maxRecDepth 20000 in
theorem jx_lay_174 : jx_lay 174 ∈ tables_1 := jx_t2 (List.mem_of_getElem? (i := 199) rfl)
set_option maxRecDepth 20000 in
theorem jx_lay_175 : jx_lay 175 ∈ tables_1 := jx_t2 (List.mem_of_getElem? (i := 201) rfl)
set_option maxRecDepth 20000 in
theorem jx_lay_176 : jx_lay 176 ∈ tables_1 := jx_t2 (List.mem_of_getElem? (i := 203) rfl)
set_option maxRecDepth 20000 in
theorem jx_lay_177 : jx_lay 177 ∈ tables_1 := jx_t2 (List.mem_of_getElem? (i := 205) rfl)
set_option maxRecDepth 20000 in
theorem jx_lay_178 : jx_lay 178 ∈ tables_1 := jx_t2 (List.mem_of_getElem? (i := 207) rfl)
set_option maxRecDepth 20000 in
theorem jx_lay_179 : jx_lay 179 ∈ tables_1 := jx_t2 (List.mem_of_getElem? (i := 209) rfl)
set_option maxRecDepth 20000 in
theorem jx_lay_180 : jx_lay 180 ∈ tables_1 := jx_t2 (List.mem_of_getElem? (i := 211) rfl)
set_option maxRecDepth 20000 in
theorem jx_lay_181 : jx_lay 181 ∈ tables_1 := jx_t2 (List.mem_of_getElem? (i := 213) rfl)
set_option maxRecDepth 20000 in
theorem jx_lay_182 : jx_lay 182 ∈ tables_1 := jx_t2 (List.mem_of_getElem? (i := 215) rfl)
set_option maxRecDepth 20000 in
theorem jx_lay_183 : jx_lay 183 ∈ tables_1 := jx_t2 (List.mem_of_getElem? (i := 61) rfl)
set_option maxRecDepth 20000 in
theorem jx_lay_184 : jx_lay 184 ∈ tables_1 := jx_t2 (List.mem_of_getElem? (i := 63) rfl)
set_option maxRecDepth 20000 in
theorem jx_lay_185 : jx_lay 185 ∈ tables_1 := jx_t2 (List.mem_of_getElem? (i := 65) rfl)
set_option maxRecDepth 20000 in
theorem jx_lay_186 : jx_lay 186 ∈ tables_1 := jx_t2 (List.mem_of_getElem? (i := 67) rfl)
set_option maxRecDepth 20000 in
theorem jx_lay_187 : jx_lay 187 ∈ tables_1 := jx_t2 (List.mem_of_getElem? (i := 69) rfl)
set_option maxRecDepth 20000 in
theorem jx_lay_188 : jx_lay 188 ∈ tables_1 := jx_t2 (List.mem_of_getElem? (i := 71) rfl)
set_option maxRecDepth 20000 in
theorem jx_lay_189 : jx_lay 189 ∈ tables_1 := jx_t2 (List.mem_of_getElem? (i := 73) rfl)
set_option maxRecDepth 20000 in
theorem jx_lay_190 : jx_lay 190 ∈ tables_1 := jx_t2 (List.mem_of_getElem? (i := 75) rfl)
set_option maxRecDepth 20000 in
theorem jx_lay_191 : jx_lay 191 ∈ tables_1 := jx_t2 (List.mem_of_getElem? (i := 77) rfl)
set_option maxRecDepth 20000 in
theorem jx_lay_192 : jx_lay 192 ∈ tables_1 := jx_t2 (List.mem_of_getElem? (i := 79) rfl)
set_option maxRecDepth 20000 in
theorem jx_lay_193 : jx_lay 193 ∈ tables_1 := jx_t2 (List.mem_of_getElem? (i := 81) rfl)
set_option maxRecDepth 20000 in
theorem jx_lay_194 : jx_lay 194 ∈ tables_1 := jx_t2 (List.mem_of_getElem? (i := 83) rfl)
set_option maxRecDepth 20000 in
theorem jx_lay_195 : jx_lay 195 ∈ tables_1 := jx_t4 (List.mem_of_getElem? (i := 47) rfl)
set_option maxRecDepth 20000 in
theorem jx_lay_196 : jx_lay 196 ∈ tables_1 := jx_t4 (List.mem_of_getElem? (i := 49) rfl)
set_option maxRecDepth 20000 in
theorem jx_lay_197 : jx_lay 197 ∈ tables_1 := jx_t4 (List.mem_of_getElem? (i := 51) rfl)
set_option maxRecDepth 20000 in
theorem jx_lay_198 : jx_lay 198 ∈ tables_1 := jx_t4 (List.mem_of_getElem? (i := 53) rfl)
set_option maxRecDepth 20000 in
theorem jx_lay_199 : jx_lay 199 ∈ tables_1 := jx_t4 (List.mem_of_getElem? (i := 55) rfl)
set_option maxRecDepth 20000 in
theorem jx_lay_200 : jx_lay 200 ∈ tables_1 := jx_t4 (List.mem_of_getElem? (i := 57) rfl)
set_option maxRecDepth 20000 in
theorem jx_lay_201 : jx_lay 201 ∈ tables_1 := jx_t4 (List.mem_of_getElem? (i := 59) rfl)
set_option maxRecDepth 20000 in
theorem jx_lay_202 : jx_lay 202 ∈ tables_1 := jx_t4 (List.mem_of_getElem? (i := 61) rfl)
set_option maxRecDepth 20000 in
theorem jx_lay_203 : jx_lay 203 ∈ tables_1 := jx_t4 (List.mem_of_getElem? (i := 63) rfl)
set_option maxRecDepth 20000 in
theorem jx_lay_204 : jx_lay 204 ∈ tables_1 := jx_t4 (List.mem_of_getElem? (i := 65) rfl)
set_option maxRecDepth 20000 in
theorem jx_lay_205 : jx_lay 205 ∈ tables_1 := jx_t4 (List.mem_of_getElem? (i := 67) rfl)
set_option maxRecDepth 20000 in
theorem jx_lay_206 : jx_lay 206 ∈ tables_1 := jx_t4 (List.mem_of_getElem? (i := 69) rfl)
set_option maxRecDepth 20000 in
theorem jx_lay_207 : jx_lay 207 ∈ tables_1 := jx_t4 (List.mem_of_getElem? (i := 71) rfl)
set_option maxRecDepth 20000 in
theorem jx_lay_208 : jx_lay 208 ∈ tables_1 := jx_t4 (List.mem_of_getElem? (i := 73) rfl)
set_option maxRecDepth 20000 in
theorem jx_lay_209 : jx_lay 209 ∈ tables_1 := jx_t4 (List.mem_of_getElem? (i := 75) rfl)
set_option maxRecDepth 20000 in
theorem jx_lay_210 : jx_lay 210 ∈ tables_1 := jx_t4 (List.mem_of_getElem? (i := 77) rfl)
set_option maxRecDepth 20000 in
theorem jx_lay_211 : jx_lay 211 ∈ tables_1 := jx_t4 (List.mem_of_getElem? (i := 79) rfl)
set_option maxRecDepth 20000 in
theorem jx_lay_212 : jx_lay 212 ∈ tables_1 := jx_t4 (List.mem_of_getElem? (i := 81) rfl)
set_option maxRecDepth 20000 in
theorem jx_lay_213 : jx_lay 213 ∈ tables_1 := jx_t4 (List.mem_of_getElem? (i := 83) rfl)
set_option maxRecDepth 20000 in
theorem jx_lay_214 : jx_lay 214 ∈ tables_1 := jx_t4 (List.mem_of_getElem? (i := 85) rfl)
set_option maxRecDepth 20000 in
theorem jx_lay_215 : jx_lay 215 ∈ tables_1 := jx_t4 (List.mem_of_getElem? (i := 87) rfl)
set_option maxRecDepth 20000 in
theorem jx_lay_216 : jx_lay 216 ∈ tables_1 := jx_t4 (List.mem_of_getElem? (i := 89) rfl)
set_option maxRecDepth 20000 in
theorem jx_lay_217 : jx_lay 217 ∈ tables_1 := jx_t4 (List.mem_of_getElem? (i := 91) rfl)
set_option maxRecDepth 20000 in
theorem jx_lay_218 : jx_lay 218 ∈ tables_1 := jx_t4 (List.mem_of_getElem? (i := 93) rfl)
set_option maxRecDepth 20000 in
theorem jx_lay_219 : jx_lay 219 ∈ tables_1 := jx_t4 (List.mem_of_getElem? (i := 95) rfl)
set_option maxRecDepth 20000 in
theorem jx_lay_220 : jx_lay 220 ∈ tables_1 := jx_t4 (List.mem_of_getElem? (i := 97) rfl)
set_option maxRecDepth 20000 in
theorem jx_lay_221 : jx_lay 221 ∈ tables_1 := jx_t4 (List.mem_of_getElem? (i := 99) rfl)
set_option maxRecDepth 20000 in
theorem jx_lay_222 : jx_lay 222 ∈ tables_1 := jx_t4 (List.mem_of_getElem? (i := 101) rfl)
set_option maxRecDepth 20000 in
theorem jx_lay_223 : jx_lay 223 ∈ tables_1 := jx_t4 (List.mem_of_getElem? (i := 103) rfl)
set_option maxRecDepth 20000 in
theorem jx_lay_224 : jx_lay 224 ∈ tables_1 := jx_t4 (List.mem_of_getElem? (i := 105) rfl)
set_option maxRecDepth 20000 in
theorem jx_lay_225 : jx_lay 225 ∈ tables_1 := jx_t4 (List.mem_of_getElem? (i := 107) rfl)
set_option maxRecDepth 20000 in
theorem jx_lay_226 : jx_lay 226 ∈ tables_1 := jx_t4 (List.mem_of_getElem? (i := 109) rfl)
set_option maxRecDepth 20000 in
theorem jx_lay_227 : jx_lay 227 ∈ tables_1 := jx_t4 (List.mem_of_getElem? (i := 111) rfl)
set_option maxRecDepth 20000 in
theorem jx_lay_228 : jx_lay 228 ∈ tables_1 := jx_t4 (List.mem_of_getElem? (i := 113) rfl)
set_option maxRecDepth 20000 in
theorem jx_lay_229 : jx_lay 229 ∈ tables_1 := jx_t4 (List.mem_of_getElem? (i := 115) rfl)
set_option maxRecDepth 20000 in
theorem jx_lay_230 : jx_lay 230 ∈ tables_1 := jx_t4 (List.mem_of_getElem? (i := 117) rfl)
set_option maxRecDepth 20000 in
theorem jx_lay_231 : jx_lay 231 ∈ tables_1 := jx_t4 (List.mem_of_getElem? (i := 119) rfl)
set_option maxRecDepth 20000 in
theorem jx_lay_232 : jx_lay 232 ∈ tables_1 := jx_t4 (List.mem_of_getElem? (i := 121) rfl)
set_option maxRecDepth 20000 in
theorem jx_lay_233 : jx_lay 233 ∈ tables_1 := jx_t4 (List.mem_of_getElem? (i := 123) rfl)
set_option maxRecDepth 20000 in
theorem jx_lay_234 : jx_lay 234 ∈ tables_1 := jx_t4 (List.mem_of_getElem? (i := 125) rfl)
set_option maxRecDepth 20000 in
theorem jx_lay_235 : jx_lay 235 ∈ tables_1 := jx_t4 (List.mem_of_getElem? (i := 127) rfl)
set_option maxRecDepth 20000 in
theorem jx_lay_236 : jx_lay 236 ∈ tables_1 := jx_t4 (List.mem_of_getElem? (i := 129) rfl)
set_option maxRecDepth 20000 in
theorem jx_lay_237 : jx_lay 237 ∈ tables_1 := jx_t1 (List.mem_of_getElem? (i := 138) rfl)
set_option maxRecDepth 20000 in
theorem jx_lay_238 : jx_lay 238 ∈ tables_1 := jx_t1 (List.mem_of_getElem? (i := 140) rfl)
set_option maxRecDepth 20000 in
theorem jx_lay_239 : jx_lay 239 ∈ tables_1 := jx_t1 (List.mem_of_getElem? (i := 142) rfl)
set_option maxRecDepth 20000 in
theorem jx_lay_240 : jx_lay 240 ∈ tables_1 := jx_t1 (List.mem_of_getElem? (i := 144) rfl)
set_option maxRecDepth 20000 in
theorem jx_lay_241 : jx_lay 241 ∈ tables_1 := jx_t1 (List.mem_of_getElem? (i := 146) rfl)
set_option maxRecDepth 20000 in
theorem jx_lay_242 : jx_lay 242 ∈ tables_1 := jx_t1 (List.mem_of_getElem? (i := 148) rfl)
set_option maxRecDepth 20000 in
theorem jx_lay_243 : jx_lay 243 ∈ tables_1 := jx_t1 (List.mem_of_getElem? (i := 150) rfl)
set_option maxRecDepth 20000 in
theorem jx_lay_244 : jx_lay 244 ∈ tables_1 := jx_t1 (List.mem_of_getElem? (i := 152) rfl)
set_option maxRecDepth 20000 in
theorem jx_lay_245 : jx_lay 245 ∈ tables_1 := jx_t1 (List.mem_of_getElem? (i := 154) rfl)
set_option maxRecDepth 20000 in
theorem jx_lay_246 : jx_lay 246 ∈ tables_1 := jx_t1 (List.mem_of_getElem? (i := 103) rfl)
set_option maxRecDepth 20000 in
theorem jx_lay_247 : jx_lay 247 ∈ tables_1 := jx_t1 (List.mem_of_getElem? (i := 105) rfl)
set_option maxRecDepth 20000 in
theorem jx_lay_248 : jx_lay 248 ∈ tables_1 := jx_t3 (List.mem_of_getElem? (i := 141) rfl)
set_option maxRecDepth 20000 in
theorem jx_lay_249 : jx_lay 249 ∈ tables_1 := jx_t3 (List.mem_of_getElem? (i := 143) rfl)
set_option maxRecDepth 20000 in
theorem jx_lay_250 : jx_lay 250 ∈ tables_1 := jx_t3 (List.mem_of_getElem? (i := 145) rfl)
set_option maxRecDepth 20000 in
theorem jx_lay_251 : jx_lay 251 ∈ tables_1 := jx_t3 (List.mem_of_getElem? (i := 147) rfl)
set_option maxRecDepth 20000 in
theorem jx_lay_252 : jx_lay 252 ∈ tables_1 := jx_t3 (List.mem_of_getElem? (i := 149) rfl)
set_option maxRecDepth 20000 in
theorem jx_lay_253 : jx_lay 253 ∈ tables_1 := jx_t3 (List.mem_of_getElem? (i := 151) rfl)
set_option maxRecDepth 20000 in
theorem jx_lay_254 : jx_lay 254 ∈ tables_1 := jx_t3 (List.mem_of_getElem? (i := 153) rfl)
set_option maxRecDepth 20000 in
theorem jx_lay_255 : jx_lay 255 ∈ tables_1 := jx_t3 (List.mem_of_getElem? (i := 155) rfl)
set_option maxRecDepth 20000 in
theorem jx_lay_256 : jx_lay 256 ∈ tables_1 := jx_t3 (List.mem_of_getElem? (i := 157) rfl)
set_option maxRecDepth 20000 in
theorem jx_lay_257 : jx_lay 257 ∈ tables_1 := jx_t3 (List.mem_of_getElem? (i := 159) rfl)
set_option maxRecDepth 20000 in
theorem jx_lay_258 : jx_lay 258 ∈ tables_1 := jx_t3 (List.mem_of_getElem? (i := 161) rfl)
set_option maxRecDepth 20000 in
theorem jx_lay_259 : jx_lay 259 ∈ tables_1 := jx_t3 (List.mem_of_getElem? (i := 163) rfl)
set_option maxRecDepth 20000 in
theorem jx_lay_260 : jx_lay 260 ∈ tables_1 := jx_t3 (List.mem_of_getElem? (i := 165) rfl)
set_option maxRecDepth 20000 in
theorem jx_lay_261 : jx_lay 261 ∈ tables_1 := jx_t3 (List.mem_of_getElem? (i := 167) rfl)
set_option maxRecDepth 20000 in
theorem jx_lay_262 : jx_lay 262 ∈ tables_1 := jx_t3 (List.mem_of_getElem? (i := 169) rfl)
set_option maxRecDepth 20000 in
theorem jx_lay_263 : jx_lay 263 ∈ tables_1 := jx_t3 (List.mem_of_getElem? (i := 171) rfl)
set_option maxRecDepth 20000 in
theorem jx_lay_264 : jx_lay 264 ∈ tables_1 := jx_t3 (List.mem_of_getElem? (i := 173) rfl)
set_option maxRecDepth 20000 in
theorem jx_lay_265 : jx_lay 265 ∈ tables_1 := jx_t3 (List.mem_of_getElem? (i := 175) rfl)
set_option maxRecDepth 20000 in
theorem jx_lay_266 : jx_lay 266 ∈ tables_1 := jx_t3 (List.mem_of_getElem? (i := 177) rfl)
set_option maxRecDepth 20000 in
theorem jx_lay_267 : jx_lay 267 ∈ tables_1 := jx_t2 (List.mem_of_getElem? (i := 28) rfl)
set_option maxRecDepth 20000 in
theorem jx_lay_268 : jx_lay 268 ∈ tables_1 := jx_t2 (List.mem_of_getElem? (i := 30) rfl)
set_option maxRecDepth 20000 in
theorem jx_lay_269 : jx_lay 269 ∈ tables_1 := jx_t2 (List.mem_of_getElem? (i := 32) rfl)
set_option maxRecDepth 20000 in
theorem jx_lay_270 : jx_lay 270 ∈ tables_1 := jx_t2 (List.mem_of_getElem? (i := 34) rfl)
set_option maxRecDepth 20000 in
theorem jx_lay_271 : jx_lay 271 ∈ tables_1 := jx_t2 (List.mem_of_getElem? (i := 36) rfl)
set_option maxRecDepth 20000 in
theorem jx_lay_272 : jx_lay 272 ∈ tables_1 := jx_t2 (List.mem_of_getElem? (i := 38) rfl)
set_option maxRecDepth 20000 in
theorem jx_lay_273 : jx_lay 273 ∈ tables_1 := jx_t2 (List.mem_of_getElem? (i := 40) rfl)
set_option maxRecDepth 20000 in
theorem jx_lay_274 : jx_lay 274 ∈ tables_1 := jx_t4 (List.mem_of_getElem? (i := 167) rfl)
set_option maxRecDepth 20000 in
theorem jx_lay_275 : jx_lay 275 ∈ tables_1 := jx_t4 (List.mem_of_getElem? (i := 169) rfl)
set_option maxRecDepth 20000 in
theorem jx_lay_276 : jx_lay 276 ∈ tables_1 := jx_t4 (List.mem_of_getElem? (i := 171) rfl)
set_option maxRecDepth 20000 in
theorem jx_lay_277 : jx_lay 277 ∈ tables_1 := jx_t4 (List.mem_of_getElem? (i := 173) rfl)
set_option maxRecDepth 20000 in
theorem jx_lay_278 : jx_lay 278 ∈ tables_1 := jx_t4 (List.mem_of_getElem? (i := 175) rfl)
set_option maxRecDepth 20000 in
theorem jx_lay_279 : jx_lay 279 ∈ tables_1 := jx_t4 (List.mem_of_getElem? (i := 177) rfl)
set_option maxRecDepth 20000 in
theorem jx_lay_280 : jx_lay 280 ∈ tables_1 := jx_t4 (List.mem_of_getElem? (i := 179) rfl)
set_option maxRecDepth 20000 in
theorem jx_lay_281 : jx_lay 281 ∈ tables_1 := jx_t4 (List.mem_of_getElem? (i := 181) rfl)
set_option maxRecDepth 20000 in
theorem jx_lay_282 : jx_lay 282 ∈ tables_1 := jx_t4 (List.mem_of_getElem? (i := 183) rfl)
set_option maxRecDepth 20000 in
theorem jx_lay_283 : jx_lay 283 ∈ tables_1 := jx_t4 (List.mem_of_getElem? (i := 185) rfl)
set_option maxRecDepth 20000 in
theorem jx_lay_284 : jx_lay 284 ∈ tables_1 := jx_t4 (List.mem_of_getElem? (i := 187) rfl)
set_option maxRecDepth 20000 in
theorem jx_lay_285 : jx_lay 285 ∈ tables_1 := jx_t4 (List.mem_of_getElem? (i := 189) rfl)
set_option maxRecDepth 20000 in
theorem jx_lay_286 : jx_lay 286 ∈ tables_1 := jx_t4 (List.mem_of_getElem? (i := 191) rfl)
set_option maxRecDepth 20000 in
theorem jx_lay_287 : jx_lay 287 ∈ tables_1 := jx_t4 (List.mem_of_getElem? (i := 193) rfl)
theorem jx_layc_0 : ∀ g ∈ ([1, 2, 3, 4, 5, 6, 7, 8, 9, 10, 11, 12, 13, 14, 15, 16, 17, 18, 19, 20, 21, 22, 23, 24] : List Nat), jx_lay g ∈ tables_1 := List.forall_mem_cons.mpr ⟨jx_lay_1, List.forall_mem_cons.mpr ⟨jx_lay_2, List.forall_mem_cons.mpr ⟨jx_lay_3, List.forall_mem_cons.mpr ⟨jx_lay_4, List.forall_mem_cons.mpr ⟨jx_lay_5, List.forall_mem_cons.mpr ⟨jx_lay_6, List.forall_mem_cons.mpr ⟨jx_lay_7, List.forall_mem_cons.mpr ⟨jx_lay_8, List.forall_mem_cons.mpr ⟨jx_lay_9, List.forall_mem_cons.mpr ⟨jx_lay_10, List.forall_mem_cons.mpr ⟨jx_lay_11, List.forall_mem_cons.mpr ⟨jx_lay_12, List.forall_mem_cons.mpr ⟨jx_lay_13, List.forall_mem_cons.mpr ⟨jx_lay_14, List.forall_mem_cons.mpr ⟨jx_lay_15, List.forall_mem_cons.mpr ⟨jx_lay_16, List.forall_mem_cons.mpr ⟨jx_lay_17, List.forall_mem_cons.mpr ⟨jx_lay_18, List.forall_mem_cons.mpr ⟨jx_lay_19, List.forall_mem_cons.mpr ⟨jx_lay_20, List.forall_mem_cons.mpr ⟨jx_lay_21, List.forall_mem_cons.mpr ⟨jx_lay_22, List.forall_mem_cons.mpr ⟨jx_lay_23, List.forall_mem_cons.mpr ⟨jx_lay_24, fun _ h => absurd h List.not_mem_nil⟩⟩⟩⟩⟩⟩⟩⟩⟩⟩⟩⟩⟩⟩⟩⟩⟩⟩⟩⟩⟩⟩⟩⟩
theorem jx_layc_1 : ∀ g ∈ ([25, 26, 27, 28, 29, 30, 31, 32, 33, 34, 35, 36, 37, 38, 39, 40, 41, 42, 43, 44, 45, 46, 47, 48] : List Nat), jx_lay g ∈ tables_1 := List.forall_mem_cons.mpr ⟨jx_lay_25, List.forall_mem_cons.mpr ⟨jx_lay_26, List.forall_mem_cons.mpr ⟨jx_lay_27, List.forall_mem_cons.mpr ⟨jx_lay_28, List.forall_mem_cons.mpr ⟨jx_lay_29, List.forall_mem_cons.mpr ⟨jx_lay_30, List.forall_mem_cons.mpr ⟨jx_lay_31, List.forall_mem_cons.mpr ⟨jx_lay_32, List.forall_mem_cons.mpr ⟨jx_lay_33, List.forall_mem_cons.mpr ⟨jx_lay_34, List.forall_mem_cons.mpr ⟨jx_lay_35, List.forall_mem_cons.mpr ⟨jx_lay_36, List.forall_mem_cons.mpr ⟨jx_lay_37, List.forall_mem_cons.mpr ⟨jx_lay_38, List.forall_mem_cons.mpr ⟨jx_lay_39, List.forall_mem_cons.mpr ⟨jx_lay_40, List.forall_mem_cons.mpr ⟨jx_lay_41, List.forall_mem_cons.mpr ⟨jx_lay_42, List.forall_mem_cons.mpr ⟨jx_lay_43, List.forall_mem_cons.mpr ⟨jx_lay_44, List.forall_mem_cons.mpr ⟨jx_lay_45, List.forall_mem_cons.mpr ⟨jx_lay_46, List.forall_mem_cons.mpr ⟨jx_lay_47, List.forall_mem_cons.mpr ⟨jx_lay_48, fun _ h => absurd h List.not_mem_nil⟩⟩⟩⟩⟩⟩⟩⟩⟩⟩⟩⟩⟩⟩⟩⟩⟩⟩⟩⟩⟩⟩⟩⟩
theorem jx_layc_2 : ∀ g ∈ ([49, 50, 51, 52, 53, 54, 55, 56, 57, 58, 59, 60, 61, 62, 63, 64, 65, 66, 67, 68, 69, 70, 71, 72] : List Nat), jx_lay g ∈ tables_1 := List.forall_mem_cons.mpr ⟨jx_lay_49, List.forall_mem_cons.mpr ⟨jx_lay_50, List.forall_mem_cons.mpr ⟨jx_lay_51, List.forall_mem_cons.mpr ⟨jx_lay_52, List.forall_mem_cons.mpr ⟨jx_lay_53, List.forall_mem_cons.mpr ⟨jx_lay_54, List.forall_mem_cons.mpr ⟨jx_lay_55, List.forall_mem_cons.mpr ⟨jx_lay_56, List.forall_mem_cons.mpr ⟨jx_lay_57, List.forall_mem_cons.mpr ⟨jx_lay_58, List.forall_mem_cons.mpr ⟨jx_lay_59, List.forall_mem_cons.mpr ⟨jx_lay_60, List.forall_mem_cons.mpr ⟨jx_lay_61, List.forall_mem_cons.mpr ⟨jx_lay_62, List.forall_mem_cons.mpr ⟨jx_lay_63, List.forall_mem_cons.mpr ⟨jx_lay_64, List.forall_mem_cons.mpr ⟨jx_lay_65, List.forall_mem_cons.mpr ⟨jx_lay_66, List.forall_mem_cons.mpr ⟨jx_lay_67, List.forall_mem_cons.mpr ⟨jx_lay_68, List.forall_mem_cons.mpr ⟨jx_lay_69, List.forall_mem_cons.mpr ⟨jx_lay_70, List.forall_mem_cons.mpr ⟨jx_lay_71, List.forall_mem_cons.mpr ⟨jx_lay_72, fun _ h => absurd h List.not_mem_nil⟩⟩⟩⟩⟩⟩⟩⟩⟩⟩⟩⟩⟩⟩⟩⟩⟩⟩⟩⟩⟩⟩⟩⟩
theorem jx_layc_3 : ∀ g ∈ ([73, 74, 75, 76, 77, 78, 79, 80, 81, 82, 83, 84, 85, 86, 87, 88, 89, 90, 91, 92, 93, 94, 95, 96] : List Nat), jx_lay g ∈ tables_1 := List.forall_mem_cons.mpr ⟨jx_lay_73, List.forall_mem_cons.mpr ⟨jx_lay_74, List.forall_mem_cons.mpr ⟨jx_lay_75, List.forall_mem_cons.mpr ⟨jx_lay_76, List.forall_mem_cons.mpr ⟨jx_lay_77, List.forall_mem_cons.mpr ⟨jx_lay_78, List.forall_mem_cons.mpr ⟨jx_lay_79, List.forall_mem_cons.mpr ⟨jx_lay_80, List.forall_mem_cons.mpr ⟨jx_lay_81, List.forall_mem_cons.mpr ⟨jx_lay_82, List.forall_mem_cons.mpr ⟨jx_lay_83, List.forall_mem_cons.mpr ⟨jx_lay_84, List.forall_mem_cons.mpr ⟨jx_lay_85, List.forall_mem_cons.mpr ⟨jx_lay_86, List.forall_mem_cons.mpr ⟨jx_lay_87, List.forall_mem_cons.mpr ⟨jx_lay_88, List.forall_mem_cons.mpr ⟨jx_lay_89, List.forall_mem_cons.mpr ⟨jx_lay_90, List.forall_mem_cons.mpr ⟨jx_lay_91, List.forall_mem_cons.mpr ⟨jx_lay_92, List.forall_mem_cons.mpr ⟨jx_lay_93, List.forall_mem_cons.mpr ⟨jx_lay_94, List.forall_mem_cons.mpr ⟨jx_lay_95, List.forall_mem_cons.mpr ⟨jx_lay_96, fun _ h => absurd h List.not_mem_nil⟩⟩⟩⟩⟩⟩⟩⟩⟩⟩⟩⟩⟩⟩⟩⟩⟩⟩⟩⟩⟩⟩⟩⟩
theorem jx_layc_4 : ∀ g ∈ ([97, 98, 99, 100, 101, 102, 103, 104, 105, 106, 107, 108, 109, 110, 111, 112, 113, 114, 115, 116, 117, 118, 119, 120] : List Nat), jx_lay g ∈ tables_1 := List.forall_mem_cons.mpr ⟨jx_lay_97, List.forall_mem_cons.mpr ⟨jx_lay_98, List.forall_mem_cons.mpr ⟨jx_lay_99, List.forall_mem_cons.mpr ⟨jx_lay_100, List.forall_mem_cons.mpr ⟨jx_lay_101, List.forall_mem_cons.mpr ⟨jx_lay_102, List.forall_mem_cons.mpr ⟨jx_lay_103, List.forall_mem_cons.mpr ⟨jx_lay_104, List.forall_mem_cons.mpr ⟨jx_lay_105, List.forall_mem_cons.mpr ⟨jx_lay_106, List.forall_mem_cons.mpr ⟨jx_lay_107, List.forall_mem_cons.mpr ⟨jx_lay_108, List.forall_mem_cons.mpr ⟨jx_lay_109, List.forall_mem_cons.mpr ⟨jx_lay_110, List.forall_mem_cons.mpr ⟨jx_lay_111, List.forall_mem_cons.mpr ⟨jx_lay_112, List.forall_mem_cons.mpr ⟨jx_lay_113, List.forall_mem_cons.mpr ⟨jx_lay_114, List.forall_mem_cons.mpr ⟨jx_lay_115, List.forall_mem_cons.mpr ⟨jx_lay_116, List.forall_mem_cons.mpr ⟨jx_lay_117, List.forall_mem_cons.mpr ⟨jx_lay_118, List.forall_mem_cons.mpr ⟨jx_lay_119, List.forall_mem_cons.mpr ⟨jx_lay_120, fun _ h => absurd h List.not_mem_nil⟩⟩⟩⟩⟩⟩⟩⟩⟩⟩⟩⟩⟩⟩⟩⟩⟩⟩⟩⟩⟩⟩⟩⟩
theorem jx_layc_5 : ∀ g ∈ ([121, 122, 123, 124, 125, 126, 127, 128, 129, 130, 131, 132, 133, 134, 135, 136, 137, 138, 139, 140, 141, 142, 143, 144] : List Nat), jx_lay g ∈ tables_1 := List.forall_mem_cons.mpr ⟨jx_lay_121, List.forall_mem_cons.mpr ⟨jx_lay_122, List.forall_mem_cons.mpr ⟨jx_lay_123, List.forall_mem_cons.mpr ⟨jx_lay_124, List.forall_mem_cons.mpr ⟨jx_lay_125, List.forall_mem_cons.mpr ⟨jx_lay_126, List.forall_mem_cons.mpr ⟨jx_lay_127, List.forall_mem_cons.mpr ⟨jx_lay_128, List.forall_mem_cons.mpr ⟨jx_lay_129, List.forall_mem_cons.mpr ⟨jx_lay_130, List.forall_mem_cons.mpr ⟨jx_lay_131, List.forall_mem_cons.mpr ⟨jx_lay_132, List.forall_mem_cons.mpr ⟨jx_lay_133, List.forall_mem_cons.mpr ⟨jx_lay_134, List.forall_mem_cons.mpr ⟨jx_lay_135, List.forall_mem_cons.mpr ⟨jx_lay_136, List.forall_mem_cons.mpr ⟨jx_lay_137, List.forall_mem_cons.mpr ⟨jx_lay_138, List.forall_mem_cons.mpr ⟨jx_lay_139, List.forall_mem_cons.mpr ⟨jx_lay_140, List.forall_mem_cons.mpr ⟨jx_lay_141, List.forall_mem_cons.mpr ⟨jx_lay_142, List.forall_mem_cons.mpr ⟨jx_lay_143, List.forall_mem_cons.mpr ⟨jx_lay_144, fun _ h => absurd h List.not_mem_nil⟩⟩⟩⟩⟩⟩⟩⟩⟩⟩⟩⟩⟩⟩⟩⟩⟩⟩⟩⟩⟩⟩⟩⟩
theorem jx_layc_6 : ∀ g ∈ ([145, 146, 147, 148, 149, 150, 151, 152, 153, 154, 155, 156, 157, 158, 159, 160, 161, 162, 163, 164, 165, 166, 167, 168] : List Nat), jx_lay g ∈ tables_1 := List.forall_mem_cons.mpr ⟨jx_lay_145, List.forall_mem_cons.mpr ⟨jx_lay_146, List.forall_mem_cons.mpr ⟨jx_lay_147, List.forall_mem_cons.mpr ⟨jx_lay_148, List.forall_mem_cons.mpr ⟨jx_lay_149, List.forall_mem_cons.mpr ⟨jx_lay_150, List.forall_mem_cons.mpr ⟨jx_lay_151, List.forall_mem_cons.mpr ⟨jx_lay_152, List.forall_mem_cons.mpr ⟨jx_lay_153, List.forall_mem_cons.mpr ⟨jx_lay_154, List.forall_mem_cons.mpr ⟨jx_lay_155, List.forall_mem_cons.mpr ⟨jx_lay_156, List.forall_mem_cons.mpr ⟨jx_lay_157, List.forall_mem_cons.mpr ⟨jx_lay_158, List.forall_mem_cons.mpr ⟨jx_lay_159, List.forall_mem_cons.mpr ⟨jx_lay_160, List.forall_mem_cons.mpr ⟨jx_lay_161, List.forall_mem_cons.mpr ⟨jx_lay_162, List.forall_mem_cons.mpr ⟨jx_lay_163, List.forall_mem_cons.mpr ⟨jx_lay_164, List.forall_mem_cons.mpr ⟨jx_lay_165, List.forall_mem_cons.mpr ⟨jx_lay_166, List.forall_mem_cons.mpr ⟨jx_lay_167, List.forall_mem_cons.mpr ⟨jx_lay_168, fun _ h => absurd h List.not_mem_nil⟩⟩⟩⟩⟩⟩⟩⟩⟩⟩⟩⟩⟩⟩⟩⟩⟩⟩⟩⟩⟩⟩⟩⟩
theorem jx_layc_7 : ∀ g ∈ ([169, 170, 171, 172, 173, 174, 175, 176, 177, 178, 179, 180, 181, 182, 183, 184, 185, 186, 187, 188, 189, 190, 191, 192] : List Nat), jx_lay g ∈ tables_1 := List.forall_mem_cons.mpr ⟨jx_lay_169, List.forall_mem_cons.mpr ⟨jx_lay_170, List.forall_mem_cons.mpr ⟨jx_lay_171, List.forall_mem_cons.mpr ⟨jx_lay_172, List.forall_mem_cons.mpr ⟨jx_lay_173, List.forall_mem_cons.mpr ⟨jx_lay_174, List.forall_mem_cons.mpr ⟨jx_lay_175, List.forall_mem_cons.mpr ⟨jx_lay_176, List.forall_mem_cons.mpr ⟨jx_lay_177, List.forall_mem_cons.mpr ⟨jx_lay_178, List.forall_mem_cons.mpr ⟨jx_lay_179, List.forall_mem_cons.mpr ⟨jx_lay_180, List.forall_mem_cons.mpr ⟨jx_lay_181, List.forall_mem_cons.mpr ⟨jx_lay_182, List.forall_mem_cons.mpr ⟨jx_lay_183, List.forall_mem_cons.mpr ⟨jx_lay_184, List.forall_mem_cons.mpr ⟨jx_lay_185, List.forall_mem_cons.mpr ⟨jx_lay_186, List.forall_mem_cons.mpr ⟨jx_lay_187, List.forall_mem_cons.mpr ⟨jx_lay_188, List.forall_mem_cons.mpr ⟨jx_lay_189, List.forall_mem_cons.mpr ⟨jx_lay_190, List.forall_mem_cons.mpr ⟨jx_lay_191, List.forall_mem_cons.mpr ⟨jx_lay_192, fun _ h => absurd h List.not_mem_nil⟩⟩⟩⟩⟩⟩⟩⟩⟩⟩⟩⟩⟩⟩⟩⟩⟩⟩⟩⟩⟩⟩⟩⟩
theorem jx_layc_8 : ∀ g ∈ ([193, 194, 195, 196, 197, 198, 199, 200, 201, 202, 203, 204, 205, 206, 207, 208, 209, 210, 211, 212, 213, 214, 215, 216] : List Nat), jx_lay g ∈ tables_1 := List.forall_mem_cons.mpr ⟨jx_lay_193, List.forall_mem_cons.mpr ⟨jx_lay_194, List.forall_mem_cons.mpr ⟨jx_lay_195, List.forall_mem_cons.mpr ⟨jx_lay_196, List.forall_mem_cons.mpr ⟨jx_lay_197, List.forall_mem_cons.mpr ⟨jx_lay_198, List.forall_mem_cons.mpr ⟨jx_lay_199, List.forall_mem_cons.mpr ⟨jx_lay_200, List.forall_mem_cons.mpr ⟨jx_lay_201, List.forall_mem_cons.mpr ⟨jx_lay_202, List.forall_mem_cons.mpr ⟨jx_lay_203, List.forall_mem_cons.mpr ⟨jx_lay_204, List.forall_mem_cons.mpr ⟨jx_lay_205, List.forall_mem_cons.mpr ⟨jx_lay_206, List.forall_mem_cons.mpr ⟨jx_lay_207, List.forall_mem_cons.mpr ⟨jx_lay_208, List.forall_mem_cons.mpr ⟨jx_lay_209, List.forall_mem_cons.mpr ⟨jx_lay_210, List.forall_mem_cons.mpr ⟨jx_lay_211, List.forall_mem_cons.mpr ⟨jx_lay_212, List.forall_mem_cons.mpr ⟨jx_lay_213, List.forall_mem_cons.mpr ⟨jx_lay_214, List.forall_mem_cons.mpr ⟨jx_lay_215, List.forall_mem_cons.mpr ⟨jx_lay_216, fun _ h => absurd h List.not_mem_nil⟩⟩⟩⟩⟩⟩⟩⟩⟩⟩⟩⟩⟩⟩⟩⟩⟩⟩⟩⟩⟩⟩⟩⟩
theorem jx_layc_9 : ∀ g ∈ ([217, 218, 219, 220, 221, 222, 223, 224, 225, 226, 227, 228, 229, 230, 231, 232, 233, 234, 235, 236, 237, 238, 239, 240] : List Nat), jx_lay g ∈ tables_1 := List.forall_mem_cons.mpr ⟨jx_lay_217, List.forall_mem_cons.mpr ⟨jx_lay_218, List.forall_mem_cons.mpr ⟨jx_lay_219, List.forall_mem_cons.mpr ⟨jx_lay_220, List.forall_mem_cons.mpr ⟨jx_lay_221, List.forall_mem_cons.mpr ⟨jx_lay_222, List.forall_mem_cons.mpr ⟨jx_lay_223, List.forall_mem_cons.mpr ⟨jx_lay_224, List.forall_mem_cons.mpr ⟨jx_lay_225, List.forall_mem_cons.mpr ⟨jx_lay_226, List.forall_mem_cons.mpr ⟨jx_lay_227, List.forall_mem_cons.mpr ⟨jx_lay_228, List.forall_mem_cons.mpr ⟨jx_lay_229, List.forall_mem_cons.mpr ⟨jx_lay_230, List.forall_mem_cons.mpr ⟨jx_lay_231, List.forall_mem_cons.mpr ⟨jx_lay_232, List.forall_mem_cons.mpr ⟨jx_lay_233, List.forall_mem_cons.mpr ⟨jx_lay_234, List.forall_mem_cons.mpr ⟨jx_lay_235, List.forall_mem_cons.mpr ⟨jx_lay_236, List.forall_mem_cons.mpr ⟨jx_lay_237, List.forall_mem_cons.mpr ⟨jx_lay_238, List.forall_mem_cons.mpr ⟨jx_lay_239, List.forall_mem_cons.mpr ⟨jx_lay_240, fun _ h => absurd h List.not_mem_nil⟩⟩⟩⟩⟩⟩⟩⟩⟩⟩⟩⟩⟩⟩⟩⟩⟩⟩⟩⟩⟩⟩⟩⟩
theorem jx_layc_10 : ∀ g ∈ ([241, 242, 243, 244, 245, 246, 247, 248, 249, 250, 251, 252, 253, 254, 255, 256, 257, 258, 259, 260, 261, 262, 263, 264] : List Nat), jx_lay g ∈ tables_1 := List.forall_mem_cons.mpr ⟨jx_lay_241, List.forall_mem_cons.mpr ⟨jx_lay_242, List.forall_mem_cons.mpr ⟨jx_lay_243, List.forall_mem_cons.mpr ⟨jx_lay_244, List.forall_mem_cons.mpr ⟨jx_lay_245, List.forall_mem_cons.mpr ⟨jx_lay_246, List.forall_mem_cons.mpr ⟨jx_lay_247, List.forall_mem_cons.mpr ⟨jx_lay_248, List.forall_mem_cons.mpr ⟨jx_lay_249, List.forall_mem_cons.mpr ⟨jx_lay_250, List.forall_mem_cons.mpr ⟨jx_lay_251, List.forall_mem_cons.mpr ⟨jx_lay_252, List.forall_mem_cons.mpr ⟨jx_lay_253, List.forall_mem_cons.mpr ⟨jx_lay_254, List.forall_mem_cons.mpr ⟨jx_lay_255, List.forall_mem_cons.mpr ⟨jx_lay_256, List.forall_mem_cons.mpr ⟨jx_lay_257, List.forall_mem_cons.mpr ⟨jx_lay_258, List.forall_mem_cons.mpr ⟨jx_lay_259, List.forall_mem_cons.mpr ⟨jx_lay_260, List.forall_mem_cons.mpr ⟨jx_lay_261, List.forall_mem_cons.mpr ⟨jx_lay_262, List.forall_mem_cons.mpr ⟨jx_lay_263, List.forall_mem_cons.mpr ⟨jx_lay_264, fun _ h => absurd h List.not_mem_nil⟩⟩⟩⟩⟩⟩⟩⟩⟩⟩⟩⟩⟩⟩⟩⟩⟩⟩⟩⟩⟩⟩⟩⟩
theorem jx_layc_11 : ∀ g ∈ ([265, 266, 267, 268, 269, 270, 271, 272, 273, 274, 275, 276, 277, 278, 279, 280, 281, 282, 283, 284, 285, 286, 287] : List Nat), jx_lay g ∈ tables_1 := List.forall_mem_cons.mpr ⟨jx_lay_265, List.forall_mem_cons.mpr ⟨jx_lay_266, List.forall_mem_cons.mpr ⟨jx_lay_267, List.forall_mem_cons.mpr ⟨jx_lay_268, List.forall_mem_cons.mpr ⟨jx_lay_269, List.forall_mem_cons.mpr ⟨jx_lay_270, List.forall_mem_cons.mpr ⟨jx_lay_271, List.forall_mem_cons.mpr ⟨jx_lay_272, List.forall_mem_cons.mpr ⟨jx_lay_273, List.forall_mem_cons.mpr ⟨jx_lay_274, List.forall_mem_cons.mpr ⟨jx_lay_275, List.forall_mem_cons.mpr ⟨jx_lay_276, List.forall_mem_cons.mpr ⟨jx_lay_277, List.forall_mem_cons.mpr ⟨jx_lay_278, List.forall_mem_cons.mpr ⟨jx_lay_279, List.forall_mem_cons.mpr ⟨jx_lay_280, List.forall_mem_cons.mpr ⟨jx_lay_281, List.forall_mem_cons.mpr ⟨jx_lay_282, List.forall_mem_cons.mpr ⟨jx_lay_283, List.forall_mem_cons.mpr ⟨jx_lay_284, List.forall_mem_cons.mpr ⟨jx_lay_285, List.forall_mem_cons.mpr ⟨jx_lay_286, List.forall_mem_cons.mpr ⟨jx_lay_287, fun _ h => absurd h List.not_mem_nil⟩⟩⟩⟩⟩⟩⟩⟩⟩⟩⟩⟩⟩⟩⟩⟩⟩⟩⟩⟩⟩⟩⟩
def jx_gs : List (List Nat) := [[1, 2, 3, 4, 5, 6, 7, 8, 9, 10, 11, 12, 13, 14, 15, 16, 17, 18, 19, 20, 21, 22, 23, 24], [25, 26, 27, 28, 29, 30, 31, 32, 33, 34, 35, 36, 37, 38, 39, 40, 41, 42, 43, 44, 45, 46, 47, 48], [49, 50, 51, 52, 53, 54, 55, 56, 57, 58, 59, 60, 61, 62, 63, 64, 65, 66, 67, 68, 69, 70, 71, 72], [73, 74, 75, 76, 77, 78, 79, 80, 81, 82, 83, 84, 85, 86, 87, 88, 89, 90, 91, 92, 93, 94, 95, 96], [97, 98, 99, 100, 101, 102, 103, 104, 105, 106, 107, 108, 109, 110, 111, 112, 113, 114, 115, 116, 117, 118, 119, 120], [121, 122, 123, 124, 125, 126, 127, 128, 129, 130, 131, 132, 133, 134, 135, 136, 137, 138, 139, 140, 141, 142, 143, 144], [145, 146, 147, 148, 149, 150, 151, 152, 153, 154, 155, 156, 157, 158, 159, 160, 161, 162, 163, 164, 165, 166, 167, 168], [169, 170, 171, 172, 173, 174, 175, 176, 177, 178, 179, 180, 181, 182, 183, 184, 185, 186, 187, 188, 189, 190, 191, 192], [193, 194, 195, 196, 197, 198, 199, 200, 201, 202, 203, 204, 205, 206, 207, 208, 209, 210, 211, 212, 213, 214, 215, 216], [217, 218, 219, 220, 221, 222, 223, 224, 225, 226, 227, 228, 229, 230, 231, 232, 233, 234, 235, 236, 237, 238, 239, 240], [241, 242, 243, 244, 245, 246, 247, 248, 249, 250, 251, 252, 253, 254, 255, 256, 257, 258, 259, 260, 261, 262, 263, 264], [265, 266, 267, 268, 269, 270, 271, 272, 273, 274, 275, 276, 277, 278, 279, 280, 281, 282, 283, 284, 285, 286, 287]]
theorem jx_layc : ∀ c ∈ jx_gs, ∀ g ∈ c, jx_lay g ∈ tables_1 := List.forall_mem_cons.mpr ⟨jx_layc_0, List.forall_mem_cons.mpr ⟨jx_layc_1, List.forall_mem_cons.mpr ⟨jx_layc_2, List.forall_mem_cons.mpr ⟨jx_layc_3, List.forall_mem_cons.mpr ⟨jx_layc_4, List.forall_mem_cons.mpr ⟨jx_layc_5, List.forall_mem_cons.mpr ⟨jx_layc_6, List.forall_mem_cons.mpr ⟨jx_layc_7, List.forall_mem_cons.mpr ⟨jx_layc_8, List.forall_mem_cons.mpr ⟨jx_layc_9, List.forall_mem_cons.mpr ⟨jx_layc_10, List.forall_mem_cons.mpr ⟨jx_layc_11, fun _ h => absurd h List.not_mem_nil⟩⟩⟩⟩⟩⟩⟩⟩⟩⟩⟩⟩
theorem jx_gs_ok : ∀ g, g < 288 → 1 ≤ g → ∃ c ∈ jx_gs, g ∈ c := by decide +kernel
theorem jx_in_tb {w : Cond} (h : w ∈ tables_1) (hg : jx_good w = true) : w ∈ jx_tb := List.mem_filter.mpr ⟨List.mem_append_right _ h, hg⟩
theorem jx_lay_ok {k : Nat} (hk : k < 16) : ∀ w ∈ u_ws (jx_cn k) (jx_T k) (jx_nf k), w ∈ jx_tb := by
  intro w hw
  obtain ⟨j, hj, rfl⟩ := List.mem_map.mp hw
  have hj := List.mem_range.mp hj
  obtain ⟨h1, h2, h3, h4⟩ := jx_own_ok k hk j hj
  obtain ⟨c, hc, hg⟩ := jx_gs_ok _ h3 h4
  have h := jx_layc c hc _ hg
  unfold jx_lay at h
  rw [h1, Nat.add_sub_cancel_left] at h
  refine jx_in_tb h ?_
  unfold u_lay
  split <;> rfl
def jx_nmk (k : Nat) : Bool := ((List.range (jx_nf k)).map fun j => (jx_T k j).2.1).Nodup
