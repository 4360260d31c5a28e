/-! class numbers, field numbers: printed by wip/D-85160w/gen/gen_ids.py -/
set_option maxRecDepth 100000
def NK : Nat := 38
def NF : Nat := 212
def CNs : List String := ["TallySlate", "TallySlate$Fault", "TallySlate$Scanner", "TallySlate$Machine", "TallySlate$Shelves", "TallySlate$Signs", "TallySlate$Maker", "TallySlate$Works", "TallySlate$Output", "TallySlate$Trouble", "TallySlateModel", "TallySlate$Reader", "TallySlate$Definition", "TallySlate$Block", "TallySlate$If", "TallySlate$Numeral", "TallySlate$Literal", "TallySlate$Nodes", "TallySlate$BuiltIn", "TallySlate$Call", "TallySlate$Name", "TallySlate$Places", "TallySlate$Prefix", "TallySlate$Chain", "TallySlate$While", "TallySlate$For", "TallySlate$Plain", "TallySlate$Try", "TallySlate$Assign", "TallySlate$Row", "TallySlate$Table", "TallySlate$Pack", "TallySlate$Whole", "java/lang/Throwable", "java/lang/String", "java/lang/ArrayIndexOutOfBoundsException", "java/lang/ArithmeticException", "java/lang/NegativeArraySizeException"]
def CN (k : Nat) : String := CNs.getD k ""
def CFs : List (List Nat) := [[0, 1, 2, 3, 4, 5, 6, 7], [8, 9, 10, 11, 12, 13, 14, 15], [16, 17, 18, 19, 20, 21, 22, 23], [24, 25, 26, 27, 28, 29, 30, 31, 32, 33, 34, 35, 36, 37, 38, 39, 40, 41], [42, 43, 44, 45, 46, 47, 48], [49], [50], [51], [52, 53], [8, 9, 10, 11, 12, 13, 54, 55, 56], [57, 58, 59, 60, 61, 62, 63, 64, 65, 66, 67, 68, 69, 70, 71, 72, 73, 74, 75, 76, 77, 78, 79, 80, 81, 82, 83, 84, 85, 86, 87, 88, 89, 90, 91, 92, 93, 94, 95, 96, 97, 98, 99, 100, 101, 102, 103, 104, 105, 106, 107, 108, 109, 110, 111, 112, 113, 114, 115, 116, 117, 118, 119, 120, 121, 122, 123, 124, 125, 126, 127, 128, 129, 130, 131, 132, 133, 134, 135, 136, 137, 138, 139, 140, 141, 142, 143, 144, 145, 146], [147, 148, 149, 150, 151, 152], [153, 154, 155, 156, 157, 158], [159, 160], [161, 162, 163, 164], [165, 166], [165, 167], [168, 169, 170, 171], [165, 172, 173], [165, 174, 175, 176, 177, 178, 179], [165, 180], [165, 181], [165, 182, 183], [165, 184], [161, 185, 186], [161, 187, 188, 189], [161, 190, 191], [161, 192, 193, 194, 195], [161, 196, 197, 198, 199, 200, 201, 202], [203], [204, 205], [206, 207, 208], [209], [8, 9, 10, 11, 12], [210, 211], [12, 11, 8, 9, 13, 10], [12, 11, 8, 9, 13, 10], [12, 11, 8, 9, 13, 10]]
def CF (k : Nat) : List Nat := CFs.getD k []
def CZs : List Nat := [8, 8, 8, 18, 7, 1, 1, 1, 2, 9, 90, 6, 6, 2, 4, 2, 2, 4, 3, 7, 2, 2, 3, 2, 3, 4, 3, 5, 8, 1, 2, 3, 1, 6, 4, 6, 6, 6]
def CZ (k : Nat) : Nat := CZs.getD k 0
def FTs : List (String × String × String × Bool) := [("TallySlate", "tape", "[B", true), ("TallySlate", "taped", "I", false), ("TallySlate", "fault", "LTallySlate$Fault;", true), ("TallySlate", "isTold", "Z", false), ("TallySlate", "scanner", "LTallySlate$Scanner;", true), ("TallySlate", "machine", "LTallySlate$Machine;", true), ("TallySlate", "program", "LTallySlate$Reader;", false), ("TallySlate", "ran", "Z", false), ("java/lang/Throwable", "cause", "Ljava/lang/Throwable;", false), ("java/lang/Throwable", "stackTrace", "[Ljava/lang/StackTraceElement;", false), ("java/lang/Throwable", "suppressedExceptions", "Ljava/util/List;", false), ("java/lang/Throwable", "detailMessage", "Ljava/lang/String;", false), ("java/lang/Throwable", "backtrace", "Ljava/lang/Object;", false), ("java/lang/Throwable", "depth", "I", false), ("TallySlate$Fault", "kind", "I", false), ("TallySlate$Fault", "place", "I", false), ("TallySlate$Scanner", "fault", "LTallySlate$Fault;", true), ("TallySlate$Scanner", "text", "[B", true), ("TallySlate$Scanner", "size", "I", false), ("TallySlate$Scanner", "at", "I", false), ("TallySlate$Scanner", "token", "I", false), ("TallySlate$Scanner", "place", "I", false), ("TallySlate$Scanner", "value", "I", false), ("TallySlate$Scanner", "open", "I", false), ("TallySlate$Machine", "num", "[I", true), ("TallySlate$Machine", "thing", "[LTallySlate$Thing;", true), ("TallySlate$Machine", "top", "I", false), ("TallySlate$Machine", "varNum", "[I", true), ("TallySlate$Machine", "varThing", "[LTallySlate$Thing;", true), ("TallySlate$Machine", "varThere", "[Z", true), ("TallySlate$Machine", "shelves", "LTallySlate$Shelves;", true), ("TallySlate$Machine", "signs", "LTallySlate$Signs;", true), ("TallySlate$Machine", "maker", "LTallySlate$Maker;", true), ("TallySlate$Machine", "works", "LTallySlate$Works;", true), ("TallySlate$Machine", "out", "LTallySlate$Output;", true), ("TallySlate$Machine", "trouble", "LTallySlate$Trouble;", true), ("TallySlate$Machine", "calls", "I", false), ("TallySlate$Machine", "most", "I", false), ("TallySlate$Machine", "steps", "I", false), ("TallySlate$Machine", "fuel", "I", false), ("TallySlate$Machine", "made", "I", false), ("TallySlate$Machine", "taken", "I", false), ("TallySlate$Shelves", "num", "[I", true), ("TallySlate$Shelves", "keptNum", "[I", true), ("TallySlate$Shelves", "thing", "[LTallySlate$Thing;", true), ("TallySlate$Shelves", "keptThing", "[LTallySlate$Thing;", true), ("TallySlate$Shelves", "there", "[Z", true), ("TallySlate$Shelves", "keptThere", "[Z", true), ("TallySlate$Shelves", "kept", "I", false), ("TallySlate$Signs", "m", "LTallySlate$Machine;", true), ("TallySlate$Maker", "m", "LTallySlate$Machine;", true), ("TallySlate$Works", "m", "LTallySlate$Machine;", true), ("TallySlate$Output", "kept", "[B", true), ("TallySlate$Output", "many", "I", false), ("TallySlate$Trouble", "kind", "I", false), ("TallySlate$Trouble", "place", "I", false), ("TallySlate$Trouble", "raised", "I", false), ("TallySlateModel", "words", "[J", true), ("TallySlateModel", "wants", "[I", true), ("TallySlateModel", "tape", "[B", true), ("TallySlateModel", "taped", "I", false), ("TallySlateModel", "length", "I", false), ("TallySlateModel", "kind", "I", false), ("TallySlateModel", "at", "I", false), ("TallySlateModel", "value", "J", false), ("TallySlateModel", "behind", "I", false), ("TallySlateModel", "fault", "I", false), ("TallySlateModel", "place", "I", false), ("TallySlateModel", "open", "I", false), ("TallySlateModel", "half", "I", false), ("TallySlateModel", "has", "Z", false), ("TallySlateModel", "functions", "I", false), ("TallySlateModel", "many", "I", false), ("TallySlateModel", "fName", "[J", true), ("TallySlateModel", "fAt", "[I", true), ("TallySlateModel", "fPars", "[I", true), ("TallySlateModel", "fVars", "[I", true), ("TallySlateModel", "fFrom", "[I", true), ("TallySlateModel", "vName", "[J", true), ("TallySlateModel", "vars", "I", false), ("TallySlateModel", "op", "[I", true), ("TallySlateModel", "oa", "[I", true), ("TallySlateModel", "ob", "[I", true), ("TallySlateModel", "oc", "[I", true), ("TallySlateModel", "op1", "[I", true), ("TallySlateModel", "orders", "I", false), ("TallySlateModel", "calls", "I", false), ("TallySlateModel", "cOrder", "[I", true), ("TallySlateModel", "cAt", "[I", true), ("TallySlateModel", "cMany", "[I", true), ("TallySlateModel", "cName", "[J", true), ("TallySlateModel", "bKind", "[I", true), ("TallySlateModel", "bOrder", "[I", true), ("TallySlateModel", "bTop", "[I", true), ("TallySlateModel", "blocks", "I", false), ("TallySlateModel", "xKind", "[I", true), ("TallySlateModel", "xa", "[I", true), ("TallySlateModel", "xn", "[I", true), ("TallySlateModel", "xAt", "[I", true), ("TallySlateModel", "xName", "[J", true), ("TallySlateModel", "xNameAt", "[I", true), ("TallySlateModel", "waits", "I", false), ("TallySlateModel", "loadKind", "I", false), ("TallySlateModel", "loadAt", "I", false), ("TallySlateModel", "h", "[I", true), ("TallySlateModel", "free", "I", false), ("TallySlateModel", "sk", "[I", true), ("TallySlateModel", "sv", "[I", true), ("TallySlateModel", "sp", "I", false), ("TallySlateModel", "gone", "[I", true), ("TallySlateModel", "goneBeside", "[I", true), ("TallySlateModel", "nextIn", "[I", true), ("TallySlateModel", "deepIn", "I", false), ("TallySlateModel", "depth", "I", false), ("TallySlateModel", "bulk", "I", false), ("TallySlateModel", "layFrom", "[I", true), ("TallySlateModel", "layTo", "[I", true), ("TallySlateModel", "steps", "I", false), ("TallySlateModel", "fuel", "I", false), ("TallySlateModel", "made", "I", false), ("TallySlateModel", "deepest", "I", false), ("TallySlateModel", "taken", "I", false), ("TallySlateModel", "raised", "I", false), ("TallySlateModel", "tKind", "I", false), ("TallySlateModel", "tPlace", "I", false), ("TallySlateModel", "ran", "Z", false), ("TallySlateModel", "pc", "I", false), ("TallySlateModel", "spot", "I", false), ("TallySlateModel", "shk", "[I", true), ("TallySlateModel", "shv", "[I", true), ("TallySlateModel", "deep", "I", false), ("TallySlateModel", "frBase", "[I", true), ("TallySlateModel", "frBack", "[I", true), ("TallySlateModel", "frWays", "[I", true), ("TallySlateModel", "vk", "[I", true), ("TallySlateModel", "vv", "[I", true), ("TallySlateModel", "ways", "I", false), ("TallySlateModel", "wKind", "[I", true), ("TallySlateModel", "wa", "[I", true), ("TallySlateModel", "wb", "[I", true), ("TallySlateModel", "wc", "[I", true), ("TallySlateModel", "wd", "[I", true), ("TallySlateModel", "we", "[I", true), ("TallySlateModel", "out", "[B", true), ("TallySlateModel", "outs", "I", false), ("TallySlateModel", "marks", "I", false), ("TallySlateModel", "sum", "J", false), ("TallySlate$Reader", "s", "LTallySlate$Scanner;", true), ("TallySlate$Reader", "functions", "[LTallySlate$Definition;", false), ("TallySlate$Reader", "many", "I", false), ("TallySlate$Reader", "now", "LTallySlate$Definition;", false), ("TallySlate$Reader", "calls", "[LTallySlate$Call;", false), ("TallySlate$Reader", "callMany", "I", false), ("TallySlate$Definition", "name", "J", false), ("TallySlate$Definition", "place", "I", false), ("TallySlate$Definition", "parameters", "I", false), ("TallySlate$Definition", "variables", "I", false), ("TallySlate$Definition", "names", "[J", true), ("TallySlate$Definition", "body", "LTallySlate$Block;", false), ("TallySlate$Block", "a", "[LTallySlate$Deed;", false), ("TallySlate$Block", "many", "I", false), ("TallySlate$Deed", "place", "I", false), ("TallySlate$If", "test", "LTallySlate$Node;", false), ("TallySlate$If", "then", "LTallySlate$Block;", false), ("TallySlate$If", "otherwise", "LTallySlate$Block;", false), ("TallySlate$Node", "place", "I", false), ("TallySlate$Numeral", "v", "I", true), ("TallySlate$Literal", "parts", "LTallySlate$Nodes;", true), ("TallySlate$Nodes", "a", "[LTallySlate$Node;", false), ("TallySlate$Nodes", "signs", "[I", false), ("TallySlate$Nodes", "places", "[I", false), ("TallySlate$Nodes", "many", "I", false), ("TallySlate$BuiltIn", "which", "I", true), ("TallySlate$BuiltIn", "parts", "LTallySlate$Nodes;", true), ("TallySlate$Call", "which", "I", true), ("TallySlate$Call", "name", "J", false), ("TallySlate$Call", "namePlace", "I", false), ("TallySlate$Call", "wants", "I", false), ("TallySlate$Call", "function", "LTallySlate$Definition;", false), ("TallySlate$Call", "parts", "LTallySlate$Nodes;", true), ("TallySlate$Name", "number", "I", true), ("TallySlate$Places", "parts", "LTallySlate$Nodes;", true), ("TallySlate$Prefix", "part", "LTallySlate$Node;", true), ("TallySlate$Prefix", "not", "Z", true), ("TallySlate$Chain", "parts", "LTallySlate$Nodes;", true), ("TallySlate$While", "test", "LTallySlate$Node;", false), ("TallySlate$While", "body", "LTallySlate$Block;", false), ("TallySlate$For", "number", "I", false), ("TallySlate$For", "of", "LTallySlate$Node;", false), ("TallySlate$For", "body", "LTallySlate$Block;", false), ("TallySlate$Plain", "how", "I", true), ("TallySlate$Plain", "what", "LTallySlate$Node;", false), ("TallySlate$Try", "number", "I", false), ("TallySlate$Try", "onPlace", "I", false), ("TallySlate$Try", "body", "LTallySlate$Block;", false), ("TallySlate$Try", "otherwise", "LTallySlate$Block;", false), ("TallySlate$Assign", "number", "I", false), ("TallySlate$Assign", "namePlace", "I", false), ("TallySlate$Assign", "firstPlace", "I", false), ("TallySlate$Assign", "secondPlace", "I", false), ("TallySlate$Assign", "first", "LTallySlate$Node;", false), ("TallySlate$Assign", "second", "LTallySlate$Node;", false), ("TallySlate$Assign", "what", "LTallySlate$Node;", false), ("TallySlate$Row", "a", "[I", true), ("TallySlate$Table", "a", "[[I", true), ("TallySlate$Table", "rows", "[LTallySlate$Row;", false), ("TallySlate$Pack", "a", "[LTallySlate$Thing;", true), ("TallySlate$Pack", "depth", "I", true), ("TallySlate$Pack", "bulk", "I", true), ("TallySlate$Whole", "v", "I", true), ("java/lang/String", "value", "[B", true), ("java/lang/String", "coder", "B", true)]
def FT (j : Nat) : String × String × String × Bool := FTs.getD j ("", "", "", false)
def layG (k j : Nat) : Cond := if (FT j).2.2.2 = true then .laysFinal (CN k) (FT j).1 (FT j).2.1 (FT j).2.2.1 else .lays (CN k) (FT j).1 (FT j).2.1 (FT j).2.2.1
theorem ci_0 : Cond.instantiable (CN 0) (CZ 0) ∈ lw_all := lw_g (lw_at lw_m1 52 rfl) rfl
theorem cl_0_0 : layG 0 0 ∈ lw_all := lw_g (lw_at lw_m2 132 rfl) rfl
theorem cl_0_1 : layG 0 1 ∈ lw_all := lw_g (lw_at lw_m2 134 rfl) rfl
theorem cl_0_2 : layG 0 2 ∈ lw_all := lw_g (lw_at lw_m2 136 rfl) rfl
theorem cl_0_3 : layG 0 3 ∈ lw_all := lw_g (lw_at lw_m2 138 rfl) rfl
theorem cl_0_4 : layG 0 4 ∈ lw_all := lw_g (lw_at lw_m2 140 rfl) rfl
theorem cl_0_5 : layG 0 5 ∈ lw_all := lw_g (lw_at lw_m2 142 rfl) rfl
theorem cl_0_6 : layG 0 6 ∈ lw_all := lw_g (lw_at lw_m2 144 rfl) rfl
theorem cl_0_7 : layG 0 7 ∈ lw_all := lw_g (lw_at lw_m2 146 rfl) rfl
theorem cf_0 : ∀ j ∈ CF 0, layG 0 j ∈ lw_all := List.forall_mem_cons.mpr ⟨cl_0_0, List.forall_mem_cons.mpr ⟨cl_0_1, List.forall_mem_cons.mpr ⟨cl_0_2, List.forall_mem_cons.mpr ⟨cl_0_3, List.forall_mem_cons.mpr ⟨cl_0_4, List.forall_mem_cons.mpr ⟨cl_0_5, List.forall_mem_cons.mpr ⟨cl_0_6, List.forall_mem_cons.mpr ⟨cl_0_7, fun _ h => absurd h List.not_mem_nil⟩⟩⟩⟩⟩⟩⟩⟩
theorem ci_1 : Cond.instantiable (CN 1) (CZ 1) ∈ lw_all := lw_g (lw_at lw_m1 60 rfl) rfl
theorem cl_1_8 : layG 1 8 ∈ lw_all := lw_g (lw_at lw_m1 70 rfl) rfl
theorem cl_1_9 : layG 1 9 ∈ lw_all := lw_g (lw_at lw_m1 72 rfl) rfl
theorem cl_1_10 : layG 1 10 ∈ lw_all := lw_g (lw_at lw_m1 74 rfl) rfl
theorem cl_1_11 : layG 1 11 ∈ lw_all := lw_g (lw_at lw_m1 76 rfl) rfl
theorem cl_1_12 : layG 1 12 ∈ lw_all := lw_g (lw_at lw_m1 78 rfl) rfl
theorem cl_1_13 : layG 1 13 ∈ lw_all := lw_g (lw_at lw_m1 129 rfl) rfl
theorem cl_1_14 : layG 1 14 ∈ lw_all := lw_g (lw_at lw_m1 121 rfl) rfl
theorem cl_1_15 : layG 1 15 ∈ lw_all := lw_g (lw_at lw_m1 123 rfl) rfl
theorem cf_1 : ∀ j ∈ CF 1, layG 1 j ∈ lw_all := List.forall_mem_cons.mpr ⟨cl_1_8, List.forall_mem_cons.mpr ⟨cl_1_9, List.forall_mem_cons.mpr ⟨cl_1_10, List.forall_mem_cons.mpr ⟨cl_1_11, List.forall_mem_cons.mpr ⟨cl_1_12, List.forall_mem_cons.mpr ⟨cl_1_13, List.forall_mem_cons.mpr ⟨cl_1_14, List.forall_mem_cons.mpr ⟨cl_1_15, fun _ h => absurd h List.not_mem_nil⟩⟩⟩⟩⟩⟩⟩⟩
theorem ci_2 : Cond.instantiable (CN 2) (CZ 2) ∈ lw_all := lw_g (lw_at lw_m1 135 rfl) rfl
theorem cl_2_16 : layG 2 16 ∈ lw_all := lw_g (lw_at lw_m1 151 rfl) rfl
theorem cl_2_17 : layG 2 17 ∈ lw_all := lw_g (lw_at lw_m1 153 rfl) rfl
theorem cl_2_18 : layG 2 18 ∈ lw_all := lw_g (lw_at lw_m1 155 rfl) rfl
theorem cl_2_19 : layG 2 19 ∈ lw_all := lw_g (lw_at lw_m1 157 rfl) rfl
theorem cl_2_20 : layG 2 20 ∈ lw_all := lw_g (lw_at lw_m1 159 rfl) rfl
theorem cl_2_21 : layG 2 21 ∈ lw_all := lw_g (lw_at lw_m1 161 rfl) rfl
theorem cl_2_22 : layG 2 22 ∈ lw_all := lw_g (lw_at lw_m1 163 rfl) rfl
theorem cl_2_23 : layG 2 23 ∈ lw_all := lw_g (lw_at lw_m1 165 rfl) rfl
theorem cf_2 : ∀ j ∈ CF 2, layG 2 j ∈ lw_all := List.forall_mem_cons.mpr ⟨cl_2_16, List.forall_mem_cons.mpr ⟨cl_2_17, List.forall_mem_cons.mpr ⟨cl_2_18, List.forall_mem_cons.mpr ⟨cl_2_19, List.forall_mem_cons.mpr ⟨cl_2_20, List.forall_mem_cons.mpr ⟨cl_2_21, List.forall_mem_cons.mpr ⟨cl_2_22, List.forall_mem_cons.mpr ⟨cl_2_23, fun _ h => absurd h List.not_mem_nil⟩⟩⟩⟩⟩⟩⟩⟩
theorem ci_3 : Cond.instantiable (CN 3) (CZ 3) ∈ lw_all := lw_g (lw_at lw_m1 169 rfl) rfl
theorem cl_3_24 : layG 3 24 ∈ lw_all := lw_g (lw_at lw_m2 87 rfl) rfl
theorem cl_3_25 : layG 3 25 ∈ lw_all := lw_g (lw_at lw_m2 89 rfl) rfl
theorem cl_3_26 : layG 3 26 ∈ lw_all := lw_g (lw_at lw_m2 91 rfl) rfl
theorem cl_3_27 : layG 3 27 ∈ lw_all := lw_g (lw_at lw_m2 93 rfl) rfl
theorem cl_3_28 : layG 3 28 ∈ lw_all := lw_g (lw_at lw_m2 95 rfl) rfl
theorem cl_3_29 : layG 3 29 ∈ lw_all := lw_g (lw_at lw_m2 97 rfl) rfl
theorem cl_3_30 : layG 3 30 ∈ lw_all := lw_g (lw_at lw_m2 99 rfl) rfl
theorem cl_3_31 : layG 3 31 ∈ lw_all := lw_g (lw_at lw_m2 101 rfl) rfl
theorem cl_3_32 : layG 3 32 ∈ lw_all := lw_g (lw_at lw_m2 103 rfl) rfl
theorem cl_3_33 : layG 3 33 ∈ lw_all := lw_g (lw_at lw_m2 105 rfl) rfl
theorem cl_3_34 : layG 3 34 ∈ lw_all := lw_g (lw_at lw_m2 107 rfl) rfl
theorem cl_3_35 : layG 3 35 ∈ lw_all := lw_g (lw_at lw_m2 109 rfl) rfl
theorem cl_3_36 : layG 3 36 ∈ lw_all := lw_g (lw_at lw_m2 111 rfl) rfl
theorem cl_3_37 : layG 3 37 ∈ lw_all := lw_g (lw_at lw_m2 113 rfl) rfl
theorem cl_3_38 : layG 3 38 ∈ lw_all := lw_g (lw_at lw_m2 115 rfl) rfl
theorem cl_3_39 : layG 3 39 ∈ lw_all := lw_g (lw_at lw_m2 117 rfl) rfl
theorem cl_3_40 : layG 3 40 ∈ lw_all := lw_g (lw_at lw_m2 119 rfl) rfl
theorem cl_3_41 : layG 3 41 ∈ lw_all := lw_g (lw_at lw_m2 121 rfl) rfl
theorem cf_3 : ∀ j ∈ CF 3, layG 3 j ∈ lw_all := List.forall_mem_cons.mpr ⟨cl_3_24, List.forall_mem_cons.mpr ⟨cl_3_25, List.forall_mem_cons.mpr ⟨cl_3_26, List.forall_mem_cons.mpr ⟨cl_3_27, List.forall_mem_cons.mpr ⟨cl_3_28, List.forall_mem_cons.mpr ⟨cl_3_29, List.forall_mem_cons.mpr ⟨cl_3_30, List.forall_mem_cons.mpr ⟨cl_3_31, List.forall_mem_cons.mpr ⟨cl_3_32, List.forall_mem_cons.mpr ⟨cl_3_33, List.forall_mem_cons.mpr ⟨cl_3_34, List.forall_mem_cons.mpr ⟨cl_3_35, List.forall_mem_cons.mpr ⟨cl_3_36, List.forall_mem_cons.mpr ⟨cl_3_37, List.forall_mem_cons.mpr ⟨cl_3_38, List.forall_mem_cons.mpr ⟨cl_3_39, List.forall_mem_cons.mpr ⟨cl_3_40, List.forall_mem_cons.mpr ⟨cl_3_41, fun _ h => absurd h List.not_mem_nil⟩⟩⟩⟩⟩⟩⟩⟩⟩⟩⟩⟩⟩⟩⟩⟩⟩⟩
theorem ci_4 : Cond.instantiable (CN 4) (CZ 4) ∈ lw_all := lw_g (lw_at lw_m1 177 rfl) rfl
theorem cl_4_42 : layG 4 42 ∈ lw_all := lw_g (lw_at lw_m1 197 rfl) rfl
theorem cl_4_43 : layG 4 43 ∈ lw_all := lw_g (lw_at lw_m1 199 rfl) rfl
theorem cl_4_44 : layG 4 44 ∈ lw_all := lw_g (lw_at lw_m1 201 rfl) rfl
theorem cl_4_45 : layG 4 45 ∈ lw_all := lw_g (lw_at lw_m1 203 rfl) rfl
theorem cl_4_46 : layG 4 46 ∈ lw_all := lw_g (lw_at lw_m1 205 rfl) rfl
theorem cl_4_47 : layG 4 47 ∈ lw_all := lw_g (lw_at lw_m1 207 rfl) rfl
theorem cl_4_48 : layG 4 48 ∈ lw_all := lw_g (lw_at lw_m1 209 rfl) rfl
theorem cf_4 : ∀ j ∈ CF 4, layG 4 j ∈ lw_all := List.forall_mem_cons.mpr ⟨cl_4_42, List.forall_mem_cons.mpr ⟨cl_4_43, List.forall_mem_cons.mpr ⟨cl_4_44, List.forall_mem_cons.mpr ⟨cl_4_45, List.forall_mem_cons.mpr ⟨cl_4_46, List.forall_mem_cons.mpr ⟨cl_4_47, List.forall_mem_cons.mpr ⟨cl_4_48, fun _ h => absurd h List.not_mem_nil⟩⟩⟩⟩⟩⟩⟩
theorem ci_5 : Cond.instantiable (CN 5) (CZ 5) ∈ lw_all := lw_g (lw_at lw_m1 215 rfl) rfl
theorem cl_5_49 : layG 5 49 ∈ lw_all := lw_g (lw_at lw_m1 221 rfl) rfl
theorem cf_5 : ∀ j ∈ CF 5, layG 5 j ∈ lw_all := List.forall_mem_cons.mpr ⟨cl_5_49, fun _ h => absurd h List.not_mem_nil⟩
theorem ci_6 : Cond.instantiable (CN 6) (CZ 6) ∈ lw_all := lw_g (lw_at lw_m1 225 rfl) rfl
theorem cl_6_50 : layG 6 50 ∈ lw_all := lw_g (lw_at lw_m1 231 rfl) rfl
theorem cf_6 : ∀ j ∈ CF 6, layG 6 j ∈ lw_all := List.forall_mem_cons.mpr ⟨cl_6_50, fun _ h => absurd h List.not_mem_nil⟩
theorem ci_7 : Cond.instantiable (CN 7) (CZ 7) ∈ lw_all := lw_g (lw_at lw_m1 235 rfl) rfl
theorem cl_7_51 : layG 7 51 ∈ lw_all := lw_g (lw_at lw_m2 1 rfl) rfl
theorem cf_7 : ∀ j ∈ CF 7, layG 7 j ∈ lw_all := List.forall_mem_cons.mpr ⟨cl_7_51, fun _ h => absurd h List.not_mem_nil⟩
theorem ci_8 : Cond.instantiable (CN 8) (CZ 8) ∈ lw_all := lw_g (lw_at lw_m2 5 rfl) rfl
theorem cl_8_52 : layG 8 52 ∈ lw_all := lw_g (lw_at lw_m2 15 rfl) rfl
theorem cl_8_53 : layG 8 53 ∈ lw_all := lw_g (lw_at lw_m2 17 rfl) rfl
theorem cf_8 : ∀ j ∈ CF 8, layG 8 j ∈ lw_all := List.forall_mem_cons.mpr ⟨cl_8_52, List.forall_mem_cons.mpr ⟨cl_8_53, fun _ h => absurd h List.not_mem_nil⟩⟩
theorem ci_9 : Cond.instantiable (CN 9) (CZ 9) ∈ lw_all := lw_g (lw_at lw_m2 21 rfl) rfl
theorem cl_9_8 : layG 9 8 ∈ lw_all := lw_g (lw_at lw_m2 24 rfl) rfl
theorem cl_9_9 : layG 9 9 ∈ lw_all := lw_g (lw_at lw_m2 25 rfl) rfl
theorem cl_9_10 : layG 9 10 ∈ lw_all := lw_g (lw_at lw_m2 26 rfl) rfl
theorem cl_9_11 : layG 9 11 ∈ lw_all := lw_g (lw_at lw_m2 27 rfl) rfl
theorem cl_9_12 : layG 9 12 ∈ lw_all := lw_g (lw_at lw_m2 28 rfl) rfl
theorem cl_9_13 : layG 9 13 ∈ lw_all := lw_g (lw_at lw_m2 45 rfl) rfl
theorem cl_9_54 : layG 9 54 ∈ lw_all := lw_g (lw_at lw_m2 39 rfl) rfl
theorem cl_9_55 : layG 9 55 ∈ lw_all := lw_g (lw_at lw_m2 41 rfl) rfl
theorem cl_9_56 : layG 9 56 ∈ lw_all := lw_g (lw_at lw_m2 43 rfl) rfl
theorem cf_9 : ∀ j ∈ CF 9, layG 9 j ∈ lw_all := List.forall_mem_cons.mpr ⟨cl_9_8, List.forall_mem_cons.mpr ⟨cl_9_9, List.forall_mem_cons.mpr ⟨cl_9_10, List.forall_mem_cons.mpr ⟨cl_9_11, List.forall_mem_cons.mpr ⟨cl_9_12, List.forall_mem_cons.mpr ⟨cl_9_13, List.forall_mem_cons.mpr ⟨cl_9_54, List.forall_mem_cons.mpr ⟨cl_9_55, List.forall_mem_cons.mpr ⟨cl_9_56, fun _ h => absurd h List.not_mem_nil⟩⟩⟩⟩⟩⟩⟩⟩⟩
theorem ci_10 : Cond.instantiable (CN 10) (CZ 10) ∈ lw_all := lw_g (lw_at lw_m9 98 rfl) rfl
theorem cl_10_57 : layG 10 57 ∈ lw_all := lw_g (lw_at lw_m9 235 rfl) rfl
theorem cl_10_58 : layG 10 58 ∈ lw_all := lw_g (lw_at lw_m9 237 rfl) rfl
theorem cl_10_59 : layG 10 59 ∈ lw_all := lw_g (lw_at lw_m9 239 rfl) rfl
theorem cl_10_60 : layG 10 60 ∈ lw_all := lw_g (lw_at lw_m10 1 rfl) rfl
theorem cl_10_61 : layG 10 61 ∈ lw_all := lw_g (lw_at lw_m10 3 rfl) rfl
theorem cl_10_62 : layG 10 62 ∈ lw_all := lw_g (lw_at lw_m10 5 rfl) rfl
theorem cl_10_63 : layG 10 63 ∈ lw_all := lw_g (lw_at lw_m10 7 rfl) rfl
theorem cl_10_64 : layG 10 64 ∈ lw_all := lw_g (lw_at lw_m10 9 rfl) rfl
theorem cl_10_65 : layG 10 65 ∈ lw_all := lw_g (lw_at lw_m10 11 rfl) rfl
theorem cl_10_66 : layG 10 66 ∈ lw_all := lw_g (lw_at lw_m10 13 rfl) rfl
theorem cl_10_67 : layG 10 67 ∈ lw_all := lw_g (lw_at lw_m10 15 rfl) rfl
theorem cl_10_68 : layG 10 68 ∈ lw_all := lw_g (lw_at lw_m10 17 rfl) rfl
theorem cl_10_69 : layG 10 69 ∈ lw_all := lw_g (lw_at lw_m10 19 rfl) rfl
theorem cl_10_70 : layG 10 70 ∈ lw_all := lw_g (lw_at lw_m10 21 rfl) rfl
theorem cl_10_71 : layG 10 71 ∈ lw_all := lw_g (lw_at lw_m10 23 rfl) rfl
theorem cl_10_72 : layG 10 72 ∈ lw_all := lw_g (lw_at lw_m10 25 rfl) rfl
theorem cl_10_73 : layG 10 73 ∈ lw_all := lw_g (lw_at lw_m10 27 rfl) rfl
theorem cl_10_74 : layG 10 74 ∈ lw_all := lw_g (lw_at lw_m10 29 rfl) rfl
theorem cl_10_75 : layG 10 75 ∈ lw_all := lw_g (lw_at lw_m10 31 rfl) rfl
theorem cl_10_76 : layG 10 76 ∈ lw_all := lw_g (lw_at lw_m10 33 rfl) rfl
theorem cl_10_77 : layG 10 77 ∈ lw_all := lw_g (lw_at lw_m10 35 rfl) rfl
theorem cl_10_78 : layG 10 78 ∈ lw_all := lw_g (lw_at lw_m10 37 rfl) rfl
theorem cl_10_79 : layG 10 79 ∈ lw_all := lw_g (lw_at lw_m10 39 rfl) rfl
theorem cl_10_80 : layG 10 80 ∈ lw_all := lw_g (lw_at lw_m10 41 rfl) rfl
theorem cl_10_81 : layG 10 81 ∈ lw_all := lw_g (lw_at lw_m10 43 rfl) rfl
theorem cl_10_82 : layG 10 82 ∈ lw_all := lw_g (lw_at lw_m10 45 rfl) rfl
theorem cl_10_83 : layG 10 83 ∈ lw_all := lw_g (lw_at lw_m10 47 rfl) rfl
theorem cl_10_84 : layG 10 84 ∈ lw_all := lw_g (lw_at lw_m10 49 rfl) rfl
theorem cl_10_85 : layG 10 85 ∈ lw_all := lw_g (lw_at lw_m10 51 rfl) rfl
theorem cl_10_86 : layG 10 86 ∈ lw_all := lw_g (lw_at lw_m10 53 rfl) rfl
theorem cl_10_87 : layG 10 87 ∈ lw_all := lw_g (lw_at lw_m10 55 rfl) rfl
theorem cl_10_88 : layG 10 88 ∈ lw_all := lw_g (lw_at lw_m10 57 rfl) rfl
theorem cl_10_89 : layG 10 89 ∈ lw_all := lw_g (lw_at lw_m10 59 rfl) rfl
theorem cl_10_90 : layG 10 90 ∈ lw_all := lw_g (lw_at lw_m10 61 rfl) rfl
theorem cl_10_91 : layG 10 91 ∈ lw_all := lw_g (lw_at lw_m10 63 rfl) rfl
theorem cl_10_92 : layG 10 92 ∈ lw_all := lw_g (lw_at lw_m10 65 rfl) rfl
theorem cl_10_93 : layG 10 93 ∈ lw_all := lw_g (lw_at lw_m10 67 rfl) rfl
theorem cl_10_94 : layG 10 94 ∈ lw_all := lw_g (lw_at lw_m10 69 rfl) rfl
theorem cl_10_95 : layG 10 95 ∈ lw_all := lw_g (lw_at lw_m10 71 rfl) rfl
theorem cl_10_96 : layG 10 96 ∈ lw_all := lw_g (lw_at lw_m10 73 rfl) rfl
theorem cl_10_97 : layG 10 97 ∈ lw_all := lw_g (lw_at lw_m10 75 rfl) rfl
theorem cl_10_98 : layG 10 98 ∈ lw_all := lw_g (lw_at lw_m10 77 rfl) rfl
theorem cl_10_99 : layG 10 99 ∈ lw_all := lw_g (lw_at lw_m10 79 rfl) rfl
theorem cl_10_100 : layG 10 100 ∈ lw_all := lw_g (lw_at lw_m10 81 rfl) rfl
theorem cl_10_101 : layG 10 101 ∈ lw_all := lw_g (lw_at lw_m10 83 rfl) rfl
theorem cl_10_102 : layG 10 102 ∈ lw_all := lw_g (lw_at lw_m10 85 rfl) rfl
theorem cl_10_103 : layG 10 103 ∈ lw_all := lw_g (lw_at lw_m10 87 rfl) rfl
theorem cl_10_104 : layG 10 104 ∈ lw_all := lw_g (lw_at lw_m10 89 rfl) rfl
theorem cl_10_105 : layG 10 105 ∈ lw_all := lw_g (lw_at lw_m10 91 rfl) rfl
theorem cl_10_106 : layG 10 106 ∈ lw_all := lw_g (lw_at lw_m10 93 rfl) rfl
theorem cl_10_107 : layG 10 107 ∈ lw_all := lw_g (lw_at lw_m10 95 rfl) rfl
theorem cl_10_108 : layG 10 108 ∈ lw_all := lw_g (lw_at lw_m10 97 rfl) rfl
theorem cl_10_109 : layG 10 109 ∈ lw_all := lw_g (lw_at lw_m10 99 rfl) rfl
theorem cl_10_110 : layG 10 110 ∈ lw_all := lw_g (lw_at lw_m10 101 rfl) rfl
theorem cl_10_111 : layG 10 111 ∈ lw_all := lw_g (lw_at lw_m10 103 rfl) rfl
theorem cl_10_112 : layG 10 112 ∈ lw_all := lw_g (lw_at lw_m10 105 rfl) rfl
theorem cl_10_113 : layG 10 113 ∈ lw_all := lw_g (lw_at lw_m10 107 rfl) rfl
theorem cl_10_114 : layG 10 114 ∈ lw_all := lw_g (lw_at lw_m10 109 rfl) rfl
theorem cl_10_115 : layG 10 115 ∈ lw_all := lw_g (lw_at lw_m10 111 rfl) rfl
theorem cl_10_116 : layG 10 116 ∈ lw_all := lw_g (lw_at lw_m10 113 rfl) rfl
theorem cl_10_117 : layG 10 117 ∈ lw_all := lw_g (lw_at lw_m10 115 rfl) rfl
theorem cl_10_118 : layG 10 118 ∈ lw_all := lw_g (lw_at lw_m10 117 rfl) rfl
theorem cl_10_119 : layG 10 119 ∈ lw_all := lw_g (lw_at lw_m10 119 rfl) rfl
theorem cl_10_120 : layG 10 120 ∈ lw_all := lw_g (lw_at lw_m10 121 rfl) rfl
theorem cl_10_121 : layG 10 121 ∈ lw_all := lw_g (lw_at lw_m10 123 rfl) rfl
theorem cl_10_122 : layG 10 122 ∈ lw_all := lw_g (lw_at lw_m10 125 rfl) rfl
theorem cl_10_123 : layG 10 123 ∈ lw_all := lw_g (lw_at lw_m10 127 rfl) rfl
theorem cl_10_124 : layG 10 124 ∈ lw_all := lw_g (lw_at lw_m10 129 rfl) rfl
theorem cl_10_125 : layG 10 125 ∈ lw_all := lw_g (lw_at lw_m10 131 rfl) rfl
theorem cl_10_126 : layG 10 126 ∈ lw_all := lw_g (lw_at lw_m10 133 rfl) rfl
theorem cl_10_127 : layG 10 127 ∈ lw_all := lw_g (lw_at lw_m10 135 rfl) rfl
theorem cl_10_128 : layG 10 128 ∈ lw_all := lw_g (lw_at lw_m10 137 rfl) rfl
theorem cl_10_129 : layG 10 129 ∈ lw_all := lw_g (lw_at lw_m10 139 rfl) rfl
theorem cl_10_130 : layG 10 130 ∈ lw_all := lw_g (lw_at lw_m10 141 rfl) rfl
theorem cl_10_131 : layG 10 131 ∈ lw_all := lw_g (lw_at lw_m10 143 rfl) rfl
theorem cl_10_132 : layG 10 132 ∈ lw_all := lw_g (lw_at lw_m10 145 rfl) rfl
theorem cl_10_133 : layG 10 133 ∈ lw_all := lw_g (lw_at lw_m10 147 rfl) rfl
theorem cl_10_134 : layG 10 134 ∈ lw_all := lw_g (lw_at lw_m10 149 rfl) rfl
theorem cl_10_135 : layG 10 135 ∈ lw_all := lw_g (lw_at lw_m10 151 rfl) rfl
theorem cl_10_136 : layG 10 136 ∈ lw_all := lw_g (lw_at lw_m10 153 rfl) rfl
theorem cl_10_137 : layG 10 137 ∈ lw_all := lw_g (lw_at lw_m10 155 rfl) rfl
theorem cl_10_138 : layG 10 138 ∈ lw_all := lw_g (lw_at lw_m10 157 rfl) rfl
theorem cl_10_139 : layG 10 139 ∈ lw_all := lw_g (lw_at lw_m10 159 rfl) rfl
theorem cl_10_140 : layG 10 140 ∈ lw_all := lw_g (lw_at lw_m10 161 rfl) rfl
theorem cl_10_141 : layG 10 141 ∈ lw_all := lw_g (lw_at lw_m10 163 rfl) rfl
theorem cl_10_142 : layG 10 142 ∈ lw_all := lw_g (lw_at lw_m10 165 rfl) rfl
theorem cl_10_143 : layG 10 143 ∈ lw_all := lw_g (lw_at lw_m10 167 rfl) rfl
theorem cl_10_144 : layG 10 144 ∈ lw_all := lw_g (lw_at lw_m10 169 rfl) rfl
theorem cl_10_145 : layG 10 145 ∈ lw_all := lw_g (lw_at lw_m10 171 rfl) rfl
theorem cl_10_146 : layG 10 146 ∈ lw_all := lw_g (lw_at lw_m10 173 rfl) rfl
theorem cf_10 : ∀ j ∈ CF 10, layG 10 j ∈ lw_all := List.forall_mem_cons.mpr ⟨cl_10_57, List.forall_mem_cons.mpr ⟨cl_10_58, List.forall_mem_cons.mpr ⟨cl_10_59, List.forall_mem_cons.mpr ⟨cl_10_60, List.forall_mem_cons.mpr ⟨cl_10_61, List.forall_mem_cons.mpr ⟨cl_10_62, List.forall_mem_cons.mpr ⟨cl_10_63, List.forall_mem_cons.mpr ⟨cl_10_64, List.forall_mem_cons.mpr ⟨cl_10_65, List.forall_mem_cons.mpr ⟨cl_10_66, List.forall_mem_cons.mpr ⟨cl_10_67, List.forall_mem_cons.mpr ⟨cl_10_68, List.forall_mem_cons.mpr ⟨cl_10_69, List.forall_mem_cons.mpr ⟨cl_10_70, List.forall_mem_cons.mpr ⟨cl_10_71, List.forall_mem_cons.mpr ⟨cl_10_72, List.forall_mem_cons.mpr ⟨cl_10_73, List.forall_mem_cons.mpr ⟨cl_10_74, List.forall_mem_cons.mpr ⟨cl_10_75, List.forall_mem_cons.mpr ⟨cl_10_76, List.forall_mem_cons.mpr ⟨cl_10_77, List.forall_mem_cons.mpr ⟨cl_10_78, List.forall_mem_cons.mpr ⟨cl_10_79, List.forall_mem_cons.mpr ⟨cl_10_80, List.forall_mem_cons.mpr ⟨cl_10_81, List.forall_mem_cons.mpr ⟨cl_10_82, List.forall_mem_cons.mpr ⟨cl_10_83, List.forall_mem_cons.mpr ⟨cl_10_84, List.forall_mem_cons.mpr ⟨cl_10_85, List.forall_mem_cons.mpr ⟨cl_10_86, List.forall_mem_cons.mpr ⟨cl_10_87, List.forall_mem_cons.mpr ⟨cl_10_88, List.forall_mem_cons.mpr ⟨cl_10_89, List.forall_mem_cons.mpr ⟨cl_10_90, List.forall_mem_cons.mpr ⟨cl_10_91, List.forall_mem_cons.mpr ⟨cl_10_92, List.forall_mem_cons.mpr ⟨cl_10_93, List.forall_mem_cons.mpr ⟨cl_10_94, List.forall_mem_cons.mpr ⟨cl_10_95, List.forall_mem_cons.mpr ⟨cl_10_96, List.forall_mem_cons.mpr ⟨cl_10_97, List.forall_mem_cons.mpr ⟨cl_10_98, List.forall_mem_cons.mpr ⟨cl_10_99, List.forall_mem_cons.mpr ⟨cl_10_100, List.forall_mem_cons.mpr ⟨cl_10_101, List.forall_mem_cons.mpr ⟨cl_10_102, List.forall_mem_cons.mpr ⟨cl_10_103, List.forall_mem_cons.mpr ⟨cl_10_104, List.forall_mem_cons.mpr ⟨cl_10_105, List.forall_mem_cons.mpr ⟨cl_10_106, List.forall_mem_cons.mpr ⟨cl_10_107, List.forall_mem_cons.mpr ⟨cl_10_108, List.forall_mem_cons.mpr ⟨cl_10_109, List.forall_mem_cons.mpr ⟨cl_10_110, List.forall_mem_cons.mpr ⟨cl_10_111, List.forall_mem_cons.mpr ⟨cl_10_112, List.forall_mem_cons.mpr ⟨cl_10_113, List.forall_mem_cons.mpr ⟨cl_10_114, List.forall_mem_cons.mpr ⟨cl_10_115, List.forall_mem_cons.mpr ⟨cl_10_116, List.forall_mem_cons.mpr ⟨cl_10_117, List.forall_mem_cons.mpr ⟨cl_10_118, List.forall_mem_cons.mpr ⟨cl_10_119, List.forall_mem_cons.mpr ⟨cl_10_120, List.forall_mem_cons.mpr ⟨cl_10_121, List.forall_mem_cons.mpr ⟨cl_10_122, List.forall_mem_cons.mpr ⟨cl_10_123, List.forall_mem_cons.mpr ⟨cl_10_124, List.forall_mem_cons.mpr ⟨cl_10_125, List.forall_mem_cons.mpr ⟨cl_10_126, List.forall_mem_cons.mpr ⟨cl_10_127, List.forall_mem_cons.mpr ⟨cl_10_128, List.forall_mem_cons.mpr ⟨cl_10_129, List.forall_mem_cons.mpr ⟨cl_10_130, List.forall_mem_cons.mpr ⟨cl_10_131, List.forall_mem_cons.mpr ⟨cl_10_132, List.forall_mem_cons.mpr ⟨cl_10_133, List.forall_mem_cons.mpr ⟨cl_10_134, List.forall_mem_cons.mpr ⟨cl_10_135, List.forall_mem_cons.mpr ⟨cl_10_136, List.forall_mem_cons.mpr ⟨cl_10_137, List.forall_mem_cons.mpr ⟨cl_10_138, List.forall_mem_cons.mpr ⟨cl_10_139, List.forall_mem_cons.mpr ⟨cl_10_140, List.forall_mem_cons.mpr ⟨cl_10_141, List.forall_mem_cons.mpr ⟨cl_10_142, List.forall_mem_cons.mpr ⟨cl_10_143, List.forall_mem_cons.mpr ⟨cl_10_144, List.forall_mem_cons.mpr ⟨cl_10_145, List.forall_mem_cons.mpr ⟨cl_10_146, fun _ h => absurd h List.not_mem_nil⟩⟩⟩⟩⟩⟩⟩⟩⟩⟩⟩⟩⟩⟩⟩⟩⟩⟩⟩⟩⟩⟩⟩⟩⟩⟩⟩⟩⟩⟩⟩⟩⟩⟩⟩⟩⟩⟩⟩⟩⟩⟩⟩⟩⟩⟩⟩⟩⟩⟩⟩⟩⟩⟩⟩⟩⟩⟩⟩⟩⟩⟩⟩⟩⟩⟩⟩⟩⟩⟩⟩⟩⟩⟩⟩⟩⟩⟩⟩⟩⟩⟩⟩⟩⟩⟩⟩⟩⟩⟩
theorem ci_11 : Cond.instantiable (CN 11) (CZ 11) ∈ lw_all := lw_g (lw_at lw_m2 173 rfl) rfl
theorem cl_11_147 : layG 11 147 ∈ lw_all := lw_g (lw_at lw_m2 190 rfl) rfl
theorem cl_11_148 : layG 11 148 ∈ lw_all := lw_g (lw_at lw_m2 192 rfl) rfl
theorem cl_11_149 : layG 11 149 ∈ lw_all := lw_g (lw_at lw_m2 194 rfl) rfl
theorem cl_11_150 : layG 11 150 ∈ lw_all := lw_g (lw_at lw_m2 196 rfl) rfl
theorem cl_11_151 : layG 11 151 ∈ lw_all := lw_g (lw_at lw_m2 198 rfl) rfl
theorem cl_11_152 : layG 11 152 ∈ lw_all := lw_g (lw_at lw_m2 200 rfl) rfl
theorem cf_11 : ∀ j ∈ CF 11, layG 11 j ∈ lw_all := List.forall_mem_cons.mpr ⟨cl_11_147, List.forall_mem_cons.mpr ⟨cl_11_148, List.forall_mem_cons.mpr ⟨cl_11_149, List.forall_mem_cons.mpr ⟨cl_11_150, List.forall_mem_cons.mpr ⟨cl_11_151, List.forall_mem_cons.mpr ⟨cl_11_152, fun _ h => absurd h List.not_mem_nil⟩⟩⟩⟩⟩⟩
theorem ci_12 : Cond.instantiable (CN 12) (CZ 12) ∈ lw_all := lw_g (lw_at lw_m3 131 rfl) rfl
theorem cl_12_153 : layG 12 153 ∈ lw_all := lw_g (lw_at lw_m3 149 rfl) rfl
theorem cl_12_154 : layG 12 154 ∈ lw_all := lw_g (lw_at lw_m3 151 rfl) rfl
theorem cl_12_155 : layG 12 155 ∈ lw_all := lw_g (lw_at lw_m3 153 rfl) rfl
theorem cl_12_156 : layG 12 156 ∈ lw_all := lw_g (lw_at lw_m3 155 rfl) rfl
theorem cl_12_157 : layG 12 157 ∈ lw_all := lw_g (lw_at lw_m3 157 rfl) rfl
theorem cl_12_158 : layG 12 158 ∈ lw_all := lw_g (lw_at lw_m3 159 rfl) rfl
theorem cf_12 : ∀ j ∈ CF 12, layG 12 j ∈ lw_all := List.forall_mem_cons.mpr ⟨cl_12_153, List.forall_mem_cons.mpr ⟨cl_12_154, List.forall_mem_cons.mpr ⟨cl_12_155, List.forall_mem_cons.mpr ⟨cl_12_156, List.forall_mem_cons.mpr ⟨cl_12_157, List.forall_mem_cons.mpr ⟨cl_12_158, fun _ h => absurd h List.not_mem_nil⟩⟩⟩⟩⟩⟩
theorem ci_13 : Cond.instantiable (CN 13) (CZ 13) ∈ lw_all := lw_g (lw_at lw_m3 192 rfl) rfl
theorem cl_13_159 : layG 13 159 ∈ lw_all := lw_g (lw_at lw_m3 201 rfl) rfl
theorem cl_13_160 : layG 13 160 ∈ lw_all := lw_g (lw_at lw_m3 203 rfl) rfl
theorem cf_13 : ∀ j ∈ CF 13, layG 13 j ∈ lw_all := List.forall_mem_cons.mpr ⟨cl_13_159, List.forall_mem_cons.mpr ⟨cl_13_160, fun _ h => absurd h List.not_mem_nil⟩⟩
theorem ci_14 : Cond.instantiable (CN 14) (CZ 14) ∈ lw_all := lw_g (lw_at lw_m3 216 rfl) rfl
theorem cl_14_161 : layG 14 161 ∈ lw_all := lw_g (lw_at lw_m4 6 rfl) rfl
theorem cl_14_162 : layG 14 162 ∈ lw_all := lw_g (lw_at lw_m4 0 rfl) rfl
theorem cl_14_163 : layG 14 163 ∈ lw_all := lw_g (lw_at lw_m4 2 rfl) rfl
theorem cl_14_164 : layG 14 164 ∈ lw_all := lw_g (lw_at lw_m4 4 rfl) rfl
theorem cf_14 : ∀ j ∈ CF 14, layG 14 j ∈ lw_all := List.forall_mem_cons.mpr ⟨cl_14_161, List.forall_mem_cons.mpr ⟨cl_14_162, List.forall_mem_cons.mpr ⟨cl_14_163, List.forall_mem_cons.mpr ⟨cl_14_164, fun _ h => absurd h List.not_mem_nil⟩⟩⟩⟩
theorem ci_15 : Cond.instantiable (CN 15) (CZ 15) ∈ lw_all := lw_g (lw_at lw_m4 30 rfl) rfl
theorem cl_15_165 : layG 15 165 ∈ lw_all := lw_g (lw_at lw_m4 55 rfl) rfl
theorem cl_15_166 : layG 15 166 ∈ lw_all := lw_g (lw_at lw_m4 53 rfl) rfl
theorem cf_15 : ∀ j ∈ CF 15, layG 15 j ∈ lw_all := List.forall_mem_cons.mpr ⟨cl_15_165, List.forall_mem_cons.mpr ⟨cl_15_166, fun _ h => absurd h List.not_mem_nil⟩⟩
theorem ci_16 : Cond.instantiable (CN 16) (CZ 16) ∈ lw_all := lw_g (lw_at lw_m4 63 rfl) rfl
theorem cl_16_165 : layG 16 165 ∈ lw_all := lw_g (lw_at lw_m4 107 rfl) rfl
theorem cl_16_167 : layG 16 167 ∈ lw_all := lw_g (lw_at lw_m4 105 rfl) rfl
theorem cf_16 : ∀ j ∈ CF 16, layG 16 j ∈ lw_all := List.forall_mem_cons.mpr ⟨cl_16_165, List.forall_mem_cons.mpr ⟨cl_16_167, fun _ h => absurd h List.not_mem_nil⟩⟩
theorem ci_17 : Cond.instantiable (CN 17) (CZ 17) ∈ lw_all := lw_g (lw_at lw_m4 69 rfl) rfl
theorem cl_17_168 : layG 17 168 ∈ lw_all := lw_g (lw_at lw_m4 94 rfl) rfl
theorem cl_17_169 : layG 17 169 ∈ lw_all := lw_g (lw_at lw_m4 96 rfl) rfl
theorem cl_17_170 : layG 17 170 ∈ lw_all := lw_g (lw_at lw_m4 98 rfl) rfl
theorem cl_17_171 : layG 17 171 ∈ lw_all := lw_g (lw_at lw_m4 100 rfl) rfl
theorem cf_17 : ∀ j ∈ CF 17, layG 17 j ∈ lw_all := List.forall_mem_cons.mpr ⟨cl_17_168, List.forall_mem_cons.mpr ⟨cl_17_169, List.forall_mem_cons.mpr ⟨cl_17_170, List.forall_mem_cons.mpr ⟨cl_17_171, fun _ h => absurd h List.not_mem_nil⟩⟩⟩⟩
theorem ci_18 : Cond.instantiable (CN 18) (CZ 18) ∈ lw_all := lw_g (lw_at lw_m4 130 rfl) rfl
theorem cl_18_165 : layG 18 165 ∈ lw_all := lw_g (lw_at lw_m4 144 rfl) rfl
theorem cl_18_172 : layG 18 172 ∈ lw_all := lw_g (lw_at lw_m4 140 rfl) rfl
theorem cl_18_173 : layG 18 173 ∈ lw_all := lw_g (lw_at lw_m4 142 rfl) rfl
theorem cf_18 : ∀ j ∈ CF 18, layG 18 j ∈ lw_all := List.forall_mem_cons.mpr ⟨cl_18_165, List.forall_mem_cons.mpr ⟨cl_18_172, List.forall_mem_cons.mpr ⟨cl_18_173, fun _ h => absurd h List.not_mem_nil⟩⟩⟩
theorem ci_19 : Cond.instantiable (CN 19) (CZ 19) ∈ lw_all := lw_g (lw_at lw_m4 152 rfl) rfl
theorem cl_19_165 : layG 19 165 ∈ lw_all := lw_g (lw_at lw_m4 179 rfl) rfl
theorem cl_19_174 : layG 19 174 ∈ lw_all := lw_g (lw_at lw_m4 167 rfl) rfl
theorem cl_19_175 : layG 19 175 ∈ lw_all := lw_g (lw_at lw_m4 169 rfl) rfl
theorem cl_19_176 : layG 19 176 ∈ lw_all := lw_g (lw_at lw_m4 171 rfl) rfl
theorem cl_19_177 : layG 19 177 ∈ lw_all := lw_g (lw_at lw_m4 173 rfl) rfl
theorem cl_19_178 : layG 19 178 ∈ lw_all := lw_g (lw_at lw_m4 175 rfl) rfl
theorem cl_19_179 : layG 19 179 ∈ lw_all := lw_g (lw_at lw_m4 177 rfl) rfl
theorem cf_19 : ∀ j ∈ CF 19, layG 19 j ∈ lw_all := List.forall_mem_cons.mpr ⟨cl_19_165, List.forall_mem_cons.mpr ⟨cl_19_174, List.forall_mem_cons.mpr ⟨cl_19_175, List.forall_mem_cons.mpr ⟨cl_19_176, List.forall_mem_cons.mpr ⟨cl_19_177, List.forall_mem_cons.mpr ⟨cl_19_178, List.forall_mem_cons.mpr ⟨cl_19_179, fun _ h => absurd h List.not_mem_nil⟩⟩⟩⟩⟩⟩⟩
theorem ci_20 : Cond.instantiable (CN 20) (CZ 20) ∈ lw_all := lw_g (lw_at lw_m4 186 rfl) rfl
theorem cl_20_165 : layG 20 165 ∈ lw_all := lw_g (lw_at lw_m4 199 rfl) rfl
theorem cl_20_180 : layG 20 180 ∈ lw_all := lw_g (lw_at lw_m4 197 rfl) rfl
theorem cf_20 : ∀ j ∈ CF 20, layG 20 j ∈ lw_all := List.forall_mem_cons.mpr ⟨cl_20_165, List.forall_mem_cons.mpr ⟨cl_20_180, fun _ h => absurd h List.not_mem_nil⟩⟩
theorem ci_21 : Cond.instantiable (CN 21) (CZ 21) ∈ lw_all := lw_g (lw_at lw_m4 202 rfl) rfl
theorem cl_21_165 : layG 21 165 ∈ lw_all := lw_g (lw_at lw_m4 213 rfl) rfl
theorem cl_21_181 : layG 21 181 ∈ lw_all := lw_g (lw_at lw_m4 211 rfl) rfl
theorem cf_21 : ∀ j ∈ CF 21, layG 21 j ∈ lw_all := List.forall_mem_cons.mpr ⟨cl_21_165, List.forall_mem_cons.mpr ⟨cl_21_181, fun _ h => absurd h List.not_mem_nil⟩⟩
theorem ci_22 : Cond.instantiable (CN 22) (CZ 22) ∈ lw_all := lw_g (lw_at lw_m4 216 rfl) rfl
theorem cl_22_165 : layG 22 165 ∈ lw_all := lw_g (lw_at lw_m4 227 rfl) rfl
theorem cl_22_182 : layG 22 182 ∈ lw_all := lw_g (lw_at lw_m4 223 rfl) rfl
theorem cl_22_183 : layG 22 183 ∈ lw_all := lw_g (lw_at lw_m4 225 rfl) rfl
theorem cf_22 : ∀ j ∈ CF 22, layG 22 j ∈ lw_all := List.forall_mem_cons.mpr ⟨cl_22_165, List.forall_mem_cons.mpr ⟨cl_22_182, List.forall_mem_cons.mpr ⟨cl_22_183, fun _ h => absurd h List.not_mem_nil⟩⟩⟩
theorem ci_23 : Cond.instantiable (CN 23) (CZ 23) ∈ lw_all := lw_g (lw_at lw_m4 234 rfl) rfl
theorem cl_23_165 : layG 23 165 ∈ lw_all := lw_g (lw_at lw_m5 5 rfl) rfl
theorem cl_23_184 : layG 23 184 ∈ lw_all := lw_g (lw_at lw_m5 3 rfl) rfl
theorem cf_23 : ∀ j ∈ CF 23, layG 23 j ∈ lw_all := List.forall_mem_cons.mpr ⟨cl_23_165, List.forall_mem_cons.mpr ⟨cl_23_184, fun _ h => absurd h List.not_mem_nil⟩⟩
theorem ci_24 : Cond.instantiable (CN 24) (CZ 24) ∈ lw_all := lw_g (lw_at lw_m5 14 rfl) rfl
theorem cl_24_161 : layG 24 161 ∈ lw_all := lw_g (lw_at lw_m5 27 rfl) rfl
theorem cl_24_185 : layG 24 185 ∈ lw_all := lw_g (lw_at lw_m5 23 rfl) rfl
theorem cl_24_186 : layG 24 186 ∈ lw_all := lw_g (lw_at lw_m5 25 rfl) rfl
theorem cf_24 : ∀ j ∈ CF 24, layG 24 j ∈ lw_all := List.forall_mem_cons.mpr ⟨cl_24_161, List.forall_mem_cons.mpr ⟨cl_24_185, List.forall_mem_cons.mpr ⟨cl_24_186, fun _ h => absurd h List.not_mem_nil⟩⟩⟩
theorem ci_25 : Cond.instantiable (CN 25) (CZ 25) ∈ lw_all := lw_g (lw_at lw_m5 35 rfl) rfl
theorem cl_25_161 : layG 25 161 ∈ lw_all := lw_g (lw_at lw_m5 52 rfl) rfl
theorem cl_25_187 : layG 25 187 ∈ lw_all := lw_g (lw_at lw_m5 46 rfl) rfl
theorem cl_25_188 : layG 25 188 ∈ lw_all := lw_g (lw_at lw_m5 48 rfl) rfl
theorem cl_25_189 : layG 25 189 ∈ lw_all := lw_g (lw_at lw_m5 50 rfl) rfl
theorem cf_25 : ∀ j ∈ CF 25, layG 25 j ∈ lw_all := List.forall_mem_cons.mpr ⟨cl_25_161, List.forall_mem_cons.mpr ⟨cl_25_187, List.forall_mem_cons.mpr ⟨cl_25_188, List.forall_mem_cons.mpr ⟨cl_25_189, fun _ h => absurd h List.not_mem_nil⟩⟩⟩⟩
theorem ci_26 : Cond.instantiable (CN 26) (CZ 26) ∈ lw_all := lw_g (lw_at lw_m5 65 rfl) rfl
theorem cl_26_161 : layG 26 161 ∈ lw_all := lw_g (lw_at lw_m5 77 rfl) rfl
theorem cl_26_190 : layG 26 190 ∈ lw_all := lw_g (lw_at lw_m5 73 rfl) rfl
theorem cl_26_191 : layG 26 191 ∈ lw_all := lw_g (lw_at lw_m5 75 rfl) rfl
theorem cf_26 : ∀ j ∈ CF 26, layG 26 j ∈ lw_all := List.forall_mem_cons.mpr ⟨cl_26_161, List.forall_mem_cons.mpr ⟨cl_26_190, List.forall_mem_cons.mpr ⟨cl_26_191, fun _ h => absurd h List.not_mem_nil⟩⟩⟩
theorem ci_27 : Cond.instantiable (CN 27) (CZ 27) ∈ lw_all := lw_g (lw_at lw_m5 87 rfl) rfl
theorem cl_27_161 : layG 27 161 ∈ lw_all := lw_g (lw_at lw_m5 108 rfl) rfl
theorem cl_27_192 : layG 27 192 ∈ lw_all := lw_g (lw_at lw_m5 100 rfl) rfl
theorem cl_27_193 : layG 27 193 ∈ lw_all := lw_g (lw_at lw_m5 102 rfl) rfl
theorem cl_27_194 : layG 27 194 ∈ lw_all := lw_g (lw_at lw_m5 104 rfl) rfl
theorem cl_27_195 : layG 27 195 ∈ lw_all := lw_g (lw_at lw_m5 106 rfl) rfl
theorem cf_27 : ∀ j ∈ CF 27, layG 27 j ∈ lw_all := List.forall_mem_cons.mpr ⟨cl_27_161, List.forall_mem_cons.mpr ⟨cl_27_192, List.forall_mem_cons.mpr ⟨cl_27_193, List.forall_mem_cons.mpr ⟨cl_27_194, List.forall_mem_cons.mpr ⟨cl_27_195, fun _ h => absurd h List.not_mem_nil⟩⟩⟩⟩⟩
theorem ci_28 : Cond.instantiable (CN 28) (CZ 28) ∈ lw_all := lw_g (lw_at lw_m5 120 rfl) rfl
theorem cl_28_161 : layG 28 161 ∈ lw_all := lw_g (lw_at lw_m5 157 rfl) rfl
theorem cl_28_196 : layG 28 196 ∈ lw_all := lw_g (lw_at lw_m5 143 rfl) rfl
theorem cl_28_197 : layG 28 197 ∈ lw_all := lw_g (lw_at lw_m5 145 rfl) rfl
theorem cl_28_198 : layG 28 198 ∈ lw_all := lw_g (lw_at lw_m5 147 rfl) rfl
theorem cl_28_199 : layG 28 199 ∈ lw_all := lw_g (lw_at lw_m5 149 rfl) rfl
theorem cl_28_200 : layG 28 200 ∈ lw_all := lw_g (lw_at lw_m5 151 rfl) rfl
theorem cl_28_201 : layG 28 201 ∈ lw_all := lw_g (lw_at lw_m5 153 rfl) rfl
theorem cl_28_202 : layG 28 202 ∈ lw_all := lw_g (lw_at lw_m5 155 rfl) rfl
theorem cf_28 : ∀ j ∈ CF 28, layG 28 j ∈ lw_all := List.forall_mem_cons.mpr ⟨cl_28_161, List.forall_mem_cons.mpr ⟨cl_28_196, List.forall_mem_cons.mpr ⟨cl_28_197, List.forall_mem_cons.mpr ⟨cl_28_198, List.forall_mem_cons.mpr ⟨cl_28_199, List.forall_mem_cons.mpr ⟨cl_28_200, List.forall_mem_cons.mpr ⟨cl_28_201, List.forall_mem_cons.mpr ⟨cl_28_202, fun _ h => absurd h List.not_mem_nil⟩⟩⟩⟩⟩⟩⟩⟩
theorem ci_29 : Cond.instantiable (CN 29) (CZ 29) ∈ lw_all := lw_g (lw_at lw_m6 26 rfl) rfl
theorem cl_29_203 : layG 29 203 ∈ lw_all := lw_g (lw_at lw_m6 46 rfl) rfl
theorem cf_29 : ∀ j ∈ CF 29, layG 29 j ∈ lw_all := List.forall_mem_cons.mpr ⟨cl_29_203, fun _ h => absurd h List.not_mem_nil⟩
theorem ci_30 : Cond.instantiable (CN 30) (CZ 30) ∈ lw_all := lw_g (lw_at lw_m6 105 rfl) rfl
theorem cl_30_204 : layG 30 204 ∈ lw_all := lw_g (lw_at lw_m6 116 rfl) rfl
theorem cl_30_205 : layG 30 205 ∈ lw_all := lw_g (lw_at lw_m6 118 rfl) rfl
theorem cf_30 : ∀ j ∈ CF 30, layG 30 j ∈ lw_all := List.forall_mem_cons.mpr ⟨cl_30_204, List.forall_mem_cons.mpr ⟨cl_30_205, fun _ h => absurd h List.not_mem_nil⟩⟩
theorem ci_31 : Cond.instantiable (CN 31) (CZ 31) ∈ lw_all := lw_g (lw_at lw_m6 195 rfl) rfl
theorem cl_31_206 : layG 31 206 ∈ lw_all := lw_g (lw_at lw_m6 233 rfl) rfl
theorem cl_31_207 : layG 31 207 ∈ lw_all := lw_g (lw_at lw_m6 235 rfl) rfl
theorem cl_31_208 : layG 31 208 ∈ lw_all := lw_g (lw_at lw_m6 237 rfl) rfl
theorem cf_31 : ∀ j ∈ CF 31, layG 31 j ∈ lw_all := List.forall_mem_cons.mpr ⟨cl_31_206, List.forall_mem_cons.mpr ⟨cl_31_207, List.forall_mem_cons.mpr ⟨cl_31_208, fun _ h => absurd h List.not_mem_nil⟩⟩⟩
theorem ci_32 : Cond.instantiable (CN 32) (CZ 32) ∈ lw_all := lw_g (lw_at lw_m7 62 rfl) rfl
theorem cl_32_209 : layG 32 209 ∈ lw_all := lw_g (lw_at lw_m7 71 rfl) rfl
theorem cf_32 : ∀ j ∈ CF 32, layG 32 j ∈ lw_all := List.forall_mem_cons.mpr ⟨cl_32_209, fun _ h => absurd h List.not_mem_nil⟩
theorem ci_33 : Cond.instantiable (CN 33) (CZ 33) ∈ lw_all := lw_g (lw_at lw_m1 100 rfl) rfl
theorem cl_33_8 : layG 33 8 ∈ lw_all := lw_g (lw_at lw_m1 71 rfl) rfl
theorem cl_33_9 : layG 33 9 ∈ lw_all := lw_g (lw_at lw_m1 73 rfl) rfl
theorem cl_33_10 : layG 33 10 ∈ lw_all := lw_g (lw_at lw_m1 75 rfl) rfl
theorem cl_33_11 : layG 33 11 ∈ lw_all := lw_g (lw_at lw_m1 77 rfl) rfl
theorem cl_33_12 : layG 33 12 ∈ lw_all := lw_g (lw_at lw_m1 79 rfl) rfl
theorem cf_33 : ∀ j ∈ CF 33, layG 33 j ∈ lw_all := List.forall_mem_cons.mpr ⟨cl_33_8, List.forall_mem_cons.mpr ⟨cl_33_9, List.forall_mem_cons.mpr ⟨cl_33_10, List.forall_mem_cons.mpr ⟨cl_33_11, List.forall_mem_cons.mpr ⟨cl_33_12, fun _ h => absurd h List.not_mem_nil⟩⟩⟩⟩⟩
theorem ci_34 : Cond.instantiable (CN 34) (CZ 34) ∈ lw_all := lw_g (lw_at lw_m6 153 rfl) rfl
theorem cl_34_210 : layG 34 210 ∈ lw_all := lw_g (lw_at lw_m6 154 rfl) rfl
theorem cl_34_211 : layG 34 211 ∈ lw_all := lw_g (lw_at lw_m6 156 rfl) rfl
theorem cf_34 : ∀ j ∈ CF 34, layG 34 j ∈ lw_all := List.forall_mem_cons.mpr ⟨cl_34_210, List.forall_mem_cons.mpr ⟨cl_34_211, fun _ h => absurd h List.not_mem_nil⟩⟩
theorem ci_35 : Cond.instantiable (CN 35) (CZ 35) ∈ lw_all := lw_g (lw_at lw_m6 127 rfl) rfl
theorem cl_35_12 : layG 35 12 ∈ lw_all := lw_g (lw_at lw_m6 142 rfl) rfl
theorem cl_35_11 : layG 35 11 ∈ lw_all := lw_g (lw_at lw_m6 143 rfl) rfl
theorem cl_35_8 : layG 35 8 ∈ lw_all := lw_g (lw_at lw_m6 144 rfl) rfl
theorem cl_35_9 : layG 35 9 ∈ lw_all := lw_g (lw_at lw_m6 145 rfl) rfl
theorem cl_35_13 : layG 35 13 ∈ lw_all := lw_g (lw_at lw_m6 146 rfl) rfl
theorem cl_35_10 : layG 35 10 ∈ lw_all := lw_g (lw_at lw_m6 147 rfl) rfl
theorem cf_35 : ∀ j ∈ CF 35, layG 35 j ∈ lw_all := List.forall_mem_cons.mpr ⟨cl_35_12, List.forall_mem_cons.mpr ⟨cl_35_11, List.forall_mem_cons.mpr ⟨cl_35_8, List.forall_mem_cons.mpr ⟨cl_35_9, List.forall_mem_cons.mpr ⟨cl_35_13, List.forall_mem_cons.mpr ⟨cl_35_10, fun _ h => absurd h List.not_mem_nil⟩⟩⟩⟩⟩⟩
theorem ci_36 : Cond.instantiable (CN 36) (CZ 36) ∈ lw_all := lw_g (lw_at lw_m7 25 rfl) rfl
theorem cl_36_12 : layG 36 12 ∈ lw_all := lw_g (lw_at lw_m7 29 rfl) rfl
theorem cl_36_11 : layG 36 11 ∈ lw_all := lw_g (lw_at lw_m7 30 rfl) rfl
theorem cl_36_8 : layG 36 8 ∈ lw_all := lw_g (lw_at lw_m7 31 rfl) rfl
theorem cl_36_9 : layG 36 9 ∈ lw_all := lw_g (lw_at lw_m7 32 rfl) rfl
theorem cl_36_13 : layG 36 13 ∈ lw_all := lw_g (lw_at lw_m7 33 rfl) rfl
theorem cl_36_10 : layG 36 10 ∈ lw_all := lw_g (lw_at lw_m7 34 rfl) rfl
theorem cf_36 : ∀ j ∈ CF 36, layG 36 j ∈ lw_all := List.forall_mem_cons.mpr ⟨cl_36_12, List.forall_mem_cons.mpr ⟨cl_36_11, List.forall_mem_cons.mpr ⟨cl_36_8, List.forall_mem_cons.mpr ⟨cl_36_9, List.forall_mem_cons.mpr ⟨cl_36_13, List.forall_mem_cons.mpr ⟨cl_36_10, fun _ h => absurd h List.not_mem_nil⟩⟩⟩⟩⟩⟩
theorem ci_37 : Cond.instantiable (CN 37) (CZ 37) ∈ lw_all := lw_g (lw_at lw_m7 103 rfl) rfl
theorem cl_37_12 : layG 37 12 ∈ lw_all := lw_g (lw_at lw_m7 107 rfl) rfl
theorem cl_37_11 : layG 37 11 ∈ lw_all := lw_g (lw_at lw_m7 108 rfl) rfl
theorem cl_37_8 : layG 37 8 ∈ lw_all := lw_g (lw_at lw_m7 109 rfl) rfl
theorem cl_37_9 : layG 37 9 ∈ lw_all := lw_g (lw_at lw_m7 110 rfl) rfl
theorem cl_37_13 : layG 37 13 ∈ lw_all := lw_g (lw_at lw_m7 111 rfl) rfl
theorem cl_37_10 : layG 37 10 ∈ lw_all := lw_g (lw_at lw_m7 112 rfl) rfl
theorem cf_37 : ∀ j ∈ CF 37, layG 37 j ∈ lw_all := List.forall_mem_cons.mpr ⟨cl_37_12, List.forall_mem_cons.mpr ⟨cl_37_11, List.forall_mem_cons.mpr ⟨cl_37_8, List.forall_mem_cons.mpr ⟨cl_37_9, List.forall_mem_cons.mpr ⟨cl_37_13, List.forall_mem_cons.mpr ⟨cl_37_10, fun _ h => absurd h List.not_mem_nil⟩⟩⟩⟩⟩⟩
theorem ci_ok : ∀ k, k < NK → Cond.instantiable (CN k) (CZ k) ∈ lw_all := by
  intro k hk
  match k, hk with
  | 0, _ => exact ci_0
  | 1, _ => exact ci_1
  | 2, _ => exact ci_2
  | 3, _ => exact ci_3
  | 4, _ => exact ci_4
  | 5, _ => exact ci_5
  | 6, _ => exact ci_6
  | 7, _ => exact ci_7
  | 8, _ => exact ci_8
  | 9, _ => exact ci_9
  | 10, _ => exact ci_10
  | 11, _ => exact ci_11
  | 12, _ => exact ci_12
  | 13, _ => exact ci_13
  | 14, _ => exact ci_14
  | 15, _ => exact ci_15
  | 16, _ => exact ci_16
  | 17, _ => exact ci_17
  | 18, _ => exact ci_18
  | 19, _ => exact ci_19
  | 20, _ => exact ci_20
  | 21, _ => exact ci_21
  | 22, _ => exact ci_22
  | 23, _ => exact ci_23
  | 24, _ => exact ci_24
  | 25, _ => exact ci_25
  | 26, _ => exact ci_26
  | 27, _ => exact ci_27
  | 28, _ => exact ci_28
  | 29, _ => exact ci_29
  | 30, _ => exact ci_30
  | 31, _ => exact ci_31
  | 32, _ => exact ci_32
  | 33, _ => exact ci_33
  | 34, _ => exact ci_34
  | 35, _ => exact ci_35
  | 36, _ => exact ci_36
  | 37, _ => exact ci_37
  | n + 38, h => exact absurd h (by unfold NK; omega)
theorem cf_ok : ∀ k, k < NK → ∀ j ∈ CF k, layG k j ∈ lw_all := by
  intro k hk
  match k, hk with
  | 0, _ => exact cf_0
  | 1, _ => exact cf_1
  | 2, _ => exact cf_2
  | 3, _ => exact cf_3
  | 4, _ => exact cf_4
  | 5, _ => exact cf_5
  | 6, _ => exact cf_6
  | 7, _ => exact cf_7
  | 8, _ => exact cf_8
  | 9, _ => exact cf_9
  | 10, _ => exact cf_10
  | 11, _ => exact cf_11
  | 12, _ => exact cf_12
  | 13, _ => exact cf_13
  | 14, _ => exact cf_14
  | 15, _ => exact cf_15
  | 16, _ => exact cf_16
  | 17, _ => exact cf_17
  | 18, _ => exact cf_18
  | 19, _ => exact cf_19
  | 20, _ => exact cf_20
  | 21, _ => exact cf_21
  | 22, _ => exact cf_22
  | 23, _ => exact cf_23
  | 24, _ => exact cf_24
  | 25, _ => exact cf_25
  | 26, _ => exact cf_26
  | 27, _ => exact cf_27
  | 28, _ => exact cf_28
  | 29, _ => exact cf_29
  | 30, _ => exact cf_30
  | 31, _ => exact cf_31
  | 32, _ => exact cf_32
  | 33, _ => exact cf_33
  | 34, _ => exact cf_34
  | 35, _ => exact cf_35
  | 36, _ => exact cf_36
  | 37, _ => exact cf_37
  | n + 38, h => exact absurd h (by unfold NK; omega)
