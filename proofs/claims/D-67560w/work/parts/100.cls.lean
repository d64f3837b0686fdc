/-! the classes' fields, written by wip/D-67560w/tools/gen_facts.py -/
set_option maxRecDepth 100000
def cNm (c : Nat) : String := cNmL.getD c ""
def tFl : Nat → List (String × String × String × Bool) := fun c => match c with
  | 1 => [("PathStore", "tape", "[B", true), ("PathStore", "taped", "I", false), ("PathStore", "result", "LPathStore$Sink;", false), ("PathStore", "spare", "LPathStore$Sink;", false), ("PathStore", "measure", "LPathStore$Sink;", true), ("PathStore", "reader", "LPathStore$Reader;", true), ("PathStore", "compiler", "LPathStore$Compiler;", true), ("PathStore", "runner", "LPathStore$Runner;", true), ("PathStore", "patcher", "LPathStore$Patcher;", true), ("PathStore", "disk", "LPathStore$Disk;", true), ("PathStore", "read", "LPathStore$Row;", true), ("PathStore", "loaded", "LPathStore$Row;", true), ("PathStore", "now", "LPathStore$Version;", true), ("PathStore", "readers", "[LPathStore$Version;", true), ("PathStore", "tables", "[LPathStore$Table;", true), ("PathStore", "sequence", "I", false), ("PathStore", "serials", "I", false), ("PathStore", "dark", "Z", false), ("PathStore", "cut", "I", false), ("PathStore", "place", "I", false), ("PathStore", "ids", "[I", false), ("PathStore", "blocks", "[I", false), ("PathStore", "listed", "I", false)]
  | 2 => [("PathStore$Sink", "row", "[B", true), ("PathStore$Sink", "size", "I", false)]
  | 4 => [("PathStore$Text", "tape", "[B", false), ("PathStore$Text", "end", "I", false), ("PathStore$Text", "at", "I", false), ("PathStore$Text", "place", "I", false), ("PathStore$Reader", "nested", "I", false)]
  | 5 => [("PathStore$Text", "tape", "[B", false), ("PathStore$Text", "end", "I", false), ("PathStore$Text", "at", "I", false), ("PathStore$Text", "place", "I", false), ("PathStore$Compiler", "names", "LPathStore$Row;", false), ("PathStore$Compiler", "opened", "I", false)]
  | 6 => [("PathStore$Runner", "row", "LPathStore$Row;", false), ("PathStore$Runner", "root", "I", false), ("PathStore$Runner", "nodes", "[I", false), ("PathStore$Runner", "size", "I", false), ("PathStore$Runner", "done", "I", false)]
  | 7 => [("PathStore$Patcher", "words", "LPathStore$Row;", true), ("PathStore$Patcher", "op", "I", true), ("PathStore$Patcher", "path", "I", true), ("PathStore$Patcher", "value", "I", true), ("PathStore$Patcher", "from", "I", true), ("PathStore$Patcher", "doc", "LPathStore$Row;", false), ("PathStore$Patcher", "other", "LPathStore$Row;", false), ("PathStore$Patcher", "held", "LPathStore$Row;", true), ("PathStore$Patcher", "moved", "LPathStore$Row;", true), ("PathStore$Patcher", "tokens", "LPathStore$Row;", true), ("PathStore$Patcher", "starts", "[I", true), ("PathStore$Patcher", "count", "I", false), ("PathStore$Patcher", "around", "[I", true), ("PathStore$Patcher", "deep", "I", false), ("PathStore$Patcher", "found", "I", false), ("PathStore$Patcher", "measure", "LPathStore$Sink;", true), ("PathStore$Patcher", "done", "I", false)]
  | 8 => [("PathStore$Row", "bytes", "[B", false), ("PathStore$Row", "size", "I", false)]
  | 9 => [("PathStore$Disk", "bytes", "[B", true), ("PathStore$Disk", "block", "[B", true), ("PathStore$Disk", "staged", "[B", true), ("PathStore$Disk", "stagedAt", "[I", true), ("PathStore$Disk", "stagedSize", "I", false), ("PathStore$Disk", "used", "[Z", true), ("PathStore$Disk", "next", "I", false), ("PathStore$Disk", "nodes", "[LPathStore$Disk$Node;", true), ("PathStore$Disk", "nodeCount", "I", false)]
  | 10 => [("PathStore$Version", "root", "I", false), ("PathStore$Version", "count", "I", false), ("PathStore$Version", "serial", "I", false), ("PathStore$Version", "open", "Z", false)]
  | 11 => [("PathStoreModel", "tape", "[B", true), ("PathStoreModel", "taped", "I", false), ("PathStoreModel", "result", "[B", true), ("PathStoreModel", "length", "I", false), ("PathStoreModel", "code", "I", false), ("PathStoreModel", "place", "I", false), ("PathStoreModel", "gone", "Z", false), ("PathStoreModel", "cut", "I", false), ("PathStoreModel", "now", "LPathStoreModel$Store;", true), ("PathStoreModel", "readers", "[LPathStoreModel$Store;", true), ("PathStoreModel", "indexText", "[[B", true), ("PathStoreModel", "text", "[B", false), ("PathStoreModel", "at", "I", false), ("PathStoreModel", "stop", "I", false), ("PathStoreModel", "broken", "I", false), ("PathStoreModel", "out", "[B", true), ("PathStoreModel", "written", "I", false), ("PathStoreModel", "over", "Z", false), ("PathStoreModel", "document", "LPathStoreModel$Tree;", true), ("PathStoreModel", "told", "LPathStoreModel$Tree;", true), ("PathStoreModel", "work", "[B", true), ("PathStoreModel", "workLength", "I", false), ("PathStoreModel", "tokenStart", "[I", true), ("PathStoreModel", "tokenLength", "[I", true), ("PathStoreModel", "tokens", "I", false), ("PathStoreModel", "names", "LPathStoreModel$Tree;", true), ("PathStoreModel", "root", "I", false), ("PathStoreModel", "q", "[I", false), ("PathStoreModel", "ends", "[J", false), ("PathStoreModel", "rows", "I", false), ("PathStoreModel", "said", "LPathStoreModel$Tree;", true), ("PathStoreModel", "opened", "I", false), ("PathStoreModel", "list", "[I", true), ("PathStoreModel", "top", "I", false), ("PathStoreModel", "done", "I", false), ("PathStoreModel", "tooMuch", "Z", false), ("PathStoreModel", "rootNode", "I", false), ("PathStoreModel", "values", "LPathStoreModel$Tree;", true)]
  | 12 => [("PathStoreModel$Store", "ids", "[I", true), ("PathStoreModel$Store", "lengths", "[I", true), ("PathStoreModel$Store", "bytes", "[[B", true), ("PathStoreModel$Store", "count", "I", false), ("PathStoreModel$Store", "open", "Z", false)]
  | 13 => [("PathStoreModel$Tree", "kinds", "[I", false), ("PathStoreModel$Tree", "numbers", "[J", false), ("PathStoreModel$Tree", "starts", "[I", false), ("PathStoreModel$Tree", "lengths", "[I", false), ("PathStoreModel$Tree", "kids", "[I", false), ("PathStoreModel$Tree", "nexts", "[I", false), ("PathStoreModel$Tree", "nameStarts", "[I", false), ("PathStoreModel$Tree", "nameLengths", "[I", false), ("PathStoreModel$Tree", "parents", "[I", false), ("PathStoreModel$Tree", "places", "[I", false), ("PathStoreModel$Tree", "count", "I", false), ("PathStoreModel$Tree", "units", "[C", false), ("PathStoreModel$Tree", "used", "I", false)]
  | 14 => [("PathStore$Disk$Node", "leaf", "Z", false), ("PathStore$Disk$Node", "ids", "[I", true), ("PathStore$Disk$Node", "blocks", "[I", true), ("PathStore$Disk$Node", "size", "I", false)]
  | 15 => [("PathStore$Query", "root", "Z", true), ("PathStore$Query", "singular", "Z", false), ("PathStore$Query", "segments", "[LPathStore$Segment;", false), ("PathStore$Query", "size", "I", false)]
  | 16 => [("PathStore$Segment", "down", "Z", true), ("PathStore$Segment", "selectors", "[LPathStore$Selector;", false), ("PathStore$Segment", "size", "I", false)]
  | 17 => [("PathStore$Name", "names", "LPathStore$Row;", true), ("PathStore$Name", "name", "I", true)]
  | 18 => [("PathStore$Index", "index", "J", true)]
  | 20 => [("PathStore$Filter", "test", "LPathStore$Test;", true)]
  | 21 => [("PathStore$Not", "test", "LPathStore$Test;", true)]
  | 22 => [("PathStore$Exists", "query", "LPathStore$Query;", true)]
  | 23 => [("PathStore$Nodes", "query", "LPathStore$Query;", true), ("PathStore$Nodes", "counts", "Z", true)]
  | 24 => [("PathStore$Literal", "row", "LPathStore$Row;", true), ("PathStore$Literal", "value", "I", true)]
  | 25 => [("PathStore$Length", "of", "LPathStore$Operand;", true)]
  | 26 => [("PathStore$Compare", "op", "I", true), ("PathStore$Compare", "left", "LPathStore$Operand;", true), ("PathStore$Compare", "right", "LPathStore$Operand;", true), ("PathStore$Compare", "a", "LPathStore$Result;", true), ("PathStore$Compare", "b", "LPathStore$Result;", true)]
  | 27 => [("PathStore$Result", "kind", "I", false), ("PathStore$Result", "row", "LPathStore$Row;", false), ("PathStore$Result", "at", "I", false), ("PathStore$Result", "number", "J", false)]
  | 28 => [("PathStore$Many", "any", "Z", true), ("PathStore$Many", "tests", "[LPathStore$Test;", false), ("PathStore$Many", "size", "I", false)]
  | 29 => [("PathStore$Slice", "hasStart", "Z", true), ("PathStore$Slice", "start", "J", true), ("PathStore$Slice", "hasEnd", "Z", true), ("PathStore$Slice", "end", "J", true), ("PathStore$Slice", "step", "J", true)]
  | 30 => [("PathStore$Table", "query", "LPathStore$Query;", true), ("PathStore$Table", "version", "I", false), ("PathStore$Table", "keys", "[J", true), ("PathStore$Table", "ids", "[I", true), ("PathStore$Table", "size", "I", false)]
  | 31 => [("java/lang/String", "value", "[B", true), ("java/lang/String", "coder", "B", true)]
  | _ => []
def TT (t : Nat) : u_T := fun k => (tFl t).getD k ("", "", "", false)
def tyL : Nat → List FieldType := fun c => match c with
  | 1 => [.array (.byte), .int, .object "PathStore$Sink", .object "PathStore$Sink", .object "PathStore$Sink", .object "PathStore$Reader", .object "PathStore$Compiler", .object "PathStore$Runner", .object "PathStore$Patcher", .object "PathStore$Disk", .object "PathStore$Row", .object "PathStore$Row", .object "PathStore$Version", .array (.object "PathStore$Version"), .array (.object "PathStore$Table"), .int, .int, .boolean, .int, .int, .array (.int), .array (.int), .int]
  | 2 => [.array (.byte), .int]
  | 4 => [.array (.byte), .int, .int, .int, .int]
  | 5 => [.array (.byte), .int, .int, .int, .object "PathStore$Row", .int]
  | 6 => [.object "PathStore$Row", .int, .array (.int), .int, .int]
  | 7 => [.object "PathStore$Row", .int, .int, .int, .int, .object "PathStore$Row", .object "PathStore$Row", .object "PathStore$Row", .object "PathStore$Row", .object "PathStore$Row", .array (.int), .int, .array (.int), .int, .int, .object "PathStore$Sink", .int]
  | 8 => [.array (.byte), .int]
  | 9 => [.array (.byte), .array (.byte), .array (.byte), .array (.int), .int, .array (.boolean), .int, .array (.object "PathStore$Disk$Node"), .int]
  | 10 => [.int, .int, .int, .boolean]
  | 11 => [.array (.byte), .int, .array (.byte), .int, .int, .int, .boolean, .int, .object "PathStoreModel$Store", .array (.object "PathStoreModel$Store"), .array (.array (.byte)), .array (.byte), .int, .int, .int, .array (.byte), .int, .boolean, .object "PathStoreModel$Tree", .object "PathStoreModel$Tree", .array (.byte), .int, .array (.int), .array (.int), .int, .object "PathStoreModel$Tree", .int, .array (.int), .array (.long), .int, .object "PathStoreModel$Tree", .int, .array (.int), .int, .int, .boolean, .int, .object "PathStoreModel$Tree"]
  | 12 => [.array (.int), .array (.int), .array (.array (.byte)), .int, .boolean]
  | 13 => [.array (.int), .array (.long), .array (.int), .array (.int), .array (.int), .array (.int), .array (.int), .array (.int), .array (.int), .array (.int), .int, .array (.char), .int]
  | 14 => [.boolean, .array (.int), .array (.int), .int]
  | 15 => [.boolean, .boolean, .array (.object "PathStore$Segment"), .int]
  | 16 => [.boolean, .array (.object "PathStore$Selector"), .int]
  | 17 => [.object "PathStore$Row", .int]
  | 18 => [.long]
  | 20 => [.object "PathStore$Test"]
  | 21 => [.object "PathStore$Test"]
  | 22 => [.object "PathStore$Query"]
  | 23 => [.object "PathStore$Query", .boolean]
  | 24 => [.object "PathStore$Row", .int]
  | 25 => [.object "PathStore$Operand"]
  | 26 => [.int, .object "PathStore$Operand", .object "PathStore$Operand", .object "PathStore$Result", .object "PathStore$Result"]
  | 27 => [.int, .object "PathStore$Row", .int, .long]
  | 28 => [.boolean, .array (.object "PathStore$Test"), .int]
  | 29 => [.boolean, .long, .boolean, .long, .long]
  | 30 => [.object "PathStore$Query", .int, .array (.long), .array (.int), .int]
  | 31 => [.array (.byte), .byte]
  | _ => []
def tyF (t k : Nat) : FieldType := (tyL t).getD k .int
def okTy (k : Nat) (t : FieldType) : Bool := match k, t with
  | 0, .int => true
  | 0, .byte => true
  | 1, .long => true
  | 2, .object _ => true
  | 2, .array _ => true
  | 3, .boolean => true
  | _, _ => false
def OBK (t : Nat) : Prop := (∀ w ∈ u_ws (cNm t) (TT t) (fTy t).length, w ∈ lw_all) ∧ (∀ k, k < (fTy t).length → parseFieldDescriptor (TT t k).2.2.1 = some (tyF t k)) ∧ (∀ a, a < (fTy t).length → ∀ b, b < (fTy t).length → a ≠ b → (TT t a).2.1 ≠ (TT t b).2.1) ∧ ∀ k, k < (fTy t).length → okTy ((fTy t).getD k 0) (tyF t k) = true
theorem obk_1 : OBK 1 := ⟨lw_in _ [564, 566, 568, 570, 572, 574, 576, 578, 580, 582, 584, 586, 588, 590, 592, 594, 596, 598, 600, 602, 604, 606, 608] (by decide +kernel) (by decide +kernel), by decide +kernel, by decide +kernel, by decide +kernel⟩
theorem obk_2 : OBK 2 := ⟨lw_in _ [204, 206] (by decide +kernel) (by decide +kernel), by decide +kernel, by decide +kernel, by decide +kernel⟩
theorem obk_4 : OBK 4 := ⟨lw_in _ [240, 242, 244, 246, 238] (by decide +kernel) (by decide +kernel), by decide +kernel, by decide +kernel, by decide +kernel⟩
theorem obk_5 : OBK 5 := ⟨lw_in _ [261, 262, 263, 264, 257, 259] (by decide +kernel) (by decide +kernel), by decide +kernel, by decide +kernel, by decide +kernel⟩
theorem obk_6 : OBK 6 := ⟨lw_in _ [289, 291, 293, 295, 297] (by decide +kernel) (by decide +kernel), by decide +kernel, by decide +kernel, by decide +kernel⟩
theorem obk_7 : OBK 7 := ⟨lw_in _ [420, 422, 424, 426, 428, 430, 432, 434, 436, 438, 440, 442, 444, 446, 448, 450, 452] (by decide +kernel) (by decide +kernel), by decide +kernel, by decide +kernel, by decide +kernel⟩
theorem obk_8 : OBK 8 := ⟨lw_in _ [324, 326] (by decide +kernel) (by decide +kernel), by decide +kernel, by decide +kernel, by decide +kernel⟩
theorem obk_9 : OBK 9 := ⟨lw_in _ [474, 476, 478, 480, 482, 484, 486, 488, 490] (by decide +kernel) (by decide +kernel), by decide +kernel, by decide +kernel, by decide +kernel⟩
theorem obk_10 : OBK 10 := ⟨lw_in _ [506, 508, 510, 512] (by decide +kernel) (by decide +kernel), by decide +kernel, by decide +kernel, by decide +kernel⟩
theorem obk_11 : OBK 11 := ⟨lw_in _ [2238, 2240, 2242, 2244, 2246, 2248, 2250, 2252, 2254, 2256, 2258, 2260, 2262, 2264, 2266, 2268, 2270, 2272, 2274, 2276, 2278, 2280, 2282, 2284, 2286, 2288, 2290, 2292, 2294, 2296, 2298, 2300, 2302, 2304, 2306, 2308, 2310, 2312] (by decide +kernel) (by decide +kernel), by decide +kernel, by decide +kernel, by decide +kernel⟩
theorem obk_12 : OBK 12 := ⟨lw_in _ [2127, 2129, 2131, 2133, 2135] (by decide +kernel) (by decide +kernel), by decide +kernel, by decide +kernel, by decide +kernel⟩
theorem obk_13 : OBK 13 := ⟨lw_in _ [2172, 2174, 2176, 2178, 2180, 2182, 2184, 2186, 2188, 2190, 2192, 2194, 2196] (by decide +kernel) (by decide +kernel), by decide +kernel, by decide +kernel, by decide +kernel⟩
theorem obk_14 : OBK 14 := ⟨lw_in _ [1100, 1102, 1104, 1106] (by decide +kernel) (by decide +kernel), by decide +kernel, by decide +kernel, by decide +kernel⟩
theorem obk_15 : OBK 15 := ⟨lw_in _ [1413, 1415, 1417, 1419] (by decide +kernel) (by decide +kernel), by decide +kernel, by decide +kernel, by decide +kernel⟩
theorem obk_16 : OBK 16 := ⟨lw_in _ [1446, 1448, 1450] (by decide +kernel) (by decide +kernel), by decide +kernel, by decide +kernel, by decide +kernel⟩
theorem obk_17 : OBK 17 := ⟨lw_in _ [1472, 1474] (by decide +kernel) (by decide +kernel), by decide +kernel, by decide +kernel, by decide +kernel⟩
theorem obk_18 : OBK 18 := ⟨lw_in _ [1511] (by decide +kernel) (by decide +kernel), by decide +kernel, by decide +kernel, by decide +kernel⟩
theorem obk_19 : OBK 19 := ⟨lw_in _ [] (by decide +kernel) (by decide +kernel), by decide +kernel, by decide +kernel, by decide +kernel⟩
theorem obk_20 : OBK 20 := ⟨lw_in _ [1712] (by decide +kernel) (by decide +kernel), by decide +kernel, by decide +kernel, by decide +kernel⟩
theorem obk_21 : OBK 21 := ⟨lw_in _ [1565] (by decide +kernel) (by decide +kernel), by decide +kernel, by decide +kernel, by decide +kernel⟩
theorem obk_22 : OBK 22 := ⟨lw_in _ [1579] (by decide +kernel) (by decide +kernel), by decide +kernel, by decide +kernel, by decide +kernel⟩
theorem obk_23 : OBK 23 := ⟨lw_in _ [1594, 1596] (by decide +kernel) (by decide +kernel), by decide +kernel, by decide +kernel, by decide +kernel⟩
theorem obk_24 : OBK 24 := ⟨lw_in _ [1607, 1609] (by decide +kernel) (by decide +kernel), by decide +kernel, by decide +kernel, by decide +kernel⟩
theorem obk_25 : OBK 25 := ⟨lw_in _ [1630] (by decide +kernel) (by decide +kernel), by decide +kernel, by decide +kernel, by decide +kernel⟩
theorem obk_26 : OBK 26 := ⟨lw_in _ [1674, 1676, 1678, 1680, 1682] (by decide +kernel) (by decide +kernel), by decide +kernel, by decide +kernel, by decide +kernel⟩
theorem obk_27 : OBK 27 := ⟨lw_in _ [1660, 1662, 1664, 1666] (by decide +kernel) (by decide +kernel), by decide +kernel, by decide +kernel, by decide +kernel⟩
theorem obk_28 : OBK 28 := ⟨lw_in _ [1696, 1698, 1700] (by decide +kernel) (by decide +kernel), by decide +kernel, by decide +kernel, by decide +kernel⟩
theorem obk_29 : OBK 29 := ⟨lw_in _ [1730, 1732, 1734, 1736, 1738] (by decide +kernel) (by decide +kernel), by decide +kernel, by decide +kernel, by decide +kernel⟩
theorem obk_30 : OBK 30 := ⟨lw_in _ [2011, 2013, 2015, 2017, 2019] (by decide +kernel) (by decide +kernel), by decide +kernel, by decide +kernel, by decide +kernel⟩
theorem obk_31 : OBK 31 := ⟨lw_in _ [717, 719] (by decide +kernel) (by decide +kernel), by decide +kernel, by decide +kernel, by decide +kernel⟩
def obL : List Nat := [1, 2, 4, 5, 6, 7, 8, 9, 10, 11, 12, 13, 14, 15, 16, 17, 18, 19, 20, 21, 22, 23, 24, 25, 26, 27, 28, 29, 30, 31]
theorem obk : ∀ t ∈ obL, OBK t := by
  unfold obL
  repeat' (first | exact (fun _ h => absurd h (List.not_mem_nil)) | refine List.forall_mem_cons.mpr ⟨?_, ?_⟩)
  · exact obk_1
  · exact obk_2
  · exact obk_4
  · exact obk_5
  · exact obk_6
  · exact obk_7
  · exact obk_8
  · exact obk_9
  · exact obk_10
  · exact obk_11
  · exact obk_12
  · exact obk_13
  · exact obk_14
  · exact obk_15
  · exact obk_16
  · exact obk_17
  · exact obk_18
  · exact obk_19
  · exact obk_20
  · exact obk_21
  · exact obk_22
  · exact obk_23
  · exact obk_24
  · exact obk_25
  · exact obk_26
  · exact obk_27
  · exact obk_28
  · exact obk_29
  · exact obk_30
  · exact obk_31
