/-! tables of the pure machine, written by wip/D-67560w/tools/gen_tables.py out of the given tables -/
set_option maxRecDepth 100000
def cNmL : List String := ["PathStoreLaw", "PathStore", "PathStore$Sink", "PathStore$Text", "PathStore$Reader", "PathStore$Compiler", "PathStore$Runner", "PathStore$Patcher", "PathStore$Row", "PathStore$Disk", "PathStore$Version", "PathStoreModel", "PathStoreModel$Store", "PathStoreModel$Tree", "PathStore$Disk$Node", "PathStore$Query", "PathStore$Segment", "PathStore$Name", "PathStore$Index", "PathStore$All", "PathStore$Filter", "PathStore$Not", "PathStore$Exists", "PathStore$Nodes", "PathStore$Literal", "PathStore$Length", "PathStore$Compare", "PathStore$Result", "PathStore$Many", "PathStore$Slice", "PathStore$Table", "java/lang/String", "java/lang/StringLatin1", "jdk/internal/util/Preconditions"]
abbrev mE : Type := Nat × MethodName × ByteArray × Nat × Option FieldType × Nat × Nat × Nat × List (Nat × Nat × Nat × Nat)
/-- class, name, code, locals, answer, kind of the answer, number of the arguments, 1 for a constructor, handlers -/
def MT0 : List mE := [
  (0, ⟨"PathStoreLaw", "law", "([I)Z"⟩, code, 8, ret, 4, 1, 0, []),
  (0, ⟨"PathStoreLaw", "feed", "(LPathStore;IIIII[J)I"⟩, method_3_code, 8, (Option.some FieldType.int), 1, 7, 0, [(0, 16, 19, 13)]),
  (0, ⟨"PathStoreLaw", "end", "(LPathStore;I[J)I"⟩, method_4_code, 4, (Option.some FieldType.int), 1, 3, 0, [(0, 9, 12, 19)]),
  (0, ⟨"PathStoreLaw", "put", "(LPathStore;I[J)I"⟩, method_5_code, 4, (Option.some FieldType.int), 1, 3, 0, [(0, 9, 12, 19), (0, 9, 15, 24), (0, 9, 18, 26), (0, 9, 21, 13)]),
  (0, ⟨"PathStoreLaw", "get", "(LPathStore;II[J)I"⟩, method_6_code, 5, (Option.some FieldType.int), 1, 4, 0, [(0, 10, 13, 19), (0, 10, 17, 24), (0, 10, 21, 32)]),
  (0, ⟨"PathStoreLaw", "out", "(LPathStore;I[J)I"⟩, method_7_code, 4, (Option.some FieldType.int), 1, 3, 0, [(0, 9, 12, 19), (0, 9, 15, 24), (0, 9, 18, 32)]),
  (0, ⟨"PathStoreLaw", "clear", "(LPathStore;[J)I"⟩, method_8_code, 3, (Option.some FieldType.int), 1, 2, 0, [(0, 8, 11, 24)]),
  (0, ⟨"PathStoreLaw", "patch", "(LPathStore;I[J)I"⟩, method_9_code, 4, (Option.some FieldType.int), 1, 3, 0, [(0, 9, 12, 19), (0, 9, 15, 24), (0, 9, 18, 26), (0, 9, 21, 32), (0, 9, 24, 44), (0, 9, 27, 13)]),
  (0, ⟨"PathStoreLaw", "open", "(LPathStore;I)I"⟩, method_10_code, 3, (Option.some FieldType.int), 1, 2, 0, [(0, 5, 8, 19), (0, 5, 11, 24)]),
  (0, ⟨"PathStoreLaw", "close", "(LPathStore;I)I"⟩, method_11_code, 3, (Option.some FieldType.int), 1, 2, 0, [(0, 5, 8, 19), (0, 5, 11, 24)]),
  (0, ⟨"PathStoreLaw", "query", "(LPathStore;I[J)I"⟩, method_12_code, 4, (Option.some FieldType.int), 1, 3, 0, [(0, 9, 12, 19), (0, 9, 15, 24), (0, 9, 18, 26), (0, 9, 21, 13)]),
  (0, ⟨"PathStoreLaw", "index", "(LPathStore;I)I"⟩, method_13_code, 3, (Option.some FieldType.int), 1, 2, 0, [(0, 5, 8, 19), (0, 5, 11, 24), (0, 5, 14, 26)]),
  (0, ⟨"PathStoreLaw", "find", "(LPathStore;II[J)I"⟩, method_14_code, 5, (Option.some FieldType.int), 1, 4, 0, [(0, 10, 13, 19), (0, 10, 17, 24), (0, 10, 21, 26)]),
  (0, ⟨"PathStoreLaw", "cut", "(LPathStore;I)I"⟩, method_15_code, 3, (Option.some FieldType.int), 1, 2, 0, [(0, 5, 8, 19), (0, 5, 11, 24)]),
  (0, ⟨"PathStoreLaw", "word", "(LPathStore;I[J)I"⟩, method_16_code, 4, (Option.some FieldType.int), 1, 3, 0, [(0, 8, 11, 13)]),
  (0, ⟨"PathStoreLaw", "count", "(LPathStore;I[J)I"⟩, method_17_code, 4, (Option.some FieldType.int), 1, 3, 0, [(0, 9, 12, 19)]),
  (1, ⟨"PathStore", "<init>", "()V"⟩, prog_1_method_1_code, 2, (Option.none : Option FieldType), 0, 0, 1, []),
  (1, ⟨"PathStore", "mount", "()I"⟩, prog_1_method_32_code, 3, (Option.some FieldType.int), 1, 0, 0, []),
  (1, ⟨"PathStore", "feed", "(IIIII)I"⟩, prog_1_method_8_code, 6, (Option.some FieldType.int), 1, 5, 0, []),
  (1, ⟨"PathStore", "within", "(Z)V"⟩, prog_1_method_5_code, 1, (Option.none : Option FieldType), 0, 1, 0, []),
  (1, ⟨"PathStore", "type", "(I)V"⟩, prog_1_method_7_code, 3, (Option.none : Option FieldType), 0, 1, 0, []),
  (1, ⟨"PathStore", "end", "(I)I"⟩, prog_1_method_9_code, 2, (Option.some FieldType.int), 1, 1, 0, []),
  (1, ⟨"PathStore", "in", "(II)Z"⟩, prog_1_method_6_code, 2, (Option.some FieldType.boolean), 4, 2, 0, []),
  (1, ⟨"PathStore", "need", "(Z)V"⟩, prog_1_method_2_code, 1, (Option.none : Option FieldType), 0, 1, 0, []),
  (1, ⟨"PathStore", "put", "(I)I"⟩, prog_1_method_16_code, 5, (Option.some FieldType.int), 1, 1, 0, [])]
def MT1 : List mE := [
  (1, ⟨"PathStore", "taken", "()I"⟩, prog_1_method_10_code, 2, (Option.some FieldType.int), 1, 0, 0, []),
  (1, ⟨"PathStore", "state", "(Z)V"⟩, prog_1_method_3_code, 1, (Option.none : Option FieldType), 0, 1, 0, []),
  (1, ⟨"PathStore", "value", "(I)V"⟩, prog_1_method_12_code, 3, (Option.none : Option FieldType), 0, 1, 0, [(13, 29, 32, 160)]),
  (1, ⟨"PathStore", "begin", "()V"⟩, prog_1_method_14_code, 5, (Option.none : Option FieldType), 0, 0, 0, []),
  (1, ⟨"PathStore", "commit", "(II)V"⟩, prog_1_method_15_code, 8, (Option.none : Option FieldType), 0, 2, 0, []),
  (1, ⟨"PathStore", "get", "(II)I"⟩, prog_1_method_17_code, 4, (Option.some FieldType.int), 1, 2, 0, []),
  (1, ⟨"PathStore", "version", "(I)LPathStore$Version;"⟩, prog_1_method_11_code, 2, (Option.some (FieldType.object "PathStore$Version")), 3, 1, 0, []),
  (1, ⟨"PathStore", "there", "(Z)V"⟩, prog_1_method_4_code, 1, (Option.none : Option FieldType), 0, 1, 0, []),
  (1, ⟨"PathStore", "out", "(I)I"⟩, prog_1_method_18_code, 2, (Option.some FieldType.int), 1, 1, 0, []),
  (1, ⟨"PathStore", "clear", "()I"⟩, prog_1_method_19_code, 2, (Option.some FieldType.int), 1, 0, 0, []),
  (1, ⟨"PathStore", "patch", "(I)I"⟩, prog_1_method_20_code, 6, (Option.some FieldType.int), 1, 1, 0, [(83, 97, 100, 229)]),
  (1, ⟨"PathStore", "open", "(I)V"⟩, prog_1_method_21_code, 3, (Option.none : Option FieldType), 0, 1, 0, []),
  (1, ⟨"PathStore", "close", "(I)V"⟩, prog_1_method_22_code, 2, (Option.none : Option FieldType), 0, 1, 0, []),
  (1, ⟨"PathStore", "query", "(I)I"⟩, prog_1_method_26_code, 9, (Option.some FieldType.int), 1, 1, 0, []),
  (1, ⟨"PathStore", "compiled", "(I)LPathStore$Query;"⟩, prog_1_method_13_code, 3, (Option.some (FieldType.object "PathStore$Query")), 3, 1, 0, [(5, 17, 18, 160)]),
  (1, ⟨"PathStore", "list", "(I)V"⟩, prog_1_method_23_code, 2, (Option.none : Option FieldType), 0, 1, 0, []),
  (1, ⟨"PathStore", "gather", "(I)V"⟩, prog_1_method_24_code, 4, (Option.none : Option FieldType), 0, 1, 0, []),
  (1, ⟨"PathStore", "swap", "()V"⟩, prog_1_method_25_code, 2, (Option.none : Option FieldType), 0, 0, 0, []),
  (1, ⟨"PathStore", "index", "(I)V"⟩, prog_1_method_27_code, 4, (Option.none : Option FieldType), 0, 1, 0, []),
  (1, ⟨"PathStore", "find", "(II)I"⟩, prog_1_method_30_code, 10, (Option.some FieldType.int), 1, 2, 0, []),
  (1, ⟨"PathStore", "build", "(LPathStore$Table;LPathStore$Version;)V"⟩, prog_1_method_29_code, 5, (Option.none : Option FieldType), 0, 2, 0, []),
  (1, ⟨"PathStore", "node", "(LPathStore$Query;)I"⟩, prog_1_method_28_code, 2, (Option.some FieldType.int), 1, 1, 0, []),
  (1, ⟨"PathStore", "cut", "(I)V"⟩, prog_1_method_31_code, 2, (Option.none : Option FieldType), 0, 1, 0, []),
  (1, ⟨"PathStore", "word", "(I)J"⟩, prog_1_method_33_code, 5, (Option.some FieldType.long), 2, 1, 0, []),
  (1, ⟨"PathStore", "count", "(I)I"⟩, prog_1_method_35_code, 2, (Option.some FieldType.int), 1, 1, 0, [])]
def MT2 : List mE := [
  (1, ⟨"PathStore", "wrong", "()I"⟩, prog_1_method_34_code, 4, (Option.some FieldType.int), 1, 0, 0, []),
  (2, ⟨"PathStore$Sink", "<init>", "(I)V"⟩, prog_25_method_1_code, 2, (Option.none : Option FieldType), 0, 1, 1, []),
  (2, ⟨"PathStore$Sink", "value", "(LPathStore$Row;I)V"⟩, prog_25_method_8_code, 3, (Option.none : Option FieldType), 0, 2, 0, []),
  (2, ⟨"PathStore$Sink", "text", "(Ljava/lang/String;)V"⟩, prog_25_method_3_code, 3, (Option.none : Option FieldType), 0, 1, 0, []),
  (2, ⟨"PathStore$Sink", "put", "(I)V"⟩, prog_25_method_2_code, 2, (Option.none : Option FieldType), 0, 1, 0, []),
  (2, ⟨"PathStore$Sink", "number", "(J)V"⟩, prog_25_method_4_code, 7, (Option.none : Option FieldType), 0, 1, 0, []),
  (2, ⟨"PathStore$Sink", "string", "(LPathStore$Row;III)V"⟩, prog_25_method_7_code, 7, (Option.none : Option FieldType), 0, 4, 0, []),
  (2, ⟨"PathStore$Sink", "letter", "(I)I"⟩, prog_25_method_6_code, 1, (Option.some FieldType.int), 1, 1, 0, []),
  (2, ⟨"PathStore$Sink", "hex", "(I)V"⟩, prog_25_method_5_code, 4, (Option.none : Option FieldType), 0, 1, 0, []),
  (2, ⟨"PathStore$Sink", "many", "(LPathStore$Row;I)V"⟩, prog_25_method_9_code, 7, (Option.none : Option FieldType), 0, 2, 0, []),
  (3, ⟨"PathStore$Text", "<init>", "()V"⟩, prog_29_method_1_code, 1, (Option.none : Option FieldType), 0, 0, 1, []),
  (3, ⟨"PathStore$Text", "over", "([BI)V"⟩, prog_29_method_2_code, 3, (Option.none : Option FieldType), 0, 2, 0, []),
  (3, ⟨"PathStore$Text", "blanks", "()V"⟩, prog_29_method_9_code, 1, (Option.none : Option FieldType), 0, 0, 0, []),
  (3, ⟨"PathStore$Text", "peek", "()I"⟩, prog_29_method_3_code, 1, (Option.some FieldType.int), 1, 0, 0, []),
  (3, ⟨"PathStore$Text", "word", "(Ljava/lang/String;)V"⟩, prog_29_method_7_code, 3, (Option.none : Option FieldType), 0, 1, 0, []),
  (3, ⟨"PathStore$Text", "expect", "(I)V"⟩, prog_29_method_6_code, 2, (Option.none : Option FieldType), 0, 1, 0, []),
  (3, ⟨"PathStore$Text", "can", "(Z)V"⟩, prog_29_method_5_code, 2, (Option.none : Option FieldType), 0, 1, 0, []),
  (3, ⟨"PathStore$Text", "broken", "(I)V"⟩, prog_29_method_4_code, 2, (Option.none : Option FieldType), 0, 1, 0, []),
  (3, ⟨"PathStore$Text", "quoted", "(LPathStore$Row;I)V"⟩, prog_29_method_14_code, 4, (Option.none : Option FieldType), 0, 2, 0, []),
  (3, ⟨"PathStore$Text", "character", "(LPathStore$Row;I)V"⟩, prog_29_method_12_code, 6, (Option.none : Option FieldType), 0, 2, 0, []),
  (3, ⟨"PathStore$Text", "units", "(LPathStore$Row;I)V"⟩, prog_29_method_13_code, 5, (Option.none : Option FieldType), 0, 2, 0, []),
  (3, ⟨"PathStore$Text", "four", "(I)I"⟩, prog_29_method_11_code, 5, (Option.some FieldType.int), 1, 1, 0, []),
  (3, ⟨"PathStore$Text", "hex", "(I)I"⟩, prog_29_method_10_code, 1, (Option.some FieldType.int), 1, 1, 0, []),
  (3, ⟨"PathStore$Text", "digit", "(I)Z"⟩, prog_29_method_8_code, 1, (Option.some FieldType.boolean), 4, 1, 0, []),
  (4, ⟨"PathStore$Reader", "<init>", "()V"⟩, prog_19_method_1_code, 1, (Option.none : Option FieldType), 0, 0, 1, [])]
def MT3 : List mE := [
  (4, ⟨"PathStore$Reader", "read", "([BILPathStore$Row;)V"⟩, prog_19_method_2_code, 4, (Option.none : Option FieldType), 0, 3, 0, []),
  (4, ⟨"PathStore$Reader", "value", "(LPathStore$Row;)V"⟩, prog_19_method_3_code, 2, (Option.none : Option FieldType), 0, 1, 0, []),
  (4, ⟨"PathStore$Reader", "many", "(LPathStore$Row;)V"⟩, prog_19_method_5_code, 5, (Option.none : Option FieldType), 0, 1, 0, []),
  (4, ⟨"PathStore$Reader", "element", "(LPathStore$Row;IZ)V"⟩, prog_19_method_6_code, 7, (Option.none : Option FieldType), 0, 3, 0, []),
  (4, ⟨"PathStore$Reader", "number", "(LPathStore$Row;)V"⟩, prog_19_method_4_code, 6, (Option.none : Option FieldType), 0, 1, 0, []),
  (5, ⟨"PathStore$Compiler", "<init>", "()V"⟩, prog_4_method_1_code, 1, (Option.none : Option FieldType), 0, 0, 1, []),
  (5, ⟨"PathStore$Compiler", "compile", "([BI)LPathStore$Query;"⟩, prog_4_method_2_code, 4, (Option.some (FieldType.object "PathStore$Query")), 3, 2, 0, []),
  (5, ⟨"PathStore$Compiler", "query", "(Z)LPathStore$Query;"⟩, prog_4_method_6_code, 4, (Option.some (FieldType.object "PathStore$Query")), 3, 1, 0, []),
  (5, ⟨"PathStore$Compiler", "step", "()LPathStore$Segment;"⟩, prog_4_method_8_code, 2, (Option.some (FieldType.object "PathStore$Segment")), 3, 0, 0, []),
  (5, ⟨"PathStore$Compiler", "name", "()LPathStore$Name;"⟩, prog_4_method_9_code, 2, (Option.some (FieldType.object "PathStore$Name")), 3, 0, 0, []),
  (5, ⟨"PathStore$Compiler", "letter", "(I)Z"⟩, prog_4_method_5_code, 1, (Option.some FieldType.boolean), 4, 1, 0, []),
  (5, ⟨"PathStore$Compiler", "open", "()V"⟩, prog_4_method_3_code, 1, (Option.none : Option FieldType), 0, 0, 0, []),
  (5, ⟨"PathStore$Compiler", "quotedName", "()LPathStore$Name;"⟩, prog_4_method_10_code, 2, (Option.some (FieldType.object "PathStore$Name")), 3, 0, 0, []),
  (5, ⟨"PathStore$Compiler", "integer", "()J"⟩, prog_4_method_14_code, 5, (Option.some FieldType.long), 2, 0, 0, []),
  (5, ⟨"PathStore$Compiler", "close", "(I)V"⟩, prog_4_method_4_code, 2, (Option.none : Option FieldType), 0, 1, 0, []),
  (5, ⟨"PathStore$Compiler", "segment", "(LPathStore$Query;)LPathStore$Segment;"⟩, prog_4_method_7_code, 4, (Option.some (FieldType.object "PathStore$Segment")), 3, 1, 0, []),
  (5, ⟨"PathStore$Compiler", "selectors", "(LPathStore$Segment;)V"⟩, prog_4_method_11_code, 2, (Option.none : Option FieldType), 0, 1, 0, []),
  (5, ⟨"PathStore$Compiler", "selector", "()LPathStore$Selector;"⟩, prog_4_method_13_code, 9, (Option.some (FieldType.object "PathStore$Selector")), 3, 0, 0, []),
  (5, ⟨"PathStore$Compiler", "or", "()LPathStore$Test;"⟩, prog_4_method_15_code, 1, (Option.some (FieldType.object "PathStore$Test")), 3, 0, 0, []),
  (5, ⟨"PathStore$Compiler", "several", "(ZI)LPathStore$Test;"⟩, prog_4_method_16_code, 5, (Option.some (FieldType.object "PathStore$Test")), 3, 2, 0, []),
  (5, ⟨"PathStore$Compiler", "basic", "()LPathStore$Test;"⟩, prog_4_method_18_code, 4, (Option.some (FieldType.object "PathStore$Test")), 3, 0, 0, []),
  (5, ⟨"PathStore$Compiler", "inner", "()LPathStore$Test;"⟩, prog_4_method_19_code, 2, (Option.some (FieldType.object "PathStore$Test")), 3, 0, 0, []),
  (5, ⟨"PathStore$Compiler", "queryBegins", "()Z"⟩, prog_4_method_17_code, 1, (Option.some FieldType.boolean), 4, 0, 0, []),
  (5, ⟨"PathStore$Compiler", "operand", "()LPathStore$Operand;"⟩, prog_4_method_22_code, 4, (Option.some (FieldType.object "PathStore$Operand")), 3, 0, 0, []),
  (5, ⟨"PathStore$Compiler", "function", "(I)LPathStore$Operand;"⟩, prog_4_method_23_code, 3, (Option.some (FieldType.object "PathStore$Operand")), 3, 1, 0, [])]
def MT4 : List mE := [
  (5, ⟨"PathStore$Compiler", "compared", "(LPathStore$Operand;)LPathStore$Test;"⟩, prog_4_method_20_code, 3, (Option.some (FieldType.object "PathStore$Test")), 3, 1, 0, []),
  (5, ⟨"PathStore$Compiler", "operator", "()I"⟩, prog_4_method_21_code, 3, (Option.some FieldType.int), 1, 0, 0, []),
  (5, ⟨"PathStore$Compiler", "number", "()Z"⟩, prog_4_method_12_code, 1, (Option.some FieldType.boolean), 4, 0, 0, []),
  (6, ⟨"PathStore$Runner", "<init>", "()V"⟩, prog_22_method_1_code, 1, (Option.none : Option FieldType), 0, 0, 1, []),
  (6, ⟨"PathStore$Runner", "over", "(LPathStore$Row;I)V"⟩, prog_22_method_2_code, 3, (Option.none : Option FieldType), 0, 2, 0, []),
  (6, ⟨"PathStore$Runner", "run", "(LPathStore$Query;I)I"⟩, prog_22_method_5_code, 7, (Option.some FieldType.int), 1, 2, 0, []),
  (6, ⟨"PathStore$Runner", "add", "(I)V"⟩, prog_22_method_4_code, 3, (Option.none : Option FieldType), 0, 1, 0, []),
  (6, ⟨"PathStore$Runner", "work", "()V"⟩, prog_22_method_3_code, 1, (Option.none : Option FieldType), 0, 0, 0, []),
  (6, ⟨"PathStore$Runner", "down", "(LPathStore$Segment;I)V"⟩, prog_22_method_7_code, 5, (Option.none : Option FieldType), 0, 2, 0, []),
  (6, ⟨"PathStore$Runner", "choose", "(LPathStore$Segment;I)V"⟩, prog_22_method_6_code, 4, (Option.none : Option FieldType), 0, 2, 0, []),
  (6, ⟨"PathStore$Runner", "path", "(LPathStore$Sink;I)V"⟩, prog_22_method_8_code, 7, (Option.none : Option FieldType), 0, 2, 0, []),
  (7, ⟨"PathStore$Patcher", "<init>", "()V"⟩, prog_17_method_1_code, 1, (Option.none : Option FieldType), 0, 0, 1, []),
  (7, ⟨"PathStore$Patcher", "name", "(Ljava/lang/String;)I"⟩, prog_17_method_2_code, 4, (Option.some FieldType.int), 1, 1, 0, []),
  (7, ⟨"PathStore$Patcher", "run", "(LPathStore$Row;I)I"⟩, prog_17_method_17_code, 5, (Option.some FieldType.int), 1, 2, 0, []),
  (7, ⟨"PathStore$Patcher", "step", "(LPathStore$Row;I)V"⟩, prog_17_method_15_code, 6, (Option.none : Option FieldType), 0, 2, 0, []),
  (7, ⟨"PathStore$Patcher", "can", "(Z)V"⟩, prog_17_method_3_code, 1, (Option.none : Option FieldType), 0, 1, 0, []),
  (7, ⟨"PathStore$Patcher", "string", "(LPathStore$Row;II)I"⟩, prog_17_method_12_code, 5, (Option.some FieldType.int), 1, 3, 0, []),
  (7, ⟨"PathStore$Patcher", "says", "(LPathStore$Row;ILjava/lang/String;)Z"⟩, prog_17_method_14_code, 4, (Option.some FieldType.boolean), 4, 3, 0, []),
  (7, ⟨"PathStore$Patcher", "given", "(LPathStore$Row;I)I"⟩, prog_17_method_13_code, 4, (Option.some FieldType.int), 1, 2, 0, []),
  (7, ⟨"PathStore$Patcher", "hold", "(LPathStore$Row;I)V"⟩, prog_17_method_11_code, 3, (Option.none : Option FieldType), 0, 2, 0, []),
  (7, ⟨"PathStore$Patcher", "pointer", "(LPathStore$Row;I)V"⟩, prog_17_method_4_code, 7, (Option.none : Option FieldType), 0, 2, 0, []),
  (7, ⟨"PathStore$Patcher", "add", "()V"⟩, prog_17_method_8_code, 6, (Option.none : Option FieldType), 0, 0, 0, []),
  (7, ⟨"PathStore$Patcher", "splice", "(III)V"⟩, prog_17_method_7_code, 6, (Option.none : Option FieldType), 0, 3, 0, []),
  (7, ⟨"PathStore$Patcher", "go", "(I)V"⟩, prog_17_method_6_code, 5, (Option.none : Option FieldType), 0, 1, 0, []),
  (7, ⟨"PathStore$Patcher", "index", "(II)I"⟩, prog_17_method_5_code, 7, (Option.some FieldType.int), 1, 2, 0, [])]
def MT5 : List mE := [
  (7, ⟨"PathStore$Patcher", "named", "(II)V"⟩, prog_17_method_9_code, 4, (Option.none : Option FieldType), 0, 2, 0, []),
  (7, ⟨"PathStore$Patcher", "remove", "()V"⟩, prog_17_method_10_code, 4, (Option.none : Option FieldType), 0, 0, 0, []),
  (7, ⟨"PathStore$Patcher", "transfer", "(LPathStore$Row;IIZ)V"⟩, prog_17_method_16_code, 8, (Option.none : Option FieldType), 0, 4, 0, []),
  (7, ⟨"PathStore$Patcher", "size", "()I"⟩, prog_17_method_18_code, 1, (Option.some FieldType.int), 1, 0, 0, []),
  (8, ⟨"PathStore$Row", "<init>", "(I)V"⟩, prog_21_method_1_code, 2, (Option.none : Option FieldType), 0, 1, 1, []),
  (8, ⟨"PathStore$Row", "put", "(I)V"⟩, prog_21_method_3_code, 2, (Option.none : Option FieldType), 0, 1, 0, []),
  (8, ⟨"PathStore$Row", "room", "(I)V"⟩, prog_21_method_2_code, 3, (Option.none : Option FieldType), 0, 1, 0, []),
  (8, ⟨"PathStore$Row", "unit", "(I)V"⟩, prog_21_method_9_code, 2, (Option.none : Option FieldType), 0, 1, 0, []),
  (8, ⟨"PathStore$Row", "two", "(II)V"⟩, prog_21_method_6_code, 3, (Option.none : Option FieldType), 0, 2, 0, []),
  (8, ⟨"PathStore$Row", "two", "(I)I"⟩, prog_21_method_5_code, 2, (Option.some FieldType.int), 1, 1, 0, []),
  (8, ⟨"PathStore$Row", "sameBytes", "(ILPathStore$Row;II)Z"⟩, prog_21_method_15_code, 6, (Option.some FieldType.boolean), 4, 4, 0, []),
  (8, ⟨"PathStore$Row", "behindName", "(I)I"⟩, prog_21_method_14_code, 2, (Option.some FieldType.int), 1, 1, 0, []),
  (8, ⟨"PathStore$Row", "behind", "(I)I"⟩, prog_21_method_13_code, 3, (Option.some FieldType.int), 1, 1, 0, []),
  (8, ⟨"PathStore$Row", "number", "(J)V"⟩, prog_21_method_7_code, 5, (Option.none : Option FieldType), 0, 1, 0, []),
  (8, ⟨"PathStore$Row", "tag", "(I)I"⟩, prog_21_method_12_code, 2, (Option.some FieldType.int), 1, 1, 0, []),
  (8, ⟨"PathStore$Row", "numberAt", "(I)J"⟩, prog_21_method_8_code, 6, (Option.some FieldType.long), 2, 1, 0, []),
  (8, ⟨"PathStore$Row", "unitAt", "(I)I"⟩, prog_21_method_11_code, 3, (Option.some FieldType.int), 1, 1, 0, []),
  (8, ⟨"PathStore$Row", "unitLength", "(I)I"⟩, prog_21_method_10_code, 3, (Option.some FieldType.int), 1, 1, 0, []),
  (8, ⟨"PathStore$Row", "put", "([BII)V"⟩, prog_21_method_4_code, 4, (Option.none : Option FieldType), 0, 3, 0, []),
  (8, ⟨"PathStore$Row", "member", "(ILPathStore$Row;I)I"⟩, prog_21_method_16_code, 7, (Option.some FieldType.int), 1, 3, 0, []),
  (8, ⟨"PathStore$Row", "count", "(I)I"⟩, prog_21_method_17_code, 5, (Option.some FieldType.int), 1, 1, 0, []),
  (8, ⟨"PathStore$Row", "element", "(IJ)I"⟩, prog_21_method_18_code, 8, (Option.some FieldType.int), 1, 2, 0, []),
  (8, ⟨"PathStore$Row", "same", "(ILPathStore$Row;I)Z"⟩, prog_21_method_21_code, 4, (Option.some FieldType.boolean), 4, 3, 0, []),
  (8, ⟨"PathStore$Row", "sameParts", "(ILPathStore$Row;I)Z"⟩, prog_21_method_22_code, 11, (Option.some FieldType.boolean), 4, 3, 0, []),
  (8, ⟨"PathStore$Row", "depth", "(I)I"⟩, prog_21_method_23_code, 6, (Option.some FieldType.int), 1, 1, 0, [])]
def MT6 : List mE := [
  (8, ⟨"PathStore$Row", "first", "(I)I"⟩, prog_21_method_19_code, 2, (Option.some FieldType.int), 1, 1, 0, []),
  (8, ⟨"PathStore$Row", "next", "(II)I"⟩, prog_21_method_20_code, 4, (Option.some FieldType.int), 1, 2, 0, []),
  (9, ⟨"PathStore$Disk", "<init>", "()V"⟩, prog_5_method_1_code, 1, (Option.none : Option FieldType), 0, 0, 1, []),
  (9, ⟨"PathStore$Disk", "begin", "()V"⟩, prog_5_method_14_code, 2, (Option.none : Option FieldType), 0, 0, 0, []),
  (9, ⟨"PathStore$Disk", "commit", "(IIII)V"⟩, prog_5_method_27_code, 7, (Option.none : Option FieldType), 0, 4, 0, []),
  (9, ⟨"PathStore$Disk", "blank", "(I)V"⟩, prog_5_method_7_code, 3, (Option.none : Option FieldType), 0, 1, 0, []),
  (9, ⟨"PathStore$Disk", "set", "(II)V"⟩, prog_5_method_6_code, 3, (Option.none : Option FieldType), 0, 2, 0, []),
  (9, ⟨"PathStore$Disk", "seal", "([B)V"⟩, prog_5_method_3_code, 3, (Option.none : Option FieldType), 0, 1, 0, []),
  (9, ⟨"PathStore$Disk", "sum", "([BI)I"⟩, prog_5_method_2_code, 4, (Option.some FieldType.int), 1, 2, 0, []),
  (9, ⟨"PathStore$Disk", "header", "(I)Z"⟩, prog_5_method_28_code, 2, (Option.some FieldType.boolean), 4, 1, 0, []),
  (9, ⟨"PathStore$Disk", "sealed", "(I)Z"⟩, prog_5_method_4_code, 4, (Option.some FieldType.boolean), 4, 1, 0, []),
  (9, ⟨"PathStore$Disk", "sequence", "(I)I"⟩, prog_5_method_29_code, 2, (Option.some FieldType.int), 1, 1, 0, []),
  (9, ⟨"PathStore$Disk", "two", "(II)I"⟩, prog_5_method_5_code, 3, (Option.some FieldType.int), 1, 2, 0, []),
  (9, ⟨"PathStore$Disk", "root", "(I)I"⟩, prog_5_method_30_code, 2, (Option.some FieldType.int), 1, 1, 0, []),
  (9, ⟨"PathStore$Disk", "count", "(I)I"⟩, prog_5_method_31_code, 2, (Option.some FieldType.int), 1, 1, 0, []),
  (9, ⟨"PathStore$Disk", "find", "(II)I"⟩, prog_5_method_16_code, 5, (Option.some FieldType.int), 1, 2, 0, []),
  (9, ⟨"PathStore$Disk", "key", "(II)I"⟩, prog_5_method_19_code, 3, (Option.some FieldType.int), 1, 2, 0, []),
  (9, ⟨"PathStore$Disk", "child", "(II)I"⟩, prog_5_method_20_code, 3, (Option.some FieldType.int), 1, 2, 0, []),
  (9, ⟨"PathStore$Disk", "mark", "(I)V"⟩, prog_5_method_13_code, 3, (Option.none : Option FieldType), 0, 1, 0, []),
  (9, ⟨"PathStore$Disk", "document", "(LPathStore$Row;II)I"⟩, prog_5_method_9_code, 5, (Option.some FieldType.int), 1, 3, 0, []),
  (9, ⟨"PathStore$Disk", "stage", "()I"⟩, prog_5_method_8_code, 1, (Option.some FieldType.int), 1, 0, 0, []),
  (9, ⟨"PathStore$Disk", "put", "(III)I"⟩, prog_5_method_21_code, 5, (Option.some FieldType.int), 1, 3, 0, []),
  (9, ⟨"PathStore$Disk", "fresh", "(Z)LPathStore$Disk$Node;"⟩, prog_5_method_15_code, 2, (Option.some (FieldType.object "PathStore$Disk$Node")), 3, 1, 0, []),
  (9, ⟨"PathStore$Disk", "node", "(I)LPathStore$Disk$Node;"⟩, prog_5_method_11_code, 4, (Option.some (FieldType.object "PathStore$Disk$Node")), 3, 1, 0, []),
  (9, ⟨"PathStore$Disk", "insert", "(LPathStore$Disk$Node;II)V"⟩, prog_5_method_22_code, 6, (Option.none : Option FieldType), 0, 3, 0, [])]
def MT7 : List mE := [
  (9, ⟨"PathStore$Disk", "back", "(LPathStore$Disk$Node;ILPathStore$Disk$Node;)V"⟩, prog_5_method_23_code, 7, (Option.none : Option FieldType), 0, 3, 0, []),
  (9, ⟨"PathStore$Disk", "write", "(LPathStore$Disk$Node;)I"⟩, prog_5_method_12_code, 3, (Option.some FieldType.int), 1, 1, 0, []),
  (9, ⟨"PathStore$Disk", "top", "(LPathStore$Disk$Node;)I"⟩, prog_5_method_24_code, 3, (Option.some FieldType.int), 1, 1, 0, []),
  (9, ⟨"PathStore$Disk", "load", "(ILPathStore$Row;)V"⟩, prog_5_method_10_code, 3, (Option.none : Option FieldType), 0, 2, 0, []),
  (9, ⟨"PathStore$Disk", "out", "(II)I"⟩, prog_5_method_25_code, 4, (Option.some FieldType.int), 1, 2, 0, []),
  (9, ⟨"PathStore$Disk", "remove", "(LPathStore$Disk$Node;I)V"⟩, prog_5_method_26_code, 11, (Option.none : Option FieldType), 0, 2, 0, []),
  (9, ⟨"PathStore$Disk", "size", "(I)I"⟩, prog_5_method_18_code, 2, (Option.some FieldType.int), 1, 1, 0, []),
  (9, ⟨"PathStore$Disk", "leaf", "(I)Z"⟩, prog_5_method_17_code, 2, (Option.some FieldType.boolean), 4, 1, 0, []),
  (9, ⟨"PathStore$Disk", "wrong", "(III)I"⟩, prog_5_method_32_code, 8, (Option.some FieldType.int), 1, 3, 0, []),
  (10, ⟨"PathStore$Version", "<init>", "()V"⟩, prog_30_method_1_code, 1, (Option.none : Option FieldType), 0, 0, 1, []),
  (11, ⟨"PathStoreModel", "<init>", "()V"⟩, prog_32_method_4_code, 2, (Option.none : Option FieldType), 0, 0, 1, []),
  (11, ⟨"PathStoreModel", "thrown", "()I"⟩, prog_32_method_5_code, 1, (Option.some FieldType.int), 1, 0, 0, []),
  (11, ⟨"PathStoreModel", "feed", "(IIIII)I"⟩, prog_32_method_7_code, 6, (Option.some FieldType.int), 1, 5, 0, []),
  (11, ⟨"PathStoreModel", "good", "(ZI)Z"⟩, prog_32_method_6_code, 3, (Option.some FieldType.boolean), 4, 2, 0, []),
  (11, ⟨"PathStoreModel", "four", "(I)V"⟩, prog_32_method_8_code, 3, (Option.none : Option FieldType), 0, 1, 0, []),
  (11, ⟨"PathStoreModel", "end", "(I)I"⟩, prog_32_method_9_code, 2, (Option.some FieldType.int), 1, 1, 0, []),
  (11, ⟨"PathStoreModel", "word", "(I)J"⟩, prog_32_method_10_code, 5, (Option.some FieldType.long), 2, 1, 0, []),
  (11, ⟨"PathStoreModel", "count", "(I)I"⟩, prog_32_method_11_code, 2, (Option.some FieldType.int), 1, 1, 0, []),
  (11, ⟨"PathStoreModel", "put", "(I)I"⟩, prog_32_method_37_code, 4, (Option.some FieldType.int), 1, 1, 0, []),
  (11, ⟨"PathStoreModel", "isId", "(I)Z"⟩, prog_32_method_33_code, 1, (Option.some FieldType.boolean), 4, 1, 0, []),
  (11, ⟨"PathStoreModel", "used", "()I"⟩, prog_32_method_32_code, 2, (Option.some FieldType.int), 1, 0, 0, []),
  (11, ⟨"PathStoreModel", "read", "([BILPathStoreModel$Tree;)I"⟩, prog_32_method_24_code, 5, (Option.some FieldType.int), 1, 3, 0, []),
  (11, ⟨"PathStoreModel", "value", "(LPathStoreModel$Tree;I)I"⟩, prog_32_method_21_code, 5, (Option.some FieldType.int), 1, 2, 0, []),
  (11, ⟨"PathStoreModel", "blanks", "()V"⟩, prog_32_method_14_code, 1, (Option.none : Option FieldType), 0, 0, 0, []),
  (11, ⟨"PathStoreModel", "c", "()I"⟩, prog_32_method_12_code, 1, (Option.some FieldType.int), 1, 0, 0, [])]
def MT8 : List mE := [
  (11, ⟨"PathStoreModel", "word", "(Ljava/lang/String;)Z"⟩, prog_32_method_17_code, 3, (Option.some FieldType.boolean), 4, 1, 0, []),
  (11, ⟨"PathStoreModel", "take", "(I)Z"⟩, prog_32_method_16_code, 2, (Option.some FieldType.boolean), 4, 1, 0, []),
  (11, ⟨"PathStoreModel", "fail", "(I)Z"⟩, prog_32_method_13_code, 2, (Option.some FieldType.boolean), 4, 1, 0, []),
  (11, ⟨"PathStoreModel", "quoted", "(ILPathStoreModel$Tree;)Z"⟩, prog_32_method_20_code, 7, (Option.some FieldType.boolean), 4, 2, 0, []),
  (11, ⟨"PathStoreModel", "escaped", "(I)I"⟩, prog_32_method_19_code, 8, (Option.some FieldType.int), 1, 1, 0, []),
  (11, ⟨"PathStoreModel", "hex", "(I)I"⟩, prog_32_method_18_code, 1, (Option.some FieldType.int), 1, 1, 0, []),
  (11, ⟨"PathStoreModel", "digit", "(I)Z"⟩, prog_32_method_15_code, 1, (Option.some FieldType.boolean), 4, 1, 0, []),
  (11, ⟨"PathStoreModel", "number", "(LPathStoreModel$Tree;I)Z"⟩, prog_32_method_22_code, 7, (Option.some FieldType.boolean), 4, 2, 0, []),
  (11, ⟨"PathStoreModel", "inside", "(LPathStoreModel$Tree;III)Z"⟩, prog_32_method_23_code, 9, (Option.some FieldType.boolean), 4, 4, 0, []),
  (11, ⟨"PathStoreModel", "begin", "()V"⟩, prog_32_method_30_code, 1, (Option.none : Option FieldType), 0, 0, 0, []),
  (11, ⟨"PathStoreModel", "print", "(LPathStoreModel$Tree;I)V"⟩, prog_32_method_29_code, 5, (Option.none : Option FieldType), 0, 2, 0, []),
  (11, ⟨"PathStoreModel", "write", "(Ljava/lang/String;)V"⟩, prog_32_method_27_code, 3, (Option.none : Option FieldType), 0, 1, 0, []),
  (11, ⟨"PathStoreModel", "write", "(I)V"⟩, prog_32_method_25_code, 2, (Option.none : Option FieldType), 0, 1, 0, []),
  (11, ⟨"PathStoreModel", "number", "(J)V"⟩, prog_32_method_26_code, 9, (Option.none : Option FieldType), 0, 1, 0, []),
  (11, ⟨"PathStoreModel", "units", "(LPathStoreModel$Tree;III)V"⟩, prog_32_method_28_code, 9, (Option.none : Option FieldType), 0, 4, 0, []),
  (11, ⟨"PathStoreModel", "comes", "()Z"⟩, prog_32_method_35_code, 1, (Option.some FieldType.boolean), 4, 0, 0, []),
  (11, ⟨"PathStoreModel", "changed", "()Z"⟩, prog_32_method_36_code, 2, (Option.some FieldType.boolean), 4, 0, 0, []),
  (11, ⟨"PathStoreModel", "goes", "()Z"⟩, prog_32_method_34_code, 2, (Option.some FieldType.boolean), 4, 0, 0, []),
  (11, ⟨"PathStoreModel", "get", "(II)I"⟩, prog_32_method_39_code, 6, (Option.some FieldType.int), 1, 2, 0, []),
  (11, ⟨"PathStoreModel", "version", "(I)LPathStoreModel$Store;"⟩, prog_32_method_38_code, 2, (Option.some (FieldType.object "PathStoreModel$Store")), 3, 1, 0, []),
  (11, ⟨"PathStoreModel", "out", "(I)I"⟩, prog_32_method_40_code, 3, (Option.some FieldType.int), 1, 1, 0, []),
  (11, ⟨"PathStoreModel", "clear", "()I"⟩, prog_32_method_41_code, 3, (Option.some FieldType.int), 1, 0, 0, []),
  (11, ⟨"PathStoreModel", "open", "(I)V"⟩, prog_32_method_42_code, 2, (Option.none : Option FieldType), 0, 1, 0, []),
  (11, ⟨"PathStoreModel", "close", "(I)V"⟩, prog_32_method_43_code, 2, (Option.none : Option FieldType), 0, 1, 0, []),
  (11, ⟨"PathStoreModel", "cut", "(I)V"⟩, prog_32_method_44_code, 2, (Option.none : Option FieldType), 0, 1, 0, [])]
def MT9 : List mE := [
  (11, ⟨"PathStoreModel", "mount", "()I"⟩, prog_32_method_45_code, 1, (Option.some FieldType.int), 1, 0, 0, []),
  (11, ⟨"PathStoreModel", "patch", "(I)I"⟩, prog_32_method_58_code, 8, (Option.some FieldType.int), 1, 1, 0, []),
  (11, ⟨"PathStoreModel", "operate", "(I)Z"⟩, prog_32_method_57_code, 11, (Option.some FieldType.boolean), 4, 1, 0, []),
  (11, ⟨"PathStoreModel", "text", "(ILjava/lang/String;)I"⟩, prog_32_method_54_code, 4, (Option.some FieldType.int), 1, 2, 0, []),
  (11, ⟨"PathStoreModel", "member", "(ILjava/lang/String;)I"⟩, prog_32_method_52_code, 6, (Option.some FieldType.int), 1, 2, 0, []),
  (11, ⟨"PathStoreModel", "pointer", "(I)Z"⟩, prog_32_method_46_code, 7, (Option.some FieldType.boolean), 4, 1, 0, []),
  (11, ⟨"PathStoreModel", "is", "(ILjava/lang/String;)Z"⟩, prog_32_method_53_code, 5, (Option.some FieldType.boolean), 4, 2, 0, []),
  (11, ⟨"PathStoreModel", "go", "(II)I"⟩, prog_32_method_49_code, 5, (Option.some FieldType.int), 1, 2, 0, []),
  (11, ⟨"PathStoreModel", "tokenIndex", "(I)J"⟩, prog_32_method_47_code, 7, (Option.some FieldType.long), 2, 1, 0, []),
  (11, ⟨"PathStoreModel", "kidAt", "(IJ)I"⟩, prog_32_method_48_code, 7, (Option.some FieldType.int), 1, 2, 0, []),
  (11, ⟨"PathStoreModel", "same", "(LPathStoreModel$Tree;ILPathStoreModel$Tree;I)Z"⟩, prog_32_method_1_code, 7, (Option.some FieldType.boolean), 4, 4, 0, []),
  (11, ⟨"PathStoreModel", "order", "(LPathStoreModel$Tree;ILPathStoreModel$Tree;I)I"⟩, prog_32_method_3_code, 10, (Option.some FieldType.int), 1, 4, 0, []),
  (11, ⟨"PathStoreModel", "character", "([CII)I"⟩, prog_32_method_2_code, 4, (Option.some FieldType.int), 1, 3, 0, []),
  (11, ⟨"PathStoreModel", "add", "(I)Z"⟩, prog_32_method_50_code, 8, (Option.some FieldType.boolean), 4, 1, 0, []),
  (11, ⟨"PathStoreModel", "swap", "(II)V"⟩, prog_32_method_51_code, 6, (Option.none : Option FieldType), 0, 2, 0, []),
  (11, ⟨"PathStoreModel", "begins", "(II)Z"⟩, prog_32_method_55_code, 5, (Option.some FieldType.boolean), 4, 2, 0, []),
  (11, ⟨"PathStoreModel", "alike", "(II)Z"⟩, prog_32_method_56_code, 4, (Option.some FieldType.boolean), 4, 2, 0, []),
  (11, ⟨"PathStoreModel", "query", "(I)I"⟩, prog_32_method_90_code, 9, (Option.some FieldType.int), 1, 1, 0, []),
  (11, ⟨"PathStoreModel", "readQuery", "([BI)I"⟩, prog_32_method_77_code, 4, (Option.some FieldType.int), 1, 2, 0, []),
  (11, ⟨"PathStoreModel", "queryRest", "(ZZ)I"⟩, prog_32_method_65_code, 7, (Option.some FieldType.int), 1, 2, 0, []),
  (11, ⟨"PathStoreModel", "row", "(I)I"⟩, prog_32_method_59_code, 5, (Option.some FieldType.int), 1, 1, 0, []),
  (11, ⟨"PathStoreModel", "set", "(III)V"⟩, prog_32_method_61_code, 4, (Option.none : Option FieldType), 0, 3, 0, []),
  (11, ⟨"PathStoreModel", "segment", "(IZ)I"⟩, prog_32_method_66_code, 5, (Option.some FieldType.int), 1, 2, 0, []),
  (11, ⟨"PathStoreModel", "selectors", "(IIZ)Z"⟩, prog_32_method_67_code, 6, (Option.some FieldType.boolean), 4, 3, 0, []),
  (11, ⟨"PathStoreModel", "enter", "(I)Z"⟩, prog_32_method_63_code, 2, (Option.some FieldType.boolean), 4, 1, 0, [])]
def MT10 : List mE := [
  (11, ⟨"PathStoreModel", "selector", "(Z)I"⟩, prog_32_method_68_code, 5, (Option.some FieldType.int), 1, 1, 0, []),
  (11, ⟨"PathStoreModel", "field", "(II)I"⟩, prog_32_method_60_code, 3, (Option.some FieldType.int), 1, 2, 0, []),
  (11, ⟨"PathStoreModel", "or", "()I"⟩, prog_32_method_70_code, 5, (Option.some FieldType.int), 1, 0, 0, []),
  (11, ⟨"PathStoreModel", "and", "()I"⟩, prog_32_method_71_code, 5, (Option.some FieldType.int), 1, 0, 0, []),
  (11, ⟨"PathStoreModel", "basic", "()I"⟩, prog_32_method_72_code, 7, (Option.some FieldType.int), 1, 0, 0, []),
  (11, ⟨"PathStoreModel", "shut", "(I)Z"⟩, prog_32_method_64_code, 2, (Option.some FieldType.boolean), 4, 1, 0, []),
  (11, ⟨"PathStoreModel", "operator", "()Z"⟩, prog_32_method_74_code, 1, (Option.some FieldType.boolean), 4, 0, 0, []),
  (11, ⟨"PathStoreModel", "comparison", "(I)I"⟩, prog_32_method_75_code, 5, (Option.some FieldType.int), 1, 1, 0, []),
  (11, ⟨"PathStoreModel", "comparable", "()I"⟩, prog_32_method_76_code, 5, (Option.some FieldType.int), 1, 0, 0, []),
  (11, ⟨"PathStoreModel", "whole", "(II)Z"⟩, prog_32_method_69_code, 7, (Option.some FieldType.boolean), 4, 2, 0, []),
  (11, ⟨"PathStoreModel", "wrap", "(I)I"⟩, prog_32_method_73_code, 3, (Option.some FieldType.int), 1, 1, 0, []),
  (11, ⟨"PathStoreModel", "letter", "(I)Z"⟩, prog_32_method_62_code, 1, (Option.some FieldType.boolean), 4, 1, 0, []),
  (11, ⟨"PathStoreModel", "ask", "(II)I"⟩, prog_32_method_80_code, 8, (Option.some FieldType.int), 1, 2, 0, []),
  (11, ⟨"PathStoreModel", "choose", "(I)V"⟩, prog_32_method_79_code, 2, (Option.none : Option FieldType), 0, 1, 0, []),
  (11, ⟨"PathStoreModel", "worked", "()Z"⟩, prog_32_method_78_code, 1, (Option.some FieldType.boolean), 4, 0, 0, []),
  (11, ⟨"PathStoreModel", "descend", "(II)V"⟩, prog_32_method_81_code, 4, (Option.none : Option FieldType), 0, 2, 0, []),
  (11, ⟨"PathStoreModel", "select", "(II)V"⟩, prog_32_method_82_code, 6, (Option.none : Option FieldType), 0, 2, 0, []),
  (11, ⟨"PathStoreModel", "numbers", "(II)V"⟩, prog_32_method_83_code, 16, (Option.none : Option FieldType), 0, 2, 0, []),
  (11, ⟨"PathStoreModel", "holds", "(II)Z"⟩, prog_32_method_84_code, 5, (Option.some FieldType.boolean), 4, 2, 0, []),
  (11, ⟨"PathStoreModel", "compared", "(II)Z"⟩, prog_32_method_87_code, 10, (Option.some FieldType.boolean), 4, 2, 0, []),
  (11, ⟨"PathStoreModel", "comparableValue", "(II)I"⟩, prog_32_method_85_code, 6, (Option.some FieldType.int), 1, 2, 0, []),
  (11, ⟨"PathStoreModel", "lengthOf", "(I)I"⟩, prog_32_method_86_code, 6, (Option.some FieldType.int), 1, 1, 0, []),
  (11, ⟨"PathStoreModel", "below", "(II)Z"⟩, prog_32_method_88_code, 3, (Option.some FieldType.boolean), 4, 2, 0, []),
  (11, ⟨"PathStoreModel", "path", "(I)V"⟩, prog_32_method_89_code, 5, (Option.none : Option FieldType), 0, 1, 0, []),
  (11, ⟨"PathStoreModel", "give", "()V"⟩, prog_32_method_31_code, 2, (Option.none : Option FieldType), 0, 0, 0, [])]
def MT11 : List mE := [
  (11, ⟨"PathStoreModel", "index", "(I)V"⟩, prog_32_method_91_code, 5, (Option.none : Option FieldType), 0, 1, 0, []),
  (11, ⟨"PathStoreModel", "find", "(II)I"⟩, prog_32_method_92_code, 10, (Option.some FieldType.int), 1, 2, 0, []),
  (12, ⟨"PathStoreModel$Store", "<init>", "()V"⟩, prog_33_method_1_code, 1, (Option.none : Option FieldType), 0, 0, 1, []),
  (12, ⟨"PathStoreModel$Store", "find", "(I)I"⟩, prog_33_method_2_code, 3, (Option.some FieldType.int), 1, 1, 0, []),
  (12, ⟨"PathStoreModel$Store", "put", "(I[BI)V"⟩, prog_33_method_5_code, 5, (Option.none : Option FieldType), 0, 3, 0, []),
  (12, ⟨"PathStoreModel$Store", "set", "(II[BI)V"⟩, prog_33_method_4_code, 6, (Option.none : Option FieldType), 0, 4, 0, []),
  (12, ⟨"PathStoreModel$Store", "remove", "(I)V"⟩, prog_33_method_6_code, 3, (Option.none : Option FieldType), 0, 1, 0, []),
  (12, ⟨"PathStoreModel$Store", "take", "(LPathStoreModel$Store;)V"⟩, prog_33_method_3_code, 3, (Option.none : Option FieldType), 0, 1, 0, []),
  (13, ⟨"PathStoreModel$Tree", "<init>", "()V"⟩, prog_34_method_1_code, 1, (Option.none : Option FieldType), 0, 0, 1, []),
  (13, ⟨"PathStoreModel$Tree", "clear", "()V"⟩, prog_34_method_2_code, 1, (Option.none : Option FieldType), 0, 0, 0, []),
  (13, ⟨"PathStoreModel$Tree", "add", "(I)I"⟩, prog_34_method_4_code, 4, (Option.some FieldType.int), 1, 1, 0, []),
  (13, ⟨"PathStoreModel$Tree", "longer", "([I)[I"⟩, prog_34_method_3_code, 3, (Option.some (FieldType.array FieldType.int)), 3, 1, 0, []),
  (13, ⟨"PathStoreModel$Tree", "unit", "(I)V"⟩, prog_34_method_5_code, 4, (Option.none : Option FieldType), 0, 1, 0, []),
  (13, ⟨"PathStoreModel$Tree", "find", "(ILPathStoreModel$Tree;II)I"⟩, prog_34_method_10_code, 6, (Option.some FieldType.int), 1, 4, 0, []),
  (13, ⟨"PathStoreModel$Tree", "named", "(ILPathStoreModel$Tree;II)Z"⟩, prog_34_method_9_code, 6, (Option.some FieldType.boolean), 4, 4, 0, []),
  (13, ⟨"PathStoreModel$Tree", "insert", "(III)V"⟩, prog_34_method_7_code, 4, (Option.none : Option FieldType), 0, 3, 0, []),
  (13, ⟨"PathStoreModel$Tree", "size", "(I)I"⟩, prog_34_method_6_code, 4, (Option.some FieldType.int), 1, 1, 0, []),
  (13, ⟨"PathStoreModel$Tree", "copy", "(LPathStoreModel$Tree;I)I"⟩, prog_34_method_13_code, 9, (Option.some FieldType.int), 1, 2, 0, []),
  (13, ⟨"PathStoreModel$Tree", "name", "(ILPathStoreModel$Tree;II)V"⟩, prog_34_method_14_code, 6, (Option.none : Option FieldType), 0, 4, 0, []),
  (13, ⟨"PathStoreModel$Tree", "remove", "(I)V"⟩, prog_34_method_8_code, 4, (Option.none : Option FieldType), 0, 1, 0, []),
  (13, ⟨"PathStoreModel$Tree", "last", "(I)I"⟩, prog_34_method_11_code, 4, (Option.some FieldType.int), 1, 1, 0, []),
  (13, ⟨"PathStoreModel$Tree", "depth", "(I)I"⟩, prog_34_method_12_code, 5, (Option.some FieldType.int), 1, 1, 0, []),
  (14, ⟨"PathStore$Disk$Node", "<init>", "()V"⟩, prog_6_method_1_code, 1, (Option.none : Option FieldType), 0, 0, 1, []),
  (14, ⟨"PathStore$Disk$Node", "begin", "(Z)LPathStore$Disk$Node;"⟩, prog_6_method_2_code, 2, (Option.some (FieldType.object "PathStore$Disk$Node")), 3, 1, 0, []),
  (14, ⟨"PathStore$Disk$Node", "place", "(I)I"⟩, prog_6_method_3_code, 3, (Option.some FieldType.int), 1, 1, 0, [])]
def MT12 : List mE := [
  (14, ⟨"PathStore$Disk$Node", "insert", "(III)V"⟩, prog_6_method_4_code, 5, (Option.none : Option FieldType), 0, 3, 0, []),
  (14, ⟨"PathStore$Disk$Node", "remove", "(I)V"⟩, prog_6_method_5_code, 3, (Option.none : Option FieldType), 0, 1, 0, []),
  (15, ⟨"PathStore$Query", "<init>", "(Z)V"⟩, prog_18_method_1_code, 2, (Option.none : Option FieldType), 0, 1, 1, []),
  (15, ⟨"PathStore$Query", "add", "(LPathStore$Segment;)V"⟩, prog_18_method_2_code, 4, (Option.none : Option FieldType), 0, 1, 0, []),
  (16, ⟨"PathStore$Segment", "<init>", "(Z)V"⟩, prog_23_method_1_code, 2, (Option.none : Option FieldType), 0, 1, 1, []),
  (16, ⟨"PathStore$Segment", "add", "(LPathStore$Selector;)V"⟩, prog_23_method_2_code, 4, (Option.none : Option FieldType), 0, 1, 0, []),
  (17, ⟨"PathStore$Name", "<init>", "(LPathStore$Row;I)V"⟩, prog_13_method_1_code, 3, (Option.none : Option FieldType), 0, 2, 1, []),
  (17, ⟨"PathStore$Name", "choose", "(LPathStore$Runner;I)V"⟩, prog_13_method_2_code, 4, (Option.none : Option FieldType), 0, 2, 0, []),
  (18, ⟨"PathStore$Index", "<init>", "(J)V"⟩, prog_9_method_1_code, 3, (Option.none : Option FieldType), 0, 1, 1, []),
  (18, ⟨"PathStore$Index", "choose", "(LPathStore$Runner;I)V"⟩, prog_9_method_2_code, 4, (Option.none : Option FieldType), 0, 2, 0, []),
  (19, ⟨"PathStore$All", "<init>", "()V"⟩, prog_2_method_1_code, 1, (Option.none : Option FieldType), 0, 0, 1, []),
  (19, ⟨"PathStore$All", "choose", "(LPathStore$Runner;I)V"⟩, prog_2_method_2_code, 5, (Option.none : Option FieldType), 0, 2, 0, []),
  (20, ⟨"PathStore$Filter", "<init>", "(LPathStore$Test;)V"⟩, prog_8_method_1_code, 2, (Option.none : Option FieldType), 0, 1, 1, []),
  (20, ⟨"PathStore$Filter", "choose", "(LPathStore$Runner;I)V"⟩, prog_8_method_2_code, 5, (Option.none : Option FieldType), 0, 2, 0, []),
  (21, ⟨"PathStore$Not", "<init>", "(LPathStore$Test;)V"⟩, prog_15_method_1_code, 2, (Option.none : Option FieldType), 0, 1, 1, []),
  (21, ⟨"PathStore$Not", "holds", "(LPathStore$Runner;I)Z"⟩, prog_15_method_2_code, 3, (Option.some FieldType.boolean), 4, 2, 0, []),
  (22, ⟨"PathStore$Exists", "<init>", "(LPathStore$Query;)V"⟩, prog_7_method_1_code, 2, (Option.none : Option FieldType), 0, 1, 1, []),
  (22, ⟨"PathStore$Exists", "holds", "(LPathStore$Runner;I)Z"⟩, prog_7_method_2_code, 5, (Option.some FieldType.boolean), 4, 2, 0, []),
  (23, ⟨"PathStore$Nodes", "<init>", "(LPathStore$Query;Z)V"⟩, prog_14_method_1_code, 3, (Option.none : Option FieldType), 0, 2, 1, []),
  (23, ⟨"PathStore$Nodes", "work", "(LPathStore$Runner;ILPathStore$Result;)V"⟩, prog_14_method_2_code, 6, (Option.none : Option FieldType), 0, 3, 0, []),
  (24, ⟨"PathStore$Literal", "<init>", "(LPathStore$Row;I)V"⟩, prog_11_method_1_code, 3, (Option.none : Option FieldType), 0, 2, 1, []),
  (24, ⟨"PathStore$Literal", "work", "(LPathStore$Runner;ILPathStore$Result;)V"⟩, prog_11_method_2_code, 4, (Option.none : Option FieldType), 0, 3, 0, []),
  (25, ⟨"PathStore$Length", "<init>", "(LPathStore$Operand;)V"⟩, prog_10_method_1_code, 2, (Option.none : Option FieldType), 0, 1, 1, []),
  (25, ⟨"PathStore$Length", "work", "(LPathStore$Runner;ILPathStore$Result;)V"⟩, prog_10_method_2_code, 4, (Option.none : Option FieldType), 0, 3, 0, []),
  (26, ⟨"PathStore$Compare", "<init>", "(ILPathStore$Operand;LPathStore$Operand;)V"⟩, prog_3_method_1_code, 4, (Option.none : Option FieldType), 0, 3, 1, [])]
def MT13 : List mE := [
  (26, ⟨"PathStore$Compare", "holds", "(LPathStore$Runner;I)Z"⟩, prog_3_method_2_code, 3, (Option.some FieldType.boolean), 4, 2, 0, []),
  (27, ⟨"PathStore$Result", "<init>", "()V"⟩, prog_20_method_1_code, 1, (Option.none : Option FieldType), 0, 0, 1, []),
  (27, ⟨"PathStore$Result", "value", "(LPathStore$Row;I)V"⟩, prog_20_method_3_code, 3, (Option.none : Option FieldType), 0, 2, 0, []),
  (27, ⟨"PathStore$Result", "counted", "(J)V"⟩, prog_20_method_4_code, 3, (Option.none : Option FieldType), 0, 1, 0, []),
  (27, ⟨"PathStore$Result", "nothing", "()V"⟩, prog_20_method_2_code, 1, (Option.none : Option FieldType), 0, 0, 0, []),
  (27, ⟨"PathStore$Result", "measure", "()V"⟩, prog_20_method_11_code, 5, (Option.none : Option FieldType), 0, 0, 0, []),
  (27, ⟨"PathStore$Result", "length", "(LPathStore$Row;I)I"⟩, prog_20_method_10_code, 3, (Option.some FieldType.int), 1, 2, 0, []),
  (27, ⟨"PathStore$Result", "same", "(LPathStore$Result;)Z"⟩, prog_20_method_7_code, 2, (Option.some FieldType.boolean), 4, 1, 0, []),
  (27, ⟨"PathStore$Result", "isNumber", "()Z"⟩, prog_20_method_5_code, 1, (Option.some FieldType.boolean), 4, 0, 0, []),
  (27, ⟨"PathStore$Result", "asNumber", "()J"⟩, prog_20_method_6_code, 1, (Option.some FieldType.long), 2, 0, 0, []),
  (27, ⟨"PathStore$Result", "less", "(LPathStore$Result;)Z"⟩, prog_20_method_8_code, 8, (Option.some FieldType.boolean), 4, 1, 0, []),
  (27, ⟨"PathStore$Result", "character", "(LPathStore$Row;I)I"⟩, prog_20_method_9_code, 3, (Option.some FieldType.int), 1, 2, 0, []),
  (28, ⟨"PathStore$Many", "<init>", "(Z)V"⟩, prog_12_method_1_code, 2, (Option.none : Option FieldType), 0, 1, 1, []),
  (28, ⟨"PathStore$Many", "add", "(LPathStore$Test;)V"⟩, prog_12_method_2_code, 4, (Option.none : Option FieldType), 0, 1, 0, []),
  (28, ⟨"PathStore$Many", "holds", "(LPathStore$Runner;I)Z"⟩, prog_12_method_3_code, 4, (Option.some FieldType.boolean), 4, 2, 0, []),
  (29, ⟨"PathStore$Slice", "<init>", "(ZJZJJ)V"⟩, prog_26_method_1_code, 9, (Option.none : Option FieldType), 0, 5, 1, []),
  (29, ⟨"PathStore$Slice", "choose", "(LPathStore$Runner;I)V"⟩, prog_26_method_3_code, 9, (Option.none : Option FieldType), 0, 2, 0, []),
  (29, ⟨"PathStore$Slice", "bound", "(JJJJ)J"⟩, prog_26_method_2_code, 8, (Option.some FieldType.long), 2, 4, 0, []),
  (30, ⟨"PathStore$Table", "<init>", "(LPathStore$Query;)V"⟩, prog_27_method_1_code, 2, (Option.none : Option FieldType), 0, 1, 1, []),
  (30, ⟨"PathStore$Table", "key", "(LPathStore$Row;I)J"⟩, prog_27_method_2_code, 2, (Option.some FieldType.long), 2, 2, 0, []),
  (30, ⟨"PathStore$Table", "row", "(LPathStore$Row;IIJ)J"⟩, prog_27_method_3_code, 8, (Option.some FieldType.long), 2, 4, 0, []),
  (30, ⟨"PathStore$Table", "many", "(LPathStore$Row;I)J"⟩, prog_27_method_4_code, 8, (Option.some FieldType.long), 2, 2, 0, []),
  (30, ⟨"PathStore$Table", "add", "(JI)V"⟩, prog_27_method_5_code, 5, (Option.none : Option FieldType), 0, 2, 0, []),
  (30, ⟨"PathStore$Table", "place", "(J)I"⟩, prog_27_method_6_code, 6, (Option.some FieldType.int), 1, 1, 0, []),
  (31, ⟨"java/lang/String", "length", "()I"⟩, prog_47_method_54_code, 1, (Option.some FieldType.int), 1, 0, 0, [])]
def MT14 : List mE := [
  (31, ⟨"java/lang/String", "coder", "()B"⟩, prog_47_method_152_code, 1, (Option.some FieldType.byte), 6, 0, 0, []),
  (31, ⟨"java/lang/String", "charAt", "(I)C"⟩, prog_47_method_56_code, 2, (Option.some FieldType.char), 5, 1, 0, []),
  (31, ⟨"java/lang/String", "isLatin1", "()Z"⟩, prog_47_method_154_code, 1, (Option.some FieldType.boolean), 4, 0, 0, []),
  (31, ⟨"java/lang/String", "checkIndex", "(II)V"⟩, prog_47_method_155_code, 2, (Option.none : Option FieldType), 0, 2, 0, []),
  (31, ⟨"java/lang/String", "indexOf", "(I)I"⟩, prog_47_method_79_code, 2, (Option.some FieldType.int), 1, 1, 0, []),
  (31, ⟨"java/lang/String", "indexOf", "(II)I"⟩, prog_47_method_80_code, 3, (Option.some FieldType.int), 1, 2, 0, []),
  (31, ⟨"java/lang/String", "checkBoundsBeginEnd", "(III)V"⟩, prog_47_method_158_code, 3, (Option.none : Option FieldType), 0, 3, 0, []),
  (32, ⟨"java/lang/StringLatin1", "charAt", "([BI)C"⟩, prog_48_method_2_code, 2, (Option.some FieldType.char), 5, 2, 0, []),
  (32, ⟨"java/lang/StringLatin1", "indexOf", "([BIII)I"⟩, prog_48_method_22_code, 4, (Option.some FieldType.int), 1, 4, 0, []),
  (32, ⟨"java/lang/StringLatin1", "canEncode", "(I)Z"⟩, prog_48_method_4_code, 1, (Option.some FieldType.boolean), 4, 1, 0, []),
  (32, ⟨"java/lang/StringLatin1", "indexOfChar", "([BIII)I"⟩, prog_48_method_23_code, 6, (Option.some FieldType.int), 1, 4, 0, []),
  (33, ⟨"jdk/internal/util/Preconditions", "checkIndex", "(IILjava/util/function/BiFunction;)I"⟩, prog_56_method_11_code, 3, (Option.some FieldType.int), 1, 3, 0, []),
  (33, ⟨"jdk/internal/util/Preconditions", "checkFromToIndex", "(IIILjava/util/function/BiFunction;)I"⟩, prog_56_method_12_code, 4, (Option.some FieldType.int), 1, 4, 0, [])]
def MTs : List (List mE) := [MT0, MT1, MT2, MT3, MT4, MT5, MT6, MT7, MT8, MT9, MT10, MT11, MT12, MT13, MT14]
def mI (k : Nat) : Option mE := (MTs[k / 25]?).bind (fun l => l[k % 25]?)
def rFt : Nat → List (Nat × Nat × Nat × Nat × Nat × Nat) := fun c => match c with
  | 1 => [(9, (2, 0, 1, 1, 1)), (19, (2, 2, 1, 1, 0)), (23, (2, 3, 1, 1, 0)), (26, (2, 4, 1, 1, 1)), (32, (2, 5, 1, 1, 1)), (39, (2, 6, 1, 1, 1)), (46, (2, 7, 1, 1, 1)), (53, (2, 8, 1, 1, 1)), (60, (2, 9, 1, 1, 1)), (67, (2, 10, 1, 1, 1)), (71, (2, 11, 1, 1, 1)), (77, (2, 12, 1, 1, 1)), (81, (2, 13, 1, 1, 1)), (87, (2, 14, 1, 1, 1)), (91, (0, 18, 1, 1, 0)), (95, (0, 19, 1, 1, 0)), (98, (2, 20, 1, 1, 0)), (102, (2, 21, 1, 1, 0)), (112, (0, 15, 1, 1, 0)), (127, (0, 1, 1, 1, 0)), (144, (3, 17, 1, 1, 0)), (151, (3, 3, 10, 10, 0)), (154, (0, 1, 8, 8, 0)), (162, (0, 3, 4, 4, 0)), (168, (0, 3, 5, 5, 0)), (169, (0, 0, 10, 10, 0)), (175, (0, 1, 10, 10, 0)), (178, (0, 16, 1, 1, 0)), (181, (0, 2, 10, 10, 0)), (191, (0, 1, 2, 2, 0)), (232, (2, 5, 7, 7, 0)), (239, (0, 16, 7, 7, 0)), (242, (0, 22, 1, 1, 0)), (264, (0, 4, 6, 6, 0)), (274, (0, 3, 6, 6, 0)), (281, (2, 2, 6, 6, 0)), (291, (3, 1, 15, 15, 0)), (299, (0, 1, 30, 30, 0)), (301, (0, 4, 30, 30, 0)), (302, (2, 0, 30, 30, 1)), (324, (2, 2, 30, 30, 1)), (328, (2, 3, 30, 30, 1)), (342, (2, 0, 2, 2, 1))]
  | 2 => [(9, (2, 0, 2, 2, 1)), (15, (0, 1, 2, 2, 0))]
  | 3 => [(7, (2, 0, 4, 5, 0)), (13, (0, 1, 4, 5, 0)), (17, (0, 2, 4, 5, 0)), (20, (0, 3, 4, 5, 0)), (75, (0, 1, 8, 8, 0))]
  | 4 => [(15, (0, 4, 4, 4, 0)), (26, (0, 2, 4, 4, 0)), (29, (0, 1, 4, 4, 0)), (90, (0, 1, 8, 8, 0))]
  | 5 => [(20, (2, 4, 5, 5, 0)), (24, (0, 5, 5, 5, 0)), (40, (0, 2, 5, 5, 0)), (43, (0, 1, 5, 5, 0)), (87, (3, 0, 16, 16, 1)), (91, (0, 2, 16, 16, 0)), (94, (2, 1, 16, 16, 0)), (101, (3, 1, 15, 15, 0)), (124, (0, 1, 8, 8, 0)), (131, (2, 0, 5, 5, 0))]
  | 6 => [(9, (2, 2, 6, 6, 0)), (15, (2, 0, 6, 6, 0)), (19, (0, 1, 6, 6, 0)), (23, (0, 3, 6, 6, 0)), (26, (0, 4, 6, 6, 0)), (41, (3, 0, 15, 15, 1)), (50, (0, 3, 15, 15, 0)), (51, (2, 2, 15, 15, 0)), (55, (3, 0, 16, 16, 1)), (66, (0, 2, 16, 16, 0)), (67, (2, 1, 16, 16, 0))]
  | 7 => [(14, (2, 0, 7, 7, 1)), (20, (2, 5, 7, 7, 0)), (23, (2, 6, 7, 7, 0)), (26, (2, 7, 7, 7, 1)), (29, (2, 8, 7, 7, 1)), (32, (2, 9, 7, 7, 1)), (35, (2, 10, 7, 7, 1)), (39, (2, 12, 7, 7, 1)), (45, (2, 15, 7, 7, 1)), (55, (0, 1, 7, 7, 1)), (60, (0, 2, 7, 7, 1)), (64, (0, 3, 7, 7, 1)), (68, (0, 4, 7, 7, 1)), (70, (0, 1, 8, 8, 0)), (89, (0, 11, 7, 7, 0)), (96, (2, 0, 8, 8, 0)), (117, (0, 14, 7, 7, 0)), (120, (0, 13, 7, 7, 0)), (202, (0, 16, 7, 7, 0)), (216, (0, 1, 2, 2, 0))]
  | 8 => [(9, (2, 0, 8, 8, 0)), (15, (0, 1, 8, 8, 0))]
  | 9 => [(10, (2, 0, 9, 9, 1)), (14, (2, 1, 9, 9, 1)), (18, (2, 2, 9, 9, 1)), (21, (2, 3, 9, 9, 1)), (25, (2, 5, 9, 9, 1)), (31, (2, 7, 9, 9, 1)), (39, (0, 6, 9, 9, 0)), (47, (0, 4, 9, 9, 0)), (64, (2, 0, 8, 8, 0)), (71, (0, 1, 8, 8, 0)), (86, (0, 3, 14, 14, 0)), (87, (2, 1, 14, 14, 1)), (90, (2, 2, 14, 14, 1)), (93, (3, 0, 14, 14, 0)), (100, (0, 8, 9, 9, 0))]
  | 11 => [(1, (2, 0, 13, 13, 0)), (7, (2, 1, 13, 13, 0)), (17, (2, 4, 13, 13, 0)), (24, (2, 5, 13, 13, 0)), (31, (2, 6, 13, 13, 0)), (34, (2, 7, 13, 13, 0)), (45, (2, 2, 13, 13, 0)), (48, (2, 3, 13, 13, 0)), (51, (2, 11, 13, 13, 0)), (66, (2, 0, 11, 11, 1)), (71, (2, 2, 11, 11, 1)), (74, (0, 5, 11, 11, 0)), (78, (0, 7, 11, 11, 0)), (84, (2, 8, 11, 11, 1)), (88, (2, 9, 11, 11, 1)), (93, (2, 10, 11, 11, 1)), (98, (2, 15, 11, 11, 1)), (102, (2, 18, 11, 11, 1)), (106, (2, 19, 11, 11, 1)), (109, (2, 20, 11, 11, 1)), (112, (2, 22, 11, 11, 1)), (115, (2, 23, 11, 11, 1)), (118, (2, 25, 11, 11, 1)), (121, (2, 27, 11, 11, 0)), (124, (2, 28, 11, 11, 0)), (127, (2, 30, 11, 11, 1)), (130, (2, 32, 11, 11, 1)), (133, (2, 37, 11, 11, 1)), (136, (0, 4, 11, 11, 0)), (139, (0, 1, 11, 11, 0)), (150, (0, 3, 11, 11, 0)), (155, (0, 12, 11, 11, 0)), (158, (0, 13, 11, 11, 0)), (161, (2, 11, 11, 11, 0)), (164, (0, 14, 11, 11, 0)), (224, (0, 12, 13, 13, 0)), (252, (0, 16, 11, 11, 0)), (255, (3, 17, 11, 11, 0)), (283, (3, 6, 11, 11, 0)), (286, (3, 4, 12, 12, 0)), (307, (0, 3, 12, 12, 0)), (324, (2, 1, 12, 12, 1)), (325, (2, 2, 12, 12, 1)), (334, (0, 24, 11, 11, 0)), (347, (0, 26, 11, 11, 0)), (365, (2, 8, 13, 13, 0)), (410, (0, 21, 11, 11, 0)), (419, (0, 29, 11, 11, 0)), (422, (0, 31, 11, 11, 0)), (493, (0, 34, 11, 11, 0)), (496, (3, 35, 11, 11, 0)), (502, (0, 33, 11, 11, 0)), (505, (0, 36, 11, 11, 0)), (534, (0, 10, 13, 13, 0)), (544, (2, 0, 12, 12, 1))]
  | 12 => [(9, (2, 0, 12, 12, 1)), (15, (2, 1, 12, 12, 1)), (20, (2, 2, 12, 12, 1)), (23, (0, 3, 12, 12, 0))]
  | 13 => [(9, (2, 0, 13, 13, 0)), (15, (2, 1, 13, 13, 0)), (19, (2, 2, 13, 13, 0)), (22, (2, 3, 13, 13, 0)), (25, (2, 4, 13, 13, 0)), (28, (2, 5, 13, 13, 0)), (31, (2, 6, 13, 13, 0)), (34, (2, 7, 13, 13, 0)), (37, (2, 8, 13, 13, 0)), (40, (2, 9, 13, 13, 0)), (43, (2, 11, 13, 13, 0)), (47, (0, 10, 13, 13, 0)), (51, (0, 12, 13, 13, 0))]
  | 14 => [(9, (2, 1, 14, 14, 1)), (15, (2, 2, 14, 14, 1)), (18, (3, 0, 14, 14, 0)), (22, (0, 3, 14, 14, 0))]
  | 15 => [(7, (3, 1, 15, 15, 0)), (15, (2, 2, 15, 15, 0)), (19, (3, 0, 15, 15, 1)), (22, (0, 3, 15, 15, 0))]
  | 16 => [(9, (2, 1, 16, 16, 0)), (15, (3, 0, 16, 16, 1)), (19, (0, 2, 16, 16, 0))]
  | 17 => [(9, (2, 0, 17, 17, 1)), (15, (0, 1, 17, 17, 1)), (19, (2, 0, 6, 6, 0))]
  | 18 => [(9, (1, 0, 18, 18, 1)), (15, (2, 0, 6, 6, 0))]
  | 19 => [(9, (2, 0, 6, 6, 0))]
  | 20 => [(9, (2, 0, 20, 20, 1)), (15, (2, 0, 6, 6, 0))]
  | 21 => [(7, (2, 0, 21, 21, 1))]
  | 22 => [(7, (2, 0, 22, 22, 1)), (13, (0, 3, 6, 6, 0))]
  | 23 => [(7, (2, 0, 23, 23, 1)), (13, (3, 1, 23, 23, 1)), (17, (0, 3, 6, 6, 0)), (33, (2, 0, 6, 6, 0)), (37, (2, 2, 6, 6, 0))]
  | 24 => [(7, (2, 0, 24, 24, 1)), (13, (0, 1, 24, 24, 1))]
  | 25 => [(7, (2, 0, 25, 25, 1))]
  | 26 => [(10, (2, 3, 26, 26, 1)), (16, (2, 4, 26, 26, 1)), (19, (0, 0, 26, 26, 1)), (23, (2, 1, 26, 26, 1)), (27, (2, 2, 26, 26, 1))]
  | 27 => [(11, (0, 0, 27, 27, 0)), (15, (2, 1, 27, 27, 0)), (19, (0, 2, 27, 27, 0)), (22, (1, 3, 27, 27, 0))]
  | 28 => [(9, (2, 1, 28, 28, 0)), (15, (3, 0, 28, 28, 1)), (19, (0, 2, 28, 28, 0))]
  | 29 => [(9, (3, 0, 29, 29, 1)), (15, (1, 1, 29, 29, 1)), (19, (3, 2, 29, 29, 1)), (22, (1, 3, 29, 29, 1)), (25, (1, 4, 29, 29, 1)), (37, (2, 0, 6, 6, 0))]
  | 30 => [(9, (0, 1, 30, 30, 0)), (15, (2, 2, 30, 30, 1)), (19, (2, 3, 30, 30, 1)), (23, (2, 0, 30, 30, 1)), (56, (2, 0, 8, 8, 0)), (79, (0, 4, 30, 30, 0))]
  | 31 => [(9, (2, 0, 31, 31, 1)), (15, (0, 1, 31, 31, 1))]
  | _ => []
def rIt : Nat → List (Nat × Nat × Nat × Nat × Nat × Nat) := fun c => match c with
  | 0 => [(7, (0, 18, 5, 1, 1)), (15, (0, 21, 1, 1, 1)), (21, (0, 24, 1, 1, 1)), (28, (0, 30, 2, 1, 1)), (34, (0, 33, 1, 1, 1)), (37, (0, 34, 0, 1, 1)), (41, (0, 35, 1, 1, 1)), (46, (0, 36, 1, 1, 1)), (50, (0, 37, 1, 1, 1)), (53, (0, 38, 1, 1, 1)), (56, (0, 43, 1, 1, 1)), (59, (0, 44, 2, 1, 1)), (62, (0, 47, 1, 1, 1)), (65, (0, 48, 1, 1, 1)), (69, (0, 49, 1, 1, 1)), (72, (5, 16, 0, 1, 1)), (75, (5, 185, 0, 11, 11)), (76, (1, 1, 7, 0, 0)), (81, (0, 187, 5, 11, 11)), (82, (0, 186, 0, 11, 11)), (85, (1, 2, 3, 0, 0)), (88, (0, 190, 1, 11, 11)), (89, (1, 3, 3, 0, 0)), (91, (0, 193, 1, 11, 11)), (92, (1, 4, 4, 0, 0)), (95, (0, 218, 2, 11, 11)), (96, (1, 5, 3, 0, 0)), (98, (0, 220, 1, 11, 11)), (99, (1, 6, 2, 0, 0)), (102, (0, 221, 0, 11, 11)), (103, (1, 7, 3, 0, 0)), (105, (0, 226, 1, 11, 11)), (106, (1, 8, 2, 0, 0)), (109, (0, 222, 1, 11, 11)), (110, (1, 9, 2, 0, 0)), (112, (0, 223, 1, 11, 11)), (113, (1, 10, 3, 0, 0)), (115, (0, 242, 1, 11, 11)), (116, (1, 11, 2, 0, 0)), (118, (0, 275, 1, 11, 11)), (119, (1, 12, 4, 0, 0)), (121, (0, 276, 2, 11, 11)), (122, (1, 13, 2, 0, 0)), (124, (0, 224, 1, 11, 11)), (125, (0, 17, 0, 1, 1)), (128, (0, 225, 0, 11, 11)), (129, (1, 14, 3, 0, 0)), (131, (0, 191, 1, 11, 11)), (132, (1, 15, 3, 0, 0)), (134, (0, 192, 1, 11, 11))]
  | 1 => [(1, (2, 0, 0, 0, 0)), (16, (5, 51, 1, 2, 2)), (31, (5, 74, 0, 4, 4)), (38, (5, 80, 0, 5, 5)), (45, (5, 103, 0, 6, 6)), (52, (5, 111, 0, 7, 7)), (59, (5, 152, 0, 9, 9)), (66, (5, 129, 1, 8, 8)), (76, (5, 184, 0, 10, 10)), (105, (0, 153, 0, 9, 9)), (108, (0, 154, 4, 9, 9)), (130, (1, 19, 1, 0, 0)), (134, (0, 20, 1, 1, 1)), (137, (1, 22, 2, 0, 0)), (141, (1, 23, 1, 0, 0)), (148, (1, 26, 1, 0, 0)), (157, (0, 75, 3, 4, 4)), (164, (0, 81, 2, 5, 5)), (172, (0, 168, 1, 9, 9)), (184, (0, 25, 0, 1, 1)), (188, (0, 27, 1, 1, 1)), (192, (0, 52, 2, 2, 2)), (195, (0, 165, 2, 9, 9)), (199, (0, 28, 0, 1, 1)), (200, (0, 169, 3, 9, 9)), (204, (0, 171, 3, 9, 9)), (208, (0, 29, 2, 1, 1)), (211, (0, 31, 1, 1, 1)), (215, (1, 32, 1, 0, 0)), (218, (0, 178, 2, 9, 9)), (222, (0, 179, 2, 9, 9)), (225, (0, 139, 1, 8, 8)), (235, (0, 113, 2, 7, 7)), (245, (0, 41, 1, 1, 1)), (248, (0, 181, 1, 9, 9)), (250, (0, 182, 1, 9, 9)), (254, (0, 167, 2, 9, 9)), (257, (0, 166, 2, 9, 9)), (260, (0, 39, 1, 1, 1)), (265, (0, 40, 1, 1, 1)), (268, (0, 104, 2, 6, 6)), (271, (0, 105, 2, 6, 6)), (275, (0, 55, 1, 2, 2)), (279, (0, 54, 1, 2, 2)), (284, (0, 110, 2, 6, 6)), (288, (0, 42, 0, 1, 1)), (296, (5, 343, 1, 30, 30)), (306, (0, 46, 1, 1, 1)), (310, (1, 344, 2, 0, 0)), (313, (0, 347, 2, 30, 30)), (317, (0, 45, 2, 1, 1)), (321, (0, 348, 1, 30, 30)), (329, (0, 147, 3, 8, 8)), (333, (0, 159, 1, 9, 9)), (336, (0, 161, 1, 9, 9)), (338, (0, 163, 1, 9, 9)), (340, (0, 164, 1, 9, 9)), (347, (0, 183, 3, 9, 9)), (350, (0, 50, 0, 1, 1))]
  | 2 => [(3, (2, 0, 0, 0, 0)), (22, (0, 349, 0, 31, 31)), (28, (0, 351, 1, 31, 31)), (32, (0, 54, 1, 2, 2)), (42, (0, 141, 1, 8, 8)), (48, (1, 57, 1, 0, 0)), (51, (0, 58, 1, 2, 2)), (54, (0, 142, 1, 8, 8)), (57, (0, 139, 1, 8, 8)), (62, (0, 53, 1, 2, 2)), (70, (0, 140, 1, 8, 8)), (74, (0, 55, 1, 2, 2)), (78, (0, 134, 1, 8, 8)), (81, (0, 56, 4, 2, 2)), (85, (0, 59, 2, 2, 2)), (89, (0, 137, 1, 8, 8)), (92, (0, 136, 1, 8, 8)), (95, (0, 52, 2, 2, 2))]
  | 3 => [(1, (2, 0, 0, 0, 0)), (26, (0, 67, 1, 4, 5)), (30, (0, 63, 0, 4, 5)), (34, (0, 66, 1, 4, 5)), (38, (0, 349, 0, 31, 31)), (43, (0, 351, 1, 31, 31)), (47, (0, 65, 1, 4, 5)), (50, (1, 73, 1, 0, 0)), (54, (1, 72, 1, 0, 0)), (58, (0, 132, 1, 8, 8)), (63, (0, 70, 2, 4, 5)), (67, (0, 71, 1, 4, 5)), (78, (0, 130, 1, 8, 8)), (81, (0, 69, 2, 4, 5)), (84, (0, 133, 2, 8, 8))]
  | 4 => [(3, (5, 60, 0, 4, 5)), (9, (0, 61, 2, 4, 4)), (19, (0, 62, 0, 4, 4)), (22, (0, 76, 1, 4, 4)), (32, (0, 66, 1, 4, 4)), (36, (0, 63, 0, 4, 4)), (42, (0, 64, 1, 4, 4)), (46, (0, 130, 1, 8, 8)), (56, (0, 68, 2, 4, 4)), (60, (0, 77, 1, 4, 4)), (63, (0, 79, 1, 4, 4)), (66, (1, 73, 1, 0, 0)), (76, (9, 0, 2, 0, 0)), (84, (0, 67, 1, 4, 4)), (87, (0, 138, 1, 8, 8)), (93, (0, 78, 3, 4, 4)), (97, (0, 65, 1, 4, 4)), (100, (0, 133, 2, 8, 8)), (104, (0, 134, 1, 8, 8)), (107, (0, 135, 4, 8, 8)), (111, (0, 136, 1, 8, 8)), (114, (0, 137, 1, 8, 8))]
  | 5 => [(3, (5, 60, 0, 4, 5)), (9, (0, 61, 2, 5, 5)), (17, (5, 129, 1, 8, 8)), (28, (0, 63, 0, 5, 5)), (32, (0, 66, 1, 5, 5)), (36, (0, 82, 1, 5, 5)), (46, (0, 62, 0, 5, 5)), (49, (0, 67, 1, 5, 5)), (52, (0, 65, 1, 5, 5)), (57, (5, 302, 1, 15, 15)), (59, (0, 83, 0, 5, 5)), (63, (0, 90, 1, 5, 5)), (67, (0, 303, 1, 15, 15)), (73, (5, 304, 1, 16, 16)), (74, (0, 91, 1, 5, 5)), (79, (5, 310, 0, 19, 19)), (80, (0, 305, 1, 16, 16)), (83, (0, 84, 0, 5, 5)), (104, (0, 86, 0, 5, 5)), (107, (0, 87, 0, 5, 5)), (110, (0, 88, 0, 5, 5)), (114, (5, 308, 1, 18, 18)), (117, (0, 89, 1, 5, 5)), (120, (1, 85, 1, 0, 0)), (125, (0, 130, 1, 8, 8)), (128, (1, 73, 1, 0, 0)), (135, (0, 133, 2, 8, 8)), (139, (5, 306, 2, 17, 17)), (142, (0, 68, 2, 5, 5)), (145, (0, 92, 0, 5, 5)), (151, (0, 93, 0, 5, 5)), (155, (5, 312, 1, 20, 20)), (158, (0, 102, 0, 5, 5)), (164, (5, 340, 5, 29, 29)), (173, (9, 0, 2, 0, 0)), (181, (0, 94, 2, 5, 5)), (185, (0, 95, 0, 5, 5)), (190, (5, 337, 1, 28, 28)), (191, (0, 338, 1, 28, 28)), (195, (0, 96, 0, 5, 5)), (198, (5, 314, 1, 21, 21)), (199, (0, 97, 0, 5, 5)), (204, (5, 316, 1, 22, 22)), (207, (0, 98, 0, 5, 5)), (211, (0, 100, 1, 5, 5)), (217, (5, 318, 2, 23, 23)), (220, (0, 101, 0, 5, 5)), (225, (5, 324, 3, 26, 26)), (230, (5, 320, 2, 24, 24)), (233, (0, 64, 1, 5, 5)), (243, (0, 99, 1, 5, 5)), (251, (0, 138, 1, 8, 8)), (255, (5, 322, 1, 25, 25))]
  | 6 => [(3, (2, 0, 0, 0, 0)), (32, (0, 107, 0, 6, 6)), (35, (4, 0, 5, 0, 0)), (46, (0, 106, 1, 6, 6)), (60, (0, 108, 2, 6, 6)), (63, (0, 109, 2, 6, 6)), (71, (3, 301, 2, 0, 0)), (76, (0, 139, 1, 8, 8)), (82, (0, 137, 1, 8, 8)), (85, (0, 150, 1, 8, 8)), (88, (0, 151, 2, 8, 8)), (92, (0, 54, 1, 2, 2)), (97, (0, 55, 1, 2, 2)), (101, (0, 134, 1, 8, 8)), (104, (0, 56, 4, 2, 2))]
  | 7 => [(3, (2, 0, 0, 0, 0)), (11, (5, 129, 1, 8, 8)), (44, (5, 51, 1, 2, 2)), (51, (0, 112, 1, 7, 7)), (73, (0, 130, 1, 8, 8)), (76, (0, 349, 0, 31, 31)), (82, (0, 351, 1, 31, 31)), (92, (0, 137, 1, 8, 8)), (100, (1, 115, 1, 0, 0)), (104, (0, 133, 2, 8, 8)), (108, (0, 134, 1, 8, 8)), (111, (7, 0, 2, 0, 0)), (123, (0, 139, 1, 8, 8)), (126, (0, 144, 3, 8, 8)), (130, (0, 136, 1, 8, 8)), (133, (0, 145, 1, 8, 8)), (135, (0, 124, 2, 7, 7)), (138, (0, 146, 2, 8, 8)), (142, (0, 143, 3, 8, 8)), (145, (0, 122, 3, 7, 7)), (149, (0, 123, 1, 7, 7)), (152, (0, 125, 2, 7, 7)), (155, (0, 116, 3, 7, 7)), (161, (1, 117, 3, 0, 0)), (165, (0, 118, 2, 7, 7)), (169, (0, 119, 2, 7, 7)), (173, (0, 120, 2, 7, 7)), (176, (0, 121, 0, 7, 7)), (180, (0, 126, 0, 7, 7)), (186, (0, 147, 3, 8, 8)), (194, (0, 127, 4, 7, 7)), (198, (0, 135, 4, 8, 8)), (205, (0, 114, 2, 7, 7)), (208, (0, 149, 1, 8, 8)), (214, (0, 128, 0, 7, 7)), (217, (0, 52, 2, 2, 2))]
  | 8 => [(3, (2, 0, 0, 0, 0)), (19, (6, 0, 2, 0, 0)), (25, (4, 0, 5, 0, 0)), (31, (0, 131, 1, 8, 8)), (35, (0, 130, 1, 8, 8)), (40, (0, 134, 1, 8, 8)), (44, (0, 137, 1, 8, 8)), (47, (0, 135, 4, 8, 8)), (51, (0, 136, 1, 8, 8)), (54, (0, 140, 1, 8, 8)), (58, (0, 145, 1, 8, 8)), (61, (0, 148, 3, 8, 8)), (65, (0, 144, 3, 8, 8)), (69, (0, 147, 3, 8, 8)), (72, (0, 149, 1, 8, 8))]
  | 9 => [(1, (2, 0, 0, 0, 0)), (35, (1, 158, 2, 0, 0)), (43, (1, 157, 1, 0, 0)), (50, (4, 0, 5, 0, 0)), (56, (0, 155, 1, 9, 9)), (60, (0, 156, 2, 9, 9)), (67, (0, 170, 0, 9, 9)), (74, (0, 162, 2, 9, 9)), (78, (0, 143, 3, 8, 8)), (82, (0, 172, 1, 9, 9)), (97, (0, 168, 1, 9, 9)), (103, (5, 297, 0, 14, 14)), (104, (0, 298, 1, 14, 14)), (107, (0, 166, 2, 9, 9)), (110, (0, 167, 2, 9, 9)), (113, (0, 173, 1, 9, 9)), (117, (0, 174, 3, 9, 9)), (121, (0, 177, 1, 9, 9)), (125, (0, 299, 1, 14, 14)), (129, (0, 300, 3, 14, 14)), (132, (0, 301, 1, 14, 14)), (135, (0, 175, 3, 9, 9)), (139, (0, 176, 1, 9, 9)), (142, (0, 180, 2, 9, 9)), (145, (0, 160, 1, 9, 9)), (149, (0, 181, 1, 9, 9)), (151, (0, 183, 3, 9, 9))]
  | 10 => [(1, (2, 0, 0, 0, 0))]
  | 11 => [(11, (1, 236, 4, 0, 0)), (20, (1, 235, 4, 0, 0)), (27, (0, 291, 1, 13, 13)), (37, (0, 288, 4, 13, 13)), (55, (1, 237, 3, 0, 0)), (60, (2, 0, 0, 0, 0)), (83, (5, 277, 0, 12, 12)), (101, (5, 283, 0, 13, 13)), (142, (0, 188, 2, 11, 11)), (146, (0, 189, 1, 11, 11)), (167, (0, 199, 0, 11, 11)), (171, (0, 202, 1, 11, 11)), (175, (0, 349, 0, 31, 31)), (179, (0, 351, 1, 31, 31)), (183, (0, 201, 1, 11, 11)), (186, (1, 206, 1, 0, 0)), (191, (0, 354, 1, 31, 31)), (194, (1, 205, 1, 0, 0)), (197, (0, 287, 1, 13, 13)), (200, (0, 204, 1, 11, 11)), (204, (0, 198, 0, 11, 11)), (213, (0, 200, 1, 11, 11)), (217, (0, 285, 1, 13, 13)), (220, (0, 203, 2, 11, 11)), (227, (0, 207, 2, 11, 11)), (231, (0, 208, 4, 11, 11)), (241, (0, 197, 2, 11, 11)), (245, (0, 290, 3, 13, 13)), (249, (0, 284, 0, 13, 13)), (259, (0, 212, 1, 11, 11)), (268, (0, 211, 1, 11, 11)), (273, (0, 213, 1, 11, 11)), (276, (0, 214, 4, 11, 11)), (279, (0, 210, 2, 11, 11)), (289, (0, 217, 0, 11, 11)), (293, (1, 194, 1, 0, 0)), (296, (0, 195, 0, 11, 11)), (298, (0, 196, 3, 11, 11)), (302, (0, 209, 0, 11, 11)), (305, (0, 278, 1, 12, 12)), (310, (0, 215, 0, 11, 11)), (313, (0, 279, 3, 12, 12)), (317, (0, 216, 0, 11, 11)), (320, (0, 219, 1, 11, 11)), (328, (0, 281, 1, 12, 12)), (331, (0, 282, 1, 12, 12)), (339, (0, 233, 1, 11, 11)), (343, (0, 234, 2, 11, 11)), (350, (0, 232, 2, 11, 11)), (354, (0, 293, 4, 13, 13)), (358, (0, 239, 2, 11, 11)), (362, (0, 295, 1, 13, 13)), (368, (0, 294, 1, 13, 13)), (369, (0, 229, 2, 11, 11)), (375, (0, 228, 2, 11, 11)), (379, (0, 230, 1, 11, 11)), (383, (0, 231, 2, 11, 11)), (394, (0, 292, 2, 13, 13)), (397, (0, 238, 1, 11, 11)), (403, (0, 240, 2, 11, 11)), (407, (0, 241, 2, 11, 11)), (413, (0, 227, 1, 11, 11)), (416, (0, 296, 1, 13, 13)), (425, (0, 245, 1, 11, 11)), (428, (0, 246, 3, 11, 11)), (431, (0, 247, 2, 11, 11)), (435, (0, 248, 3, 11, 11)), (439, (1, 261, 1, 0, 0)), (442, (0, 251, 2, 11, 11)), (445, (0, 249, 1, 11, 11)), (448, (0, 250, 1, 11, 11)), (452, (0, 255, 1, 11, 11)), (455, (0, 252, 0, 11, 11)), (458, (0, 259, 2, 11, 11)), (461, (0, 253, 0, 11, 11)), (466, (0, 254, 0, 11, 11)), (471, (0, 244, 2, 11, 11)), (475, (0, 256, 0, 11, 11)), (478, (0, 257, 1, 11, 11)), (481, (0, 258, 0, 11, 11)), (484, (0, 260, 1, 11, 11)), (499, (0, 264, 0, 11, 11)), (508, (0, 263, 1, 11, 11)), (511, (0, 265, 2, 11, 11)), (514, (0, 266, 2, 11, 11)), (517, (0, 267, 2, 11, 11)), (519, (0, 268, 2, 11, 11)), (522, (0, 262, 2, 11, 11)), (525, (0, 269, 2, 11, 11)), (528, (0, 270, 2, 11, 11)), (531, (0, 271, 1, 11, 11)), (535, (0, 272, 2, 11, 11)), (538, (0, 273, 1, 11, 11)), (540, (0, 243, 2, 11, 11)), (547, (0, 274, 0, 11, 11))]
  | 12 => [(3, (2, 0, 0, 0, 0)), (27, (0, 280, 4, 12, 12)), (31, (0, 278, 1, 12, 12))]
  | 13 => [(3, (2, 0, 0, 0, 0)), (54, (1, 286, 1, 0, 0)), (58, (0, 289, 4, 13, 13)), (62, (0, 296, 1, 13, 13)), (66, (0, 285, 1, 13, 13)), (69, (0, 287, 1, 13, 13)), (73, (0, 292, 2, 13, 13)), (77, (0, 293, 4, 13, 13)), (81, (0, 290, 3, 13, 13))]
  | 14 => [(3, (2, 0, 0, 0, 0))]
  | 15 => [(1, (2, 0, 0, 0, 0))]
  | 16 => [(1, (2, 0, 0, 0, 0))]
  | 17 => [(3, (2, 0, 0, 0, 0)), (24, (0, 139, 1, 8, 8)), (30, (0, 144, 3, 8, 8)), (34, (0, 136, 1, 8, 8)), (37, (0, 106, 1, 6, 6))]
  | 18 => [(3, (2, 0, 0, 0, 0)), (21, (0, 139, 1, 8, 8)), (27, (0, 145, 1, 8, 8)), (30, (0, 146, 2, 8, 8)), (34, (0, 106, 1, 6, 6))]
  | 19 => [(3, (2, 0, 0, 0, 0)), (15, (0, 139, 1, 8, 8)), (21, (0, 137, 1, 8, 8)), (24, (0, 150, 1, 8, 8)), (27, (0, 106, 1, 6, 6)), (31, (0, 151, 2, 8, 8))]
  | 20 => [(3, (2, 0, 0, 0, 0)), (21, (0, 139, 1, 8, 8)), (27, (0, 137, 1, 8, 8)), (30, (0, 150, 1, 8, 8)), (33, (0, 107, 0, 6, 6)), (36, (3, 302, 2, 0, 0)), (42, (0, 106, 1, 6, 6)), (46, (0, 151, 2, 8, 8))]
  | 21 => [(1, (2, 0, 0, 0, 0)), (13, (3, 302, 2, 0, 0))]
  | 22 => [(1, (2, 0, 0, 0, 0)), (19, (0, 105, 2, 6, 6))]
  | 23 => [(1, (2, 0, 0, 0, 0)), (23, (0, 105, 2, 6, 6)), (27, (0, 328, 1, 27, 27)), (41, (0, 327, 2, 27, 27)), (45, (0, 329, 0, 27, 27))]
  | 24 => [(1, (2, 0, 0, 0, 0)), (17, (0, 327, 2, 27, 27))]
  | 25 => [(1, (2, 0, 0, 0, 0)), (13, (3, 303, 3, 0, 0)), (19, (0, 330, 0, 27, 27))]
  | 26 => [(1, (2, 0, 0, 0, 0)), (9, (5, 326, 0, 27, 27)), (30, (3, 303, 3, 0, 0)), (36, (0, 332, 1, 27, 27)), (40, (0, 335, 1, 27, 27))]
  | 27 => [(3, (2, 0, 0, 0, 0)), (26, (0, 139, 1, 8, 8)), (32, (0, 140, 1, 8, 8)), (36, (0, 333, 0, 27, 27)), (40, (0, 334, 0, 27, 27)), (44, (0, 147, 3, 8, 8)), (48, (0, 137, 1, 8, 8)), (51, (1, 336, 2, 0, 0)), (55, (1, 331, 2, 0, 0)), (58, (0, 141, 1, 8, 8)), (65, (0, 142, 1, 8, 8)), (68, (0, 329, 0, 27, 27)), (71, (0, 145, 1, 8, 8)), (74, (0, 328, 1, 27, 27))]
  | 28 => [(1, (2, 0, 0, 0, 0)), (23, (3, 302, 2, 0, 0))]
  | 29 => [(3, (2, 0, 0, 0, 0)), (28, (9, 0, 2, 0, 0)), (34, (8, 0, 2, 0, 0)), (43, (0, 139, 1, 8, 8)), (49, (0, 145, 1, 8, 8)), (52, (1, 342, 4, 0, 0)), (56, (0, 146, 2, 8, 8)), (60, (0, 106, 1, 6, 6))]
  | 30 => [(3, (2, 0, 0, 0, 0)), (27, (0, 139, 1, 8, 8)), (35, (0, 140, 1, 8, 8)), (41, (0, 134, 1, 8, 8)), (46, (1, 345, 4, 0, 0)), (50, (1, 346, 2, 0, 0)), (64, (0, 137, 1, 8, 8)), (67, (0, 136, 1, 8, 8)), (74, (1, 344, 2, 0, 0))]
  | 31 => [(335, (0, 350, 0, 31, 31)), (492, (0, 352, 0, 31, 31)), (495, (1, 357, 2, 0, 0)), (505, (0, 349, 0, 31, 31)), (633, (0, 355, 2, 31, 31)), (637, (1, 358, 4, 0, 0)), (1059, (1, 361, 3, 0, 0)), (1062, (1, 362, 4, 0, 0))]
  | 32 => [(9, (1, 353, 2, 0, 0)), (38, (7, 0, 2, 0, 0)), (88, (1, 359, 1, 0, 0)), (92, (6, 0, 2, 0, 0)), (95, (1, 360, 4, 0, 0))]
  | _ => []
def rNt : Nat → List (Nat × Nat × Nat × Nat) := fun c => match c with
  | 0 => [(8, (0, 1, 23)), (73, (0, 11, 38))]
  | 1 => [(13, (0, 2, 2)), (29, (0, 4, 5)), (36, (0, 5, 6)), (43, (0, 6, 5)), (50, (0, 7, 17)), (57, (0, 9, 9)), (64, (0, 8, 2)), (74, (0, 10, 4)), (85, (0, 30, 5)), (115, (1, 202, 6)), (118, (1, 203, 6)), (121, (1, 205, 6)), (124, (1, 201, 6)), (160, (1, 204, 6)), (229, (1, 206, 6))]
  | 2 => [(19, (1, 201, 6))]
  | 3 => [(23, (1, 204, 6))]
  | 5 => [(15, (0, 8, 2)), (55, (0, 15, 4)), (71, (0, 16, 3)), (77, (0, 19, 0)), (97, (0, 17, 2)), (99, (0, 18, 1)), (149, (0, 20, 1)), (162, (0, 29, 5)), (188, (0, 28, 3)), (193, (0, 21, 1)), (202, (0, 22, 1)), (215, (0, 23, 2)), (223, (0, 26, 5)), (228, (0, 24, 2)), (253, (0, 25, 1))]
  | 6 => [(29, (1, 201, 6))]
  | 7 => [(9, (0, 8, 2)), (42, (0, 2, 2)), (86, (1, 206, 6)), (211, (1, 201, 6))]
  | 9 => [(29, (0, 14, 4))]
  | 11 => [(2, (0, 13, 13)), (81, (0, 12, 5))]
  | 26 => [(7, (0, 27, 4))]
  | _ => []
def rAt : Nat → List (Nat × Nat) := fun c => match c with
  | 1 => [(74, 115), (85, 116)]
  | 9 => [(29, 114)]
  | 11 => [(81, 117), (92, 118)]
  | 15 => [(13, 113)]
  | 16 => [(7, 111)]
  | 28 => [(7, 112)]
  | _ => []
def rCt : Nat → List (Nat × Nat × Int) := fun c => match c with
  | 1 => [(15, (0, 32768))]
  | 2 => [(60, (1, 16)), (66, (1, 18)), (68, (1, 20))]
  | 3 => [(70, (0, 56320)), (71, (0, 57344)), (72, (0, 55296)), (73, (0, 56319)), (74, (0, 57343))]
  | 4 => [(40, (1, 10)), (52, (1, 12)), (54, (1, 14))]
  | 5 => [(231, (1, 34)), (237, (1, 36)), (239, (1, 38)), (241, (1, 40)), (247, (1, 42)), (249, (1, 44))]
  | 7 => [(49, (1, 2)), (58, (1, 4)), (62, (1, 6)), (66, (1, 8)), (110, (0, 100000)), (159, (1, 22)), (178, (1, 24)), (182, (1, 26)), (184, (1, 28)), (190, (1, 30)), (192, (1, 32))]
  | 9 => [(9, (0, 1177600)), (17, (0, 47104))]
  | 11 => [(41, (0, 55296)), (42, (0, 56319)), (43, (0, 65536)), (44, (0, 56320)), (59, (0, 65535)), (70, (0, 32768)), (97, (0, 32776)), (189, (1, 52)), (203, (0, 57343)), (207, (1, 46)), (209, (1, 48)), (211, (1, 50)), (264, (1, 54)), (266, (1, 56)), (271, (1, 58)), (373, (1, 60)), (377, (1, 62)), (382, (1, 64)), (387, (1, 66)), (389, (1, 68)), (391, (1, 70)), (393, (1, 72)), (399, (1, 74)), (400, (1, 76)), (401, (1, 78)), (464, (1, 90)), (469, (1, 88)), (487, (1, 80)), (489, (1, 82)), (491, (1, 84)), (492, (1, 86))]
  | 27 => [(61, (0, 55296)), (62, (0, 56319)), (63, (0, 65536)), (64, (0, 56320))]
  | _ => []
def rLt : Nat → List (Nat × Int) := fun c => match c with
  | 1 => [(345, (255))]
  | 2 => [(36, (9)), (38, (10)), (40, (48))]
  | 4 => [(70, (10)), (72, (48)), (74, (9007199254740992)), (82, (9007199254740991))]
  | 5 => [(167, (10)), (169, (48)), (171, (9007199254740992)), (179, (9007199254740991))]
  | 8 => [(38, (127))]
  | 11 => [(153, (255)), (235, (9007199254740991)), (237, (10)), (239, (48)), (262, (-10)), (337, (-1))]
  | 29 => [(64, (-1))]
  | 30 => [(33, (31)), (39, (3)), (44, (7)), (54, (131)), (60, (11)), (62, (13)), (70, (17)), (72, (2)), (77, (37))]
  | _ => []
def rOt : Nat → List (Nat × Nat) := fun c => match c with
  | 5 => [(97, 17), (99, 18)]
  | _ => []
/-- the method that an interface call runs, by the receiver's tag -/
def rDt : Nat → List (Nat × Nat) := fun c => match c with
  | 301 => [(17, 307), (19, 311), (18, 309), (29, 341), (20, 313)]
  | 302 => [(28, 339), (21, 315), (22, 317), (26, 325)]
  | 303 => [(24, 321), (23, 319), (25, 323)]
  | _ => []
/-- where an exception is made and thrown: pc, its number -/
def rXt : Nat → List (Nat × Nat) := fun k => match k with
  | 19 => [(4, 201)]
  | 23 => [(4, 202)]
  | 26 => [(4, 203)]
  | 27 => [(44, 204)]
  | 29 => [(137, 203)]
  | 32 => [(4, 205)]
  | 35 => [(60, 206), (113, 206)]
  | 39 => [(30, 204)]
  | 43 => [(31, 204)]
  | 54 => [(12, 201)]
  | 67 => [(5, 204)]
  | 107 => [(17, 201)]
  | 113 => [(42, 201)]
  | 115 => [(4, 206)]
  | _ => []
/-- what a handler of a method does with an exception: pc from, to, its number, the handler -/
def rHt : Nat → List (Nat × Nat × Nat × Nat) := fun k => match k with
  | 1 => [(0, 16, 201, 19)]
  | 2 => [(0, 9, 202, 12)]
  | 3 => [(0, 9, 202, 12), (0, 9, 203, 15), (0, 9, 204, 18), (0, 9, 201, 21)]
  | 4 => [(0, 10, 202, 13), (0, 10, 203, 17), (0, 10, 205, 21)]
  | 5 => [(0, 9, 202, 12), (0, 9, 203, 15), (0, 9, 205, 18)]
  | 6 => [(0, 8, 203, 11)]
  | 7 => [(0, 9, 202, 12), (0, 9, 203, 15), (0, 9, 204, 18), (0, 9, 205, 21), (0, 9, 206, 24), (0, 9, 201, 27)]
  | 8 => [(0, 5, 202, 8), (0, 5, 203, 11)]
  | 9 => [(0, 5, 202, 8), (0, 5, 203, 11)]
  | 10 => [(0, 9, 202, 12), (0, 9, 203, 15), (0, 9, 204, 18), (0, 9, 201, 21)]
  | 11 => [(0, 5, 202, 8), (0, 5, 203, 11), (0, 5, 204, 14)]
  | 12 => [(0, 10, 202, 13), (0, 10, 203, 17), (0, 10, 204, 21)]
  | 13 => [(0, 5, 202, 8), (0, 5, 203, 11)]
  | 14 => [(0, 8, 201, 11)]
  | 15 => [(0, 9, 202, 12)]
  | 27 => [(13, 29, 204, 32)]
  | 35 => [(83, 97, 206, 100)]
  | 39 => [(5, 17, 204, 18)]
  | _ => []
/-- types of the fields: 0 int, 1 long, 2 reference, 3 boolean -/
def fTy : Nat → List Nat := fun c => match c with
  | 1 => [2, 0, 2, 2, 2, 2, 2, 2, 2, 2, 2, 2, 2, 2, 2, 0, 0, 3, 0, 0, 2, 2, 0]
  | 2 => [2, 0]
  | 4 => [2, 0, 0, 0, 0]
  | 5 => [2, 0, 0, 0, 2, 0]
  | 6 => [2, 0, 2, 0, 0]
  | 7 => [2, 0, 0, 0, 0, 2, 2, 2, 2, 2, 2, 0, 2, 0, 0, 2, 0]
  | 8 => [2, 0]
  | 9 => [2, 2, 2, 2, 0, 2, 0, 2, 0]
  | 10 => [0, 0, 0, 3]
  | 11 => [2, 0, 2, 0, 0, 0, 3, 0, 2, 2, 2, 2, 0, 0, 0, 2, 0, 3, 2, 2, 2, 0, 2, 2, 0, 2, 0, 2, 2, 0, 2, 0, 2, 0, 0, 3, 0, 2]
  | 12 => [2, 2, 2, 0, 3]
  | 13 => [2, 2, 2, 2, 2, 2, 2, 2, 2, 2, 0, 2, 0]
  | 14 => [3, 2, 2, 0]
  | 15 => [3, 3, 2, 0]
  | 16 => [3, 2, 0]
  | 17 => [2, 0]
  | 18 => [1]
  | 20 => [2]
  | 21 => [2]
  | 22 => [2]
  | 23 => [2, 3]
  | 24 => [2, 0]
  | 25 => [2]
  | 26 => [0, 2, 2, 2, 2]
  | 27 => [0, 2, 0, 1]
  | 28 => [3, 2, 0]
  | 29 => [3, 1, 3, 1, 1]
  | 30 => [2, 0, 2, 2, 0]
  | 31 => [2, 0]
  | _ => []
/-- the texts of the string constants: the object at 2 + 2 i, its bytes at 3 + 2 i -/
def sTx : List (List Int) := [[111, 112], [112, 97, 116, 104], [118, 97, 108, 117, 101], [102, 114, 111, 109], [110, 117, 108, 108], [102, 97, 108, 115, 101], [116, 114, 117, 101], [110, 117, 108, 108], [102, 97, 108, 115, 101], [116, 114, 117, 101], [97, 100, 100], [114, 101, 109, 111, 118, 101], [114, 101, 112, 108, 97, 99, 101], [116, 101, 115, 116], [109, 111, 118, 101], [99, 111, 112, 121], [116, 114, 117, 101], [102, 97, 108, 115, 101], [110, 117, 108, 108], [108, 101, 110, 103, 116, 104], [99, 111, 117, 110, 116], [118, 97, 108, 117, 101], [110, 117, 108, 108], [116, 114, 117, 101], [102, 97, 108, 115, 101], [98, 102, 110, 114, 116], [98, 116, 110, 102, 114], [92, 117], [48, 49, 50, 51, 52, 53, 54, 55, 56, 57, 97, 98, 99, 100, 101, 102], [111, 112], [112, 97, 116, 104], [97, 100, 100], [114, 101, 112, 108, 97, 99, 101], [116, 101, 115, 116], [109, 111, 118, 101], [118, 97, 108, 117, 101], [114, 101, 109, 111, 118, 101], [99, 111, 112, 121], [102, 114, 111, 109], [61, 61], [33, 61], [108, 101, 110, 103, 116, 104], [99, 111, 117, 110, 116], [38, 38], [124, 124]]
