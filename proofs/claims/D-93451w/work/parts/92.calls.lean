/-! SIMULATION, XIII: calls: one lemma a kind of call, then the table -/
set_option maxRecDepth 100000
def zmnl : List (Nat × (MethodName × Option FieldType)) := [(0, (⟨"DependencyPairAnalyzerLaw", "law", "([I)Z"⟩, (Option.some Jvm.ClassFile.FieldType.boolean))),
  (1, (⟨"DependencyPairAnalyzer", "<init>", "()V"⟩, (Option.none : Option Jvm.ClassFile.FieldType))),
  (2, (⟨"DependencyPairAnalyzer", "zero", "()LDependencyPairAnalyzer$Term;"⟩, (Option.some (Jvm.ClassFile.FieldType.object "DependencyPairAnalyzer$Term")))),
  (3, (⟨"DependencyPairAnalyzer", "build", "(I)V"⟩, (Option.none : Option Jvm.ClassFile.FieldType))),
  (4, (⟨"DependencyPairAnalyzer", "setArity", "(II)I"⟩, (Option.some Jvm.ClassFile.FieldType.int))),
  (5, (⟨"DependencyPairAnalyzer", "isFunction", "(I)Z"⟩, (Option.some Jvm.ClassFile.FieldType.boolean))),
  (6, (⟨"DependencyPairAnalyzer", "arity", "(I)I"⟩, (Option.some Jvm.ClassFile.FieldType.int))),
  (7, (⟨"DependencyPairAnalyzer", "appendCharacter", "(I)I"⟩, (Option.some Jvm.ClassFile.FieldType.int))),
  (8, (⟨"DependencyPairAnalyzer", "clearText", "()I"⟩, (Option.some Jvm.ClassFile.FieldType.int))),
  (9, (⟨"DependencyPairAnalyzer", "textLength", "()I"⟩, (Option.some Jvm.ClassFile.FieldType.int))),
  (10, (⟨"DependencyPairAnalyzer", "addRule", "()I"⟩, (Option.some Jvm.ClassFile.FieldType.int))),
  (11, (⟨"DependencyPairAnalyzer", "isValid", "(LDependencyPairAnalyzer$Rule;)Z"⟩, (Option.some Jvm.ClassFile.FieldType.boolean))),
  (12, (⟨"DependencyPairAnalyzer", "invalidate", "()V"⟩, (Option.none : Option Jvm.ClassFile.FieldType))),
  (13, (⟨"DependencyPairAnalyzer", "removeRule", "(I)I"⟩, (Option.some Jvm.ClassFile.FieldType.int))),
  (14, (⟨"DependencyPairAnalyzer", "isRule", "(I)Z"⟩, (Option.some Jvm.ClassFile.FieldType.boolean))),
  (15, (⟨"DependencyPairAnalyzer", "ruleCount", "()I"⟩, (Option.some Jvm.ClassFile.FieldType.int))),
  (16, (⟨"DependencyPairAnalyzer", "leftSize", "(I)I"⟩, (Option.some Jvm.ClassFile.FieldType.int))),
  (17, (⟨"DependencyPairAnalyzer", "rightSize", "(I)I"⟩, (Option.some Jvm.ClassFile.FieldType.int))),
  (18, (⟨"DependencyPairAnalyzer", "pairCount", "()I"⟩, (Option.some Jvm.ClassFile.FieldType.int))),
  (19, (⟨"DependencyPairAnalyzer", "update", "()V"⟩, (Option.none : Option Jvm.ClassFile.FieldType))),
  (20, (⟨"DependencyPairAnalyzer", "isEdge", "(LDependencyPairAnalyzer$Pair;LDependencyPairAnalyzer$Pair;)Z"⟩, (Option.some Jvm.ClassFile.FieldType.boolean))),
  (21, (⟨"DependencyPairAnalyzer", "isCompatible", "(LDependencyPairAnalyzer$Term;ILDependencyPairAnalyzer$Term;I)Z"⟩, (Option.some Jvm.ClassFile.FieldType.boolean))),
  (22, (⟨"DependencyPairAnalyzer", "findComponents", "([I)V"⟩, (Option.none : Option Jvm.ClassFile.FieldType))),
  (23, (⟨"DependencyPairAnalyzer", "countComponents", "([I)I"⟩, (Option.some Jvm.ClassFile.FieldType.int))),
  (24, (⟨"DependencyPairAnalyzer", "pairRule", "(I)I"⟩, (Option.some Jvm.ClassFile.FieldType.int))),
  (25, (⟨"DependencyPairAnalyzer", "isPair", "(I)Z"⟩, (Option.some Jvm.ClassFile.FieldType.boolean))),
  (26, (⟨"DependencyPairAnalyzer", "pairPosition", "(I)I"⟩, (Option.some Jvm.ClassFile.FieldType.int))),
  (27, (⟨"DependencyPairAnalyzer", "sourceFunction", "(I)I"⟩, (Option.some Jvm.ClassFile.FieldType.int))),
  (28, (⟨"DependencyPairAnalyzer", "targetFunction", "(I)I"⟩, (Option.some Jvm.ClassFile.FieldType.int))),
  (29, (⟨"DependencyPairAnalyzer", "hasEdge", "(II)I"⟩, (Option.some Jvm.ClassFile.FieldType.int))),
  (30, (⟨"DependencyPairAnalyzer", "asInt", "(Z)I"⟩, (Option.some Jvm.ClassFile.FieldType.int))),
  (31, (⟨"DependencyPairAnalyzer", "edgeCount", "()I"⟩, (Option.some Jvm.ClassFile.FieldType.int))),
  (32, (⟨"DependencyPairAnalyzer", "componentCount", "()I"⟩, (Option.some Jvm.ClassFile.FieldType.int))),
  (33, (⟨"DependencyPairAnalyzer", "componentOf", "(I)I"⟩, (Option.some Jvm.ClassFile.FieldType.int))),
  (34, (⟨"DependencyPairAnalyzer", "sizeRelation", "(III)I"⟩, (Option.some Jvm.ClassFile.FieldType.int))),
  (35, (⟨"DependencyPairAnalyzer", "closureSize", "()I"⟩, (Option.some Jvm.ClassFile.FieldType.int))),
  (36, (⟨"DependencyPairAnalyzer", "computeClosure", "()Z"⟩, (Option.some Jvm.ClassFile.FieldType.boolean))),
  (37, (⟨"DependencyPairAnalyzer", "addToClosure", "(LDependencyPairAnalyzer$SizeChangeGraph;I)I"⟩, (Option.some Jvm.ClassFile.FieldType.int))),
  (38, (⟨"DependencyPairAnalyzer", "addComposition", "(LDependencyPairAnalyzer$SizeChangeGraph;LDependencyPairAnalyzer$SizeChangeGraph;I)I"⟩, (Option.some Jvm.ClassFile.FieldType.int))),
  (39, (⟨"DependencyPairAnalyzer", "idempotentCount", "()I"⟩, (Option.some Jvm.ClassFile.FieldType.int))),
  (40, (⟨"DependencyPairAnalyzer", "isIdempotent", "(LDependencyPairAnalyzer$SizeChangeGraph;)Z"⟩, (Option.some Jvm.ClassFile.FieldType.boolean))),
  (41, (⟨"DependencyPairAnalyzer", "terminatesBySizeChange", "()I"⟩, (Option.some Jvm.ClassFile.FieldType.int))),
  (42, (⟨"DependencyPairAnalyzer", "projection", "(I)I"⟩, (Option.some Jvm.ClassFile.FieldType.int))),
  (43, (⟨"DependencyPairAnalyzer", "lowestProjection", "([IIII)I"⟩, (Option.some Jvm.ClassFile.FieldType.int))),
  (44, (⟨"DependencyPairAnalyzer", "isValidProjection", "([II)Z"⟩, (Option.some Jvm.ClassFile.FieldType.boolean))),
  (45, (⟨"DependencyPairAnalyzer", "chosenRelation", "(LDependencyPairAnalyzer$Pair;)I"⟩, (Option.some Jvm.ClassFile.FieldType.int))),
  (46, (⟨"DependencyPairAnalyzer", "contains", "([III)Z"⟩, (Option.some Jvm.ClassFile.FieldType.boolean))),
  (47, (⟨"DependencyPairAnalyzer", "eliminationRounds", "()I"⟩, (Option.some Jvm.ClassFile.FieldType.int))),
  (48, (⟨"DependencyPairAnalyzer", "eliminate", "()I"⟩, (Option.some Jvm.ClassFile.FieldType.int))),
  (49, (⟨"DependencyPairAnalyzer", "removeDecreasing", "(I)V"⟩, (Option.none : Option Jvm.ClassFile.FieldType))),
  (50, (⟨"DependencyPairAnalyzer", "remainingPairCount", "()I"⟩, (Option.some Jvm.ClassFile.FieldType.int))),
  (51, (⟨"DependencyPairAnalyzer", "remainingComponentCount", "()I"⟩, (Option.some Jvm.ClassFile.FieldType.int))),
  (52, (⟨"DependencyPairAnalyzer", "terminatesBySubtermCriterion", "()I"⟩, (Option.some Jvm.ClassFile.FieldType.int))),
  (53, (⟨"DependencyPairAnalyzer", "parseTerm", "(I)I"⟩, (Option.some Jvm.ClassFile.FieldType.int))),
  (54, (⟨"DependencyPairAnalyzer", "isRegister", "(I)Z"⟩, (Option.some Jvm.ClassFile.FieldType.boolean))),
  (55, (⟨"DependencyPairAnalyzer", "store", "(LDependencyPairAnalyzer$Term;I)I"⟩, (Option.some Jvm.ClassFile.FieldType.int))),
  (56, (⟨"DependencyPairAnalyzer", "termSize", "(I)I"⟩, (Option.some Jvm.ClassFile.FieldType.int))),
  (57, (⟨"DependencyPairAnalyzer", "formattedLength", "(I)I"⟩, (Option.some Jvm.ClassFile.FieldType.int))),
  (58, (⟨"DependencyPairAnalyzer", "format", "(LDependencyPairAnalyzer$Term;)Ljava/lang/StringBuilder;"⟩, (Option.some (Jvm.ClassFile.FieldType.object "java/lang/StringBuilder")))),
  (59, (⟨"DependencyPairAnalyzer", "formattedCharacter", "(II)I"⟩, (Option.some Jvm.ClassFile.FieldType.int))),
  (60, (⟨"DependencyPairAnalyzer", "compareTerms", "(II)I"⟩, (Option.some Jvm.ClassFile.FieldType.int))),
  (61, (⟨"DependencyPairAnalyzer", "copyTerm", "(II)I"⟩, (Option.some Jvm.ClassFile.FieldType.int))),
  (62, (⟨"DependencyPairAnalyzer", "loadLeft", "(II)I"⟩, (Option.some Jvm.ClassFile.FieldType.int))),
  (63, (⟨"DependencyPairAnalyzer", "loadRight", "(II)I"⟩, (Option.some Jvm.ClassFile.FieldType.int))),
  (64, (⟨"DependencyPairAnalyzer", "matches", "(III)I"⟩, (Option.some Jvm.ClassFile.FieldType.int))),
  (65, (⟨"DependencyPairAnalyzer", "isPosition", "(II)Z"⟩, (Option.some Jvm.ClassFile.FieldType.boolean))),
  (66, (⟨"DependencyPairAnalyzer", "isMatch", "(ILDependencyPairAnalyzer$Term;I)Z"⟩, (Option.some Jvm.ClassFile.FieldType.boolean))),
  (67, (⟨"DependencyPairAnalyzer", "redexCount", "(I)I"⟩, (Option.some Jvm.ClassFile.FieldType.int))),
  (68, (⟨"DependencyPairAnalyzer", "isRedex", "(LDependencyPairAnalyzer$Term;I)Z"⟩, (Option.some Jvm.ClassFile.FieldType.boolean))),
  (69, (⟨"DependencyPairAnalyzer", "matchingRule", "(LDependencyPairAnalyzer$Term;I)I"⟩, (Option.some Jvm.ClassFile.FieldType.int))),
  (70, (⟨"DependencyPairAnalyzer", "redexAt", "(II)I"⟩, (Option.some Jvm.ClassFile.FieldType.int))),
  (71, (⟨"DependencyPairAnalyzer", "rewriteAt", "(II)I"⟩, (Option.some Jvm.ClassFile.FieldType.int))),
  (72, (⟨"DependencyPairAnalyzer", "rewritten", "(LDependencyPairAnalyzer$Term;I)LDependencyPairAnalyzer$Term;"⟩, (Option.some (Jvm.ClassFile.FieldType.object "DependencyPairAnalyzer$Term")))),
  (73, (⟨"DependencyPairAnalyzer", "instanceSize", "(LDependencyPairAnalyzer$Term;LDependencyPairAnalyzer$Term;)I"⟩, (Option.some Jvm.ClassFile.FieldType.int))),
  (74, (⟨"DependencyPairAnalyzer", "buildRange", "(LDependencyPairAnalyzer$Term;II)V"⟩, (Option.none : Option Jvm.ClassFile.FieldType))),
  (75, (⟨"DependencyPairAnalyzer", "rewriteOutermost", "(II)I"⟩, (Option.some Jvm.ClassFile.FieldType.int))),
  (76, (⟨"DependencyPairAnalyzer", "outermostStep", "(LDependencyPairAnalyzer$Term;)LDependencyPairAnalyzer$Term;"⟩, (Option.some (Jvm.ClassFile.FieldType.object "DependencyPairAnalyzer$Term")))),
  (77, (⟨"DependencyPairAnalyzer", "outermostRedex", "(LDependencyPairAnalyzer$Term;)I"⟩, (Option.some Jvm.ClassFile.FieldType.int))),
  (78, (⟨"DependencyPairAnalyzer", "findLoop", "(II)I"⟩, (Option.some Jvm.ClassFile.FieldType.int))),
  (79, (⟨"DependencyPairAnalyzer", "occurred", "(LDependencyPairAnalyzer$Term;I)Z"⟩, (Option.some Jvm.ClassFile.FieldType.boolean))),
  (80, (⟨"DependencyPairAnalyzer", "exploredCount", "(II)I"⟩, (Option.some Jvm.ClassFile.FieldType.int))),
  (81, (⟨"DependencyPairAnalyzer", "explorationError", "(II)I"⟩, (Option.some Jvm.ClassFile.FieldType.int))),
  (82, (⟨"DependencyPairAnalyzer", "explore", "(LDependencyPairAnalyzer$Term;I)I"⟩, (Option.some Jvm.ClassFile.FieldType.int))),
  (83, (⟨"DependencyPairAnalyzer", "exploredNormalForms", "(II)I"⟩, (Option.some Jvm.ClassFile.FieldType.int))),
  (84, (⟨"DependencyPairAnalyzer", "isNormalForm", "(LDependencyPairAnalyzer$Term;)Z"⟩, (Option.some Jvm.ClassFile.FieldType.boolean))),
  (85, (⟨"DependencyPairAnalyzer", "lastExploredSize", "(II)I"⟩, (Option.some Jvm.ClassFile.FieldType.int))),
  (86, (⟨"DependencyPairAnalyzer", "loadNormalForm", "(III)I"⟩, (Option.some Jvm.ClassFile.FieldType.int))),
  (87, (⟨"DependencyPairAnalyzer", "normalFormRegisterCount", "()I"⟩, (Option.some Jvm.ClassFile.FieldType.int))),
  (88, (⟨"DependencyPairAnalyzer", "saveSnapshot", "()I"⟩, (Option.some Jvm.ClassFile.FieldType.int))),
  (89, (⟨"DependencyPairAnalyzer", "restoreSnapshot", "()I"⟩, (Option.some Jvm.ClassFile.FieldType.int))),
  (90, (⟨"DependencyPairAnalyzer$Reader", "<init>", "(LDependencyPairAnalyzer;)V"⟩, (Option.none : Option Jvm.ClassFile.FieldType))),
  (91, (⟨"DependencyPairAnalyzer$Reader", "rule", "()LDependencyPairAnalyzer$Rule;"⟩, (Option.some (Jvm.ClassFile.FieldType.object "DependencyPairAnalyzer$Rule")))),
  (92, (⟨"DependencyPairAnalyzer$Reader", "builtTerm", "()LDependencyPairAnalyzer$Term;"⟩, (Option.some (Jvm.ClassFile.FieldType.object "DependencyPairAnalyzer$Term")))),
  (93, (⟨"DependencyPairAnalyzer$Reader", "term", "()V"⟩, (Option.none : Option Jvm.ClassFile.FieldType))),
  (94, (⟨"DependencyPairAnalyzer$Reader", "current", "()I"⟩, (Option.some Jvm.ClassFile.FieldType.int))),
  (95, (⟨"DependencyPairAnalyzer$Reader", "require", "(Z)V"⟩, (Option.none : Option Jvm.ClassFile.FieldType))),
  (96, (⟨"DependencyPairAnalyzer$Reader", "take", "(I)V"⟩, (Option.none : Option Jvm.ClassFile.FieldType))),
  (97, (⟨"DependencyPairAnalyzer$Reader", "whole", "()LDependencyPairAnalyzer$Term;"⟩, (Option.some (Jvm.ClassFile.FieldType.object "DependencyPairAnalyzer$Term")))),
  (98, (⟨"DependencyPairAnalyzer$SizeChangeGraph", "<init>", "(II[I)V"⟩, (Option.none : Option Jvm.ClassFile.FieldType))),
  (99, (⟨"DependencyPairAnalyzer$SizeChangeGraph", "compareTo", "(Ljava/lang/Object;)I"⟩, (Option.some Jvm.ClassFile.FieldType.int))),
  (100, (⟨"DependencyPairAnalyzer$SizeChangeGraph", "compareTo", "(LDependencyPairAnalyzer$SizeChangeGraph;)I"⟩, (Option.some Jvm.ClassFile.FieldType.int))),
  (101, (⟨"DependencyPairAnalyzer$SizeChangeGraph", "copy", "()LDependencyPairAnalyzer$SizeChangeGraph;"⟩, (Option.some (Jvm.ClassFile.FieldType.object "DependencyPairAnalyzer$SizeChangeGraph")))),
  (102, (⟨"DependencyPairAnalyzer$SizeChangeGraph", "compose", "(LDependencyPairAnalyzer$SizeChangeGraph;LDependencyPairAnalyzer$SizeChangeGraph;)V"⟩, (Option.none : Option Jvm.ClassFile.FieldType))),
  (103, (⟨"DependencyPairAnalyzer$SizeChangeGraph", "decreases", "()Z"⟩, (Option.some Jvm.ClassFile.FieldType.boolean))),
  (104, (⟨"DependencyPairAnalyzer$Term", "<init>", "([BI[I)V"⟩, (Option.none : Option Jvm.ClassFile.FieldType))),
  (105, (⟨"DependencyPairAnalyzer$Term", "argumentCount", "(I[I)I"⟩, (Option.some Jvm.ClassFile.FieldType.int))),
  (106, (⟨"DependencyPairAnalyzer$Term", "isFunctionSymbol", "(I)Z"⟩, (Option.some Jvm.ClassFile.FieldType.boolean))),
  (107, (⟨"DependencyPairAnalyzer$Term", "containsFunction", "(I)Z"⟩, (Option.some Jvm.ClassFile.FieldType.boolean))),
  (108, (⟨"DependencyPairAnalyzer$Term", "size", "()I"⟩, (Option.some Jvm.ClassFile.FieldType.int))),
  (109, (⟨"DependencyPairAnalyzer$Term", "isFunction", "(I)Z"⟩, (Option.some Jvm.ClassFile.FieldType.boolean))),
  (110, (⟨"DependencyPairAnalyzer$Term", "isVariable", "(I)Z"⟩, (Option.some Jvm.ClassFile.FieldType.boolean))),
  (111, (⟨"DependencyPairAnalyzer$Term", "containsAt", "(ILDependencyPairAnalyzer$Term;I)Z"⟩, (Option.some Jvm.ClassFile.FieldType.boolean))),
  (112, (⟨"DependencyPairAnalyzer$Term", "isEqualAt", "(ILDependencyPairAnalyzer$Term;I)Z"⟩, (Option.some Jvm.ClassFile.FieldType.boolean))),
  (113, (⟨"DependencyPairAnalyzer$Term", "sizeAt", "(I)I"⟩, (Option.some Jvm.ClassFile.FieldType.int))),
  (114, (⟨"DependencyPairAnalyzer$Term", "function", "(I)I"⟩, (Option.some Jvm.ClassFile.FieldType.int))),
  (115, (⟨"DependencyPairAnalyzer$Term", "compareTo", "(Ljava/lang/Object;)I"⟩, (Option.some Jvm.ClassFile.FieldType.int))),
  (116, (⟨"DependencyPairAnalyzer$Term", "compareTo", "(LDependencyPairAnalyzer$Term;)I"⟩, (Option.some Jvm.ClassFile.FieldType.int))),
  (117, (⟨"DependencyPairAnalyzer$Term", "write", "(ILjava/lang/StringBuilder;)V"⟩, (Option.none : Option Jvm.ClassFile.FieldType))),
  (118, (⟨"DependencyPairAnalyzer$Term", "isEqual", "(LDependencyPairAnalyzer$Term;)Z"⟩, (Option.some Jvm.ClassFile.FieldType.boolean))),
  (119, (⟨"DependencyPairAnalyzer$SyntaxException", "<init>", "(I)V"⟩, (Option.none : Option Jvm.ClassFile.FieldType))),
  (120, (⟨"DependencyPairAnalyzer$Rule", "<init>", "(LDependencyPairAnalyzer$Term;LDependencyPairAnalyzer$Term;)V"⟩, (Option.none : Option Jvm.ClassFile.FieldType))),
  (121, (⟨"DependencyPairAnalyzer$Pair", "<init>", "(IILDependencyPairAnalyzer$Term;LDependencyPairAnalyzer$Term;)V"⟩, (Option.none : Option Jvm.ClassFile.FieldType))),
  (122, (⟨"DependencyPairAnalyzer$Pair", "relation", "(II)I"⟩, (Option.some Jvm.ClassFile.FieldType.int))),
  (123, (⟨"DependencyPairAnalyzer$TermComparator", "compare", "(Ljava/lang/Object;Ljava/lang/Object;)I"⟩, (Option.some Jvm.ClassFile.FieldType.int))),
  (124, (⟨"DependencyPairAnalyzer$TermComparator", "compare", "(LDependencyPairAnalyzer$Term;LDependencyPairAnalyzer$Term;)I"⟩, (Option.some Jvm.ClassFile.FieldType.int))),
  (125, (⟨"DependencyPairAnalyzer$TermComparator", "<init>", "()V"⟩, (Option.none : Option Jvm.ClassFile.FieldType))),
  (126, (⟨"DependencyPairAnalyzerModel", "<init>", "()V"⟩, (Option.none : Option Jvm.ClassFile.FieldType))),
  (127, (⟨"DependencyPairAnalyzerModel", "setToZ", "(I)V"⟩, (Option.none : Option Jvm.ClassFile.FieldType))),
  (128, (⟨"DependencyPairAnalyzerModel", "setArity", "(II)I"⟩, (Option.some Jvm.ClassFile.FieldType.int))),
  (129, (⟨"DependencyPairAnalyzerModel", "isIn", "(III)Z"⟩, (Option.some Jvm.ClassFile.FieldType.boolean))),
  (130, (⟨"DependencyPairAnalyzerModel", "arity", "(I)I"⟩, (Option.some Jvm.ClassFile.FieldType.int))),
  (131, (⟨"DependencyPairAnalyzerModel", "addRule", "()I"⟩, (Option.some Jvm.ClassFile.FieldType.int))),
  (132, (⟨"DependencyPairAnalyzerModel", "parsesTerm", "()Z"⟩, (Option.some Jvm.ClassFile.FieldType.boolean))),
  (133, (⟨"DependencyPairAnalyzerModel", "next", "()I"⟩, (Option.some Jvm.ClassFile.FieldType.int))),
  (134, (⟨"DependencyPairAnalyzerModel", "isFunction", "(I)Z"⟩, (Option.some Jvm.ClassFile.FieldType.boolean))),
  (135, (⟨"DependencyPairAnalyzerModel", "isVariable", "(I)Z"⟩, (Option.some Jvm.ClassFile.FieldType.boolean))),
  (136, (⟨"DependencyPairAnalyzerModel", "arityOf", "(I)I"⟩, (Option.some Jvm.ClassFile.FieldType.int))),
  (137, (⟨"DependencyPairAnalyzerModel", "accepts", "(I)Z"⟩, (Option.some Jvm.ClassFile.FieldType.boolean))),
  (138, (⟨"DependencyPairAnalyzerModel", "copy", "([II[III)V"⟩, (Option.none : Option Jvm.ClassFile.FieldType))),
  (139, (⟨"DependencyPairAnalyzerModel", "isValidRule", "()Z"⟩, (Option.some Jvm.ClassFile.FieldType.boolean))),
  (140, (⟨"DependencyPairAnalyzerModel", "hasSymbol", "([II)Z"⟩, (Option.some Jvm.ClassFile.FieldType.boolean))),
  (141, (⟨"DependencyPairAnalyzerModel", "left", "(I)I"⟩, (Option.some Jvm.ClassFile.FieldType.int))),
  (142, (⟨"DependencyPairAnalyzerModel", "right", "(I)I"⟩, (Option.some Jvm.ClassFile.FieldType.int))),
  (143, (⟨"DependencyPairAnalyzerModel", "removeRule", "(I)I"⟩, (Option.some Jvm.ClassFile.FieldType.int))),
  (144, (⟨"DependencyPairAnalyzerModel", "isRule", "(I)Z"⟩, (Option.some Jvm.ClassFile.FieldType.boolean))),
  (145, (⟨"DependencyPairAnalyzerModel", "ruleCount", "()I"⟩, (Option.some Jvm.ClassFile.FieldType.int))),
  (146, (⟨"DependencyPairAnalyzerModel", "leftSize", "(I)I"⟩, (Option.some Jvm.ClassFile.FieldType.int))),
  (147, (⟨"DependencyPairAnalyzerModel", "rightSize", "(I)I"⟩, (Option.some Jvm.ClassFile.FieldType.int))),
  (148, (⟨"DependencyPairAnalyzerModel", "pairCount", "()I"⟩, (Option.some Jvm.ClassFile.FieldType.int))),
  (149, (⟨"DependencyPairAnalyzerModel", "findPairs", "()I"⟩, (Option.some Jvm.ClassFile.FieldType.int))),
  (150, (⟨"DependencyPairAnalyzerModel", "pairRule", "(I)I"⟩, (Option.some Jvm.ClassFile.FieldType.int))),
  (151, (⟨"DependencyPairAnalyzerModel", "isPair", "(I)Z"⟩, (Option.some Jvm.ClassFile.FieldType.boolean))),
  (152, (⟨"DependencyPairAnalyzerModel", "pairPosition", "(I)I"⟩, (Option.some Jvm.ClassFile.FieldType.int))),
  (153, (⟨"DependencyPairAnalyzerModel", "sourceFunction", "(I)I"⟩, (Option.some Jvm.ClassFile.FieldType.int))),
  (154, (⟨"DependencyPairAnalyzerModel", "sourceOf", "(I)I"⟩, (Option.some Jvm.ClassFile.FieldType.int))),
  (155, (⟨"DependencyPairAnalyzerModel", "source", "(I)I"⟩, (Option.some Jvm.ClassFile.FieldType.int))),
  (156, (⟨"DependencyPairAnalyzerModel", "targetFunction", "(I)I"⟩, (Option.some Jvm.ClassFile.FieldType.int))),
  (157, (⟨"DependencyPairAnalyzerModel", "targetOf", "(I)I"⟩, (Option.some Jvm.ClassFile.FieldType.int))),
  (158, (⟨"DependencyPairAnalyzerModel", "target", "(I)I"⟩, (Option.some Jvm.ClassFile.FieldType.int))),
  (159, (⟨"DependencyPairAnalyzerModel", "hasEdge", "(II)I"⟩, (Option.some Jvm.ClassFile.FieldType.int))),
  (160, (⟨"DependencyPairAnalyzerModel", "isEdge", "(II)Z"⟩, (Option.some Jvm.ClassFile.FieldType.boolean))),
  (161, (⟨"DependencyPairAnalyzerModel", "areArgumentsCompatible", "(II)Z"⟩, (Option.some Jvm.ClassFile.FieldType.boolean))),
  (162, (⟨"DependencyPairAnalyzerModel", "argument", "([III)I"⟩, (Option.some Jvm.ClassFile.FieldType.int))),
  (163, (⟨"DependencyPairAnalyzerModel", "end", "([II)I"⟩, (Option.some Jvm.ClassFile.FieldType.int))),
  (164, (⟨"DependencyPairAnalyzerModel", "isCompatible", "(II)Z"⟩, (Option.some Jvm.ClassFile.FieldType.boolean))),
  (165, (⟨"DependencyPairAnalyzerModel", "edgeCount", "()I"⟩, (Option.some Jvm.ClassFile.FieldType.int))),
  (166, (⟨"DependencyPairAnalyzerModel", "componentCount", "()I"⟩, (Option.some Jvm.ClassFile.FieldType.int))),
  (167, (⟨"DependencyPairAnalyzerModel", "findGraph", "()V"⟩, (Option.none : Option Jvm.ClassFile.FieldType))),
  (168, (⟨"DependencyPairAnalyzerModel", "findComponents", "()V"⟩, (Option.none : Option Jvm.ClassFile.FieldType))),
  (169, (⟨"DependencyPairAnalyzerModel", "hasBit", "([JII)Z"⟩, (Option.some Jvm.ClassFile.FieldType.boolean))),
  (170, (⟨"DependencyPairAnalyzerModel", "componentOf", "(I)I"⟩, (Option.some Jvm.ClassFile.FieldType.int))),
  (171, (⟨"DependencyPairAnalyzerModel", "sizeRelation", "(III)I"⟩, (Option.some Jvm.ClassFile.FieldType.int))),
  (172, (⟨"DependencyPairAnalyzerModel", "relation", "(III)I"⟩, (Option.some Jvm.ClassFile.FieldType.int))),
  (173, (⟨"DependencyPairAnalyzerModel", "areEqual", "([II[III)Z"⟩, (Option.some Jvm.ClassFile.FieldType.boolean))),
  (174, (⟨"DependencyPairAnalyzerModel", "closureSize", "()I"⟩, (Option.some Jvm.ClassFile.FieldType.int))),
  (175, (⟨"DependencyPairAnalyzerModel", "findClosure", "()Z"⟩, (Option.some Jvm.ClassFile.FieldType.boolean))),
  (176, (⟨"DependencyPairAnalyzerModel", "encode", "(I[I)I"⟩, (Option.some Jvm.ClassFile.FieldType.int))),
  (177, (⟨"DependencyPairAnalyzerModel", "addGraph", "(I)V"⟩, (Option.none : Option Jvm.ClassFile.FieldType))),
  (178, (⟨"DependencyPairAnalyzerModel", "compose", "(II)I"⟩, (Option.some Jvm.ClassFile.FieldType.int))),
  (179, (⟨"DependencyPairAnalyzerModel", "functions", "(I)I"⟩, (Option.some Jvm.ClassFile.FieldType.int))),
  (180, (⟨"DependencyPairAnalyzerModel", "decode", "(I[I)V"⟩, (Option.none : Option Jvm.ClassFile.FieldType))),
  (181, (⟨"DependencyPairAnalyzerModel", "idempotentCount", "()I"⟩, (Option.some Jvm.ClassFile.FieldType.int))),
  (182, (⟨"DependencyPairAnalyzerModel", "terminatesBySizeChange", "()I"⟩, (Option.some Jvm.ClassFile.FieldType.int))),
  (183, (⟨"DependencyPairAnalyzerModel", "projection", "(I)I"⟩, (Option.some Jvm.ClassFile.FieldType.int))),
  (184, (⟨"DependencyPairAnalyzerModel", "findProjection", "(I)I"⟩, (Option.some Jvm.ClassFile.FieldType.int))),
  (185, (⟨"DependencyPairAnalyzerModel", "isValid", "(I)Z"⟩, (Option.some Jvm.ClassFile.FieldType.boolean))),
  (186, (⟨"DependencyPairAnalyzerModel", "eliminationRounds", "()I"⟩, (Option.some Jvm.ClassFile.FieldType.int))),
  (187, (⟨"DependencyPairAnalyzerModel", "eliminate", "()I"⟩, (Option.some Jvm.ClassFile.FieldType.int))),
  (188, (⟨"DependencyPairAnalyzerModel", "remainingPairCount", "()I"⟩, (Option.some Jvm.ClassFile.FieldType.int))),
  (189, (⟨"DependencyPairAnalyzerModel", "remainingComponentCount", "()I"⟩, (Option.some Jvm.ClassFile.FieldType.int))),
  (190, (⟨"DependencyPairAnalyzerModel", "terminatesBySubtermCriterion", "()I"⟩, (Option.some Jvm.ClassFile.FieldType.int))),
  (191, (⟨"DependencyPairAnalyzerModel", "parseTerm", "(I)I"⟩, (Option.some Jvm.ClassFile.FieldType.int))),
  (192, (⟨"DependencyPairAnalyzerModel", "isRegister", "(I)Z"⟩, (Option.some Jvm.ClassFile.FieldType.boolean))),
  (193, (⟨"DependencyPairAnalyzerModel", "termSize", "(I)I"⟩, (Option.some Jvm.ClassFile.FieldType.int))),
  (194, (⟨"DependencyPairAnalyzerModel", "formattedLength", "(I)I"⟩, (Option.some Jvm.ClassFile.FieldType.int))),
  (195, (⟨"DependencyPairAnalyzerModel", "format", "(I)I"⟩, (Option.some Jvm.ClassFile.FieldType.int))),
  (196, (⟨"DependencyPairAnalyzerModel", "put", "(I)V"⟩, (Option.none : Option Jvm.ClassFile.FieldType))),
  (197, (⟨"DependencyPairAnalyzerModel", "formattedCharacter", "(II)I"⟩, (Option.some Jvm.ClassFile.FieldType.int))),
  (198, (⟨"DependencyPairAnalyzerModel", "compareTerms", "(II)I"⟩, (Option.some Jvm.ClassFile.FieldType.int))),
  (199, (⟨"DependencyPairAnalyzerModel", "compare", "([II[II)I"⟩, (Option.some Jvm.ClassFile.FieldType.int))),
  (200, (⟨"DependencyPairAnalyzerModel", "copyTerm", "(II)I"⟩, (Option.some Jvm.ClassFile.FieldType.int))),
  (201, (⟨"DependencyPairAnalyzerModel", "loadLeft", "(II)I"⟩, (Option.some Jvm.ClassFile.FieldType.int))),
  (202, (⟨"DependencyPairAnalyzerModel", "load", "(II)I"⟩, (Option.some Jvm.ClassFile.FieldType.int))),
  (203, (⟨"DependencyPairAnalyzerModel", "loadRight", "(II)I"⟩, (Option.some Jvm.ClassFile.FieldType.int))),
  (204, (⟨"DependencyPairAnalyzerModel", "matches", "(III)I"⟩, (Option.some Jvm.ClassFile.FieldType.int))),
  (205, (⟨"DependencyPairAnalyzerModel", "isPosition", "(II)Z"⟩, (Option.some Jvm.ClassFile.FieldType.boolean))),
  (206, (⟨"DependencyPairAnalyzerModel", "isMatch", "(I[II)Z"⟩, (Option.some Jvm.ClassFile.FieldType.boolean))),
  (207, (⟨"DependencyPairAnalyzerModel", "variable", "(I)I"⟩, (Option.some Jvm.ClassFile.FieldType.int))),
  (208, (⟨"DependencyPairAnalyzerModel", "redexCount", "(I)I"⟩, (Option.some Jvm.ClassFile.FieldType.int))),
  (209, (⟨"DependencyPairAnalyzerModel", "redex", "([III)I"⟩, (Option.some Jvm.ClassFile.FieldType.int))),
  (210, (⟨"DependencyPairAnalyzerModel", "matching", "([II)I"⟩, (Option.some Jvm.ClassFile.FieldType.int))),
  (211, (⟨"DependencyPairAnalyzerModel", "redexAt", "(II)I"⟩, (Option.some Jvm.ClassFile.FieldType.int))),
  (212, (⟨"DependencyPairAnalyzerModel", "rewriteAt", "(II)I"⟩, (Option.some Jvm.ClassFile.FieldType.int))),
  (213, (⟨"DependencyPairAnalyzerModel", "rewrite", "([III)I"⟩, (Option.some Jvm.ClassFile.FieldType.int))),
  (214, (⟨"DependencyPairAnalyzerModel", "rewriteOutermost", "(II)I"⟩, (Option.some Jvm.ClassFile.FieldType.int))),
  (215, (⟨"DependencyPairAnalyzerModel", "findLoop", "(II)I"⟩, (Option.some Jvm.ClassFile.FieldType.int))),
  (216, (⟨"DependencyPairAnalyzerModel", "meet", "([II)V"⟩, (Option.none : Option Jvm.ClassFile.FieldType))),
  (217, (⟨"DependencyPairAnalyzerModel", "isMet", "()Z"⟩, (Option.some Jvm.ClassFile.FieldType.boolean))),
  (218, (⟨"DependencyPairAnalyzerModel", "exploredCount", "(II)I"⟩, (Option.some Jvm.ClassFile.FieldType.int))),
  (219, (⟨"DependencyPairAnalyzerModel", "wrongExploration", "(II)I"⟩, (Option.some Jvm.ClassFile.FieldType.int))),
  (220, (⟨"DependencyPairAnalyzerModel", "explore", "(II)V"⟩, (Option.none : Option Jvm.ClassFile.FieldType))),
  (221, (⟨"DependencyPairAnalyzerModel", "lowestUnexpanded", "()I"⟩, (Option.some Jvm.ClassFile.FieldType.int))),
  (222, (⟨"DependencyPairAnalyzerModel", "exploredNormalForms", "(II)I"⟩, (Option.some Jvm.ClassFile.FieldType.int))),
  (223, (⟨"DependencyPairAnalyzerModel", "isNormalForm", "([II)Z"⟩, (Option.some Jvm.ClassFile.FieldType.boolean))),
  (224, (⟨"DependencyPairAnalyzerModel", "lastExploredSize", "(II)I"⟩, (Option.some Jvm.ClassFile.FieldType.int))),
  (225, (⟨"DependencyPairAnalyzerModel", "loadNormalForm", "(III)I"⟩, (Option.some Jvm.ClassFile.FieldType.int))),
  (226, (⟨"DependencyPairAnalyzerModel", "normalFormRegisterCount", "()I"⟩, (Option.some Jvm.ClassFile.FieldType.int))),
  (227, (⟨"DependencyPairAnalyzerModel", "appendCharacter", "(I)I"⟩, (Option.some Jvm.ClassFile.FieldType.int))),
  (228, (⟨"DependencyPairAnalyzerModel", "clearText", "()I"⟩, (Option.some Jvm.ClassFile.FieldType.int))),
  (229, (⟨"DependencyPairAnalyzerModel", "textLength", "()I"⟩, (Option.some Jvm.ClassFile.FieldType.int))),
  (230, (⟨"DependencyPairAnalyzerModel", "saveSnapshot", "()I"⟩, (Option.some Jvm.ClassFile.FieldType.int))),
  (231, (⟨"DependencyPairAnalyzerModel", "restoreSnapshot", "()I"⟩, (Option.some Jvm.ClassFile.FieldType.int))),
  (232, (⟨"java/util/AbstractMap", "<init>", "()V"⟩, (Option.none : Option Jvm.ClassFile.FieldType))),
  (233, (⟨"java/util/TreeMap", "<init>", "()V"⟩, (Option.none : Option Jvm.ClassFile.FieldType))),
  (234, (⟨"java/util/TreeMap", "clear", "()V"⟩, (Option.none : Option Jvm.ClassFile.FieldType))),
  (235, (⟨"java/util/TreeMap", "size", "()I"⟩, (Option.some Jvm.ClassFile.FieldType.int))),
  (236, (⟨"java/util/TreeMap", "put", "(Ljava/lang/Object;Ljava/lang/Object;)Ljava/lang/Object;"⟩, (Option.some (Jvm.ClassFile.FieldType.object "java/lang/Object")))),
  (237, (⟨"java/util/TreeMap", "put", "(Ljava/lang/Object;Ljava/lang/Object;Z)Ljava/lang/Object;"⟩, (Option.some (Jvm.ClassFile.FieldType.object "java/lang/Object")))),
  (238, (⟨"java/util/TreeMap", "addEntryToEmptyMap", "(Ljava/lang/Object;Ljava/lang/Object;)V"⟩, (Option.none : Option Jvm.ClassFile.FieldType))),
  (239, (⟨"java/util/TreeMap", "compare", "(Ljava/lang/Object;Ljava/lang/Object;)I"⟩, (Option.some Jvm.ClassFile.FieldType.int))),
  (240, (⟨"java/util/TreeMap", "addEntry", "(Ljava/lang/Object;Ljava/lang/Object;Ljava/util/TreeMap$Entry;Z)V"⟩, (Option.none : Option Jvm.ClassFile.FieldType))),
  (241, (⟨"java/util/TreeMap", "fixAfterInsertion", "(Ljava/util/TreeMap$Entry;)V"⟩, (Option.none : Option Jvm.ClassFile.FieldType))),
  (242, (⟨"java/util/TreeMap", "parentOf", "(Ljava/util/TreeMap$Entry;)Ljava/util/TreeMap$Entry;"⟩, (Option.some (Jvm.ClassFile.FieldType.object "java/util/TreeMap$Entry")))),
  (243, (⟨"java/util/TreeMap", "leftOf", "(Ljava/util/TreeMap$Entry;)Ljava/util/TreeMap$Entry;"⟩, (Option.some (Jvm.ClassFile.FieldType.object "java/util/TreeMap$Entry")))),
  (244, (⟨"java/util/TreeMap", "rightOf", "(Ljava/util/TreeMap$Entry;)Ljava/util/TreeMap$Entry;"⟩, (Option.some (Jvm.ClassFile.FieldType.object "java/util/TreeMap$Entry")))),
  (245, (⟨"java/util/TreeMap", "colorOf", "(Ljava/util/TreeMap$Entry;)Z"⟩, (Option.some Jvm.ClassFile.FieldType.boolean))),
  (246, (⟨"java/util/TreeMap", "setColor", "(Ljava/util/TreeMap$Entry;Z)V"⟩, (Option.none : Option Jvm.ClassFile.FieldType))),
  (247, (⟨"java/util/TreeMap", "rotateLeft", "(Ljava/util/TreeMap$Entry;)V"⟩, (Option.none : Option Jvm.ClassFile.FieldType))),
  (248, (⟨"java/util/TreeMap", "rotateRight", "(Ljava/util/TreeMap$Entry;)V"⟩, (Option.none : Option Jvm.ClassFile.FieldType))),
  (249, (⟨"java/util/TreeMap", "get", "(Ljava/lang/Object;)Ljava/lang/Object;"⟩, (Option.some (Jvm.ClassFile.FieldType.object "java/lang/Object")))),
  (250, (⟨"java/util/TreeMap", "getEntry", "(Ljava/lang/Object;)Ljava/util/TreeMap$Entry;"⟩, (Option.some (Jvm.ClassFile.FieldType.object "java/util/TreeMap$Entry")))),
  (251, (⟨"java/util/TreeMap", "containsKey", "(Ljava/lang/Object;)Z"⟩, (Option.some Jvm.ClassFile.FieldType.boolean))),
  (252, (⟨"java/util/TreeMap", "navigableKeySet", "()Ljava/util/NavigableSet;"⟩, (Option.some (Jvm.ClassFile.FieldType.object "java/util/NavigableSet")))),
  (253, (⟨"java/util/TreeMap", "keyIterator", "()Ljava/util/Iterator;"⟩, (Option.some (Jvm.ClassFile.FieldType.object "java/util/Iterator")))),
  (254, (⟨"java/util/TreeMap", "getFirstEntry", "()Ljava/util/TreeMap$Entry;"⟩, (Option.some (Jvm.ClassFile.FieldType.object "java/util/TreeMap$Entry")))),
  (255, (⟨"java/util/TreeMap", "successor", "(Ljava/util/TreeMap$Entry;)Ljava/util/TreeMap$Entry;"⟩, (Option.some (Jvm.ClassFile.FieldType.object "java/util/TreeMap$Entry")))),
  (256, (⟨"java/util/AbstractCollection", "<init>", "()V"⟩, (Option.none : Option Jvm.ClassFile.FieldType))),
  (257, (⟨"java/util/AbstractCollection", "isEmpty", "()Z"⟩, (Option.some Jvm.ClassFile.FieldType.boolean))),
  (258, (⟨"java/util/AbstractSet", "<init>", "()V"⟩, (Option.none : Option Jvm.ClassFile.FieldType))),
  (259, (⟨"java/util/TreeSet", "<init>", "()V"⟩, (Option.none : Option Jvm.ClassFile.FieldType))),
  (260, (⟨"java/util/TreeSet", "<init>", "(Ljava/util/NavigableMap;)V"⟩, (Option.none : Option Jvm.ClassFile.FieldType))),
  (261, (⟨"java/util/TreeSet", "clear", "()V"⟩, (Option.none : Option Jvm.ClassFile.FieldType))),
  (262, (⟨"java/util/TreeSet", "contains", "(Ljava/lang/Object;)Z"⟩, (Option.some Jvm.ClassFile.FieldType.boolean))),
  (263, (⟨"java/util/TreeSet", "add", "(Ljava/lang/Object;)Z"⟩, (Option.some Jvm.ClassFile.FieldType.boolean))),
  (264, (⟨"java/util/TreeSet", "size", "()I"⟩, (Option.some Jvm.ClassFile.FieldType.int))),
  (265, (⟨"java/util/TreeSet", "iterator", "()Ljava/util/Iterator;"⟩, (Option.some (Jvm.ClassFile.FieldType.object "java/util/Iterator")))),
  (266, (⟨"java/lang/Throwable", "<init>", "()V"⟩, (Option.none : Option Jvm.ClassFile.FieldType))),
  (267, (⟨"java/lang/Throwable", "<init>", "(Ljava/lang/String;Ljava/lang/Throwable;ZZ)V"⟩, (Option.none : Option Jvm.ClassFile.FieldType))),
  (268, (⟨"java/lang/Exception", "<init>", "(Ljava/lang/String;Ljava/lang/Throwable;ZZ)V"⟩, (Option.none : Option Jvm.ClassFile.FieldType))),
  (269, (⟨"java/lang/Integer", "valueOf", "(I)Ljava/lang/Integer;"⟩, (Option.some (Jvm.ClassFile.FieldType.object "java/lang/Integer")))),
  (270, (⟨"java/lang/Integer", "compareTo", "(Ljava/lang/Object;)I"⟩, (Option.some Jvm.ClassFile.FieldType.int))),
  (271, (⟨"java/lang/Integer", "compareTo", "(Ljava/lang/Integer;)I"⟩, (Option.some Jvm.ClassFile.FieldType.int))),
  (272, (⟨"java/lang/Integer", "compare", "(II)I"⟩, (Option.some Jvm.ClassFile.FieldType.int))),
  (273, (⟨"java/lang/Integer", "intValue", "()I"⟩, (Option.some Jvm.ClassFile.FieldType.int))),
  (274, (⟨"java/lang/String", "checkIndex", "(II)V"⟩, (Option.none : Option Jvm.ClassFile.FieldType))),
  (275, (⟨"java/lang/StringLatin1", "canEncode", "(C)Z"⟩, (Option.some Jvm.ClassFile.FieldType.boolean))),
  (276, (⟨"java/lang/Math", "min", "(II)I"⟩, (Option.some Jvm.ClassFile.FieldType.int))),
  (277, (⟨"java/lang/Math", "max", "(II)I"⟩, (Option.some Jvm.ClassFile.FieldType.int))),
  (278, (⟨"jdk/internal/util/ArraysSupport", "newLength", "(III)I"⟩, (Option.some Jvm.ClassFile.FieldType.int))),
  (279, (⟨"jdk/internal/util/Preconditions", "checkIndex", "(IILjava/util/function/BiFunction;)I"⟩, (Option.some Jvm.ClassFile.FieldType.int))),
  (280, (⟨"java/util/TreeMap$Entry", "<init>", "(Ljava/lang/Object;Ljava/lang/Object;Ljava/util/TreeMap$Entry;)V"⟩, (Option.none : Option Jvm.ClassFile.FieldType))),
  (281, (⟨"java/util/Objects", "requireNonNull", "(Ljava/lang/Object;)Ljava/lang/Object;"⟩, (Option.some (Jvm.ClassFile.FieldType.object "java/lang/Object")))),
  (282, (⟨"java/util/TreeMap$KeySet", "<init>", "(Ljava/util/NavigableMap;)V"⟩, (Option.none : Option Jvm.ClassFile.FieldType))),
  (283, (⟨"java/util/TreeMap$KeySet", "iterator", "()Ljava/util/Iterator;"⟩, (Option.some (Jvm.ClassFile.FieldType.object "java/util/Iterator")))),
  (284, (⟨"java/util/TreeMap$PrivateEntryIterator", "<init>", "(Ljava/util/TreeMap;Ljava/util/TreeMap$Entry;)V"⟩, (Option.none : Option Jvm.ClassFile.FieldType))),
  (285, (⟨"java/util/TreeMap$PrivateEntryIterator", "hasNext", "()Z"⟩, (Option.some Jvm.ClassFile.FieldType.boolean))),
  (286, (⟨"java/util/TreeMap$PrivateEntryIterator", "nextEntry", "()Ljava/util/TreeMap$Entry;"⟩, (Option.some (Jvm.ClassFile.FieldType.object "java/util/TreeMap$Entry")))),
  (287, (⟨"java/util/TreeMap$KeyIterator", "<init>", "(Ljava/util/TreeMap;Ljava/util/TreeMap$Entry;)V"⟩, (Option.none : Option Jvm.ClassFile.FieldType))),
  (288, (⟨"java/util/TreeMap$KeyIterator", "next", "()Ljava/lang/Object;"⟩, (Option.some (Jvm.ClassFile.FieldType.object "java/lang/Object")))),
  (289, (⟨"java/lang/AbstractStringBuilder", "isLatin1", "()Z"⟩, (Option.some Jvm.ClassFile.FieldType.boolean))),
  (290, (⟨"java/lang/AbstractStringBuilder", "<init>", "(I)V"⟩, (Option.none : Option Jvm.ClassFile.FieldType))),
  (291, (⟨"java/lang/AbstractStringBuilder", "append", "(C)Ljava/lang/AbstractStringBuilder;"⟩, (Option.some (Jvm.ClassFile.FieldType.object "java/lang/AbstractStringBuilder")))),
  (292, (⟨"java/lang/AbstractStringBuilder", "ensureCapacityInternal", "(I)V"⟩, (Option.none : Option Jvm.ClassFile.FieldType))),
  (293, (⟨"java/lang/AbstractStringBuilder", "newCapacity", "(I)I"⟩, (Option.some Jvm.ClassFile.FieldType.int))),
  (294, (⟨"java/lang/AbstractStringBuilder", "length", "()I"⟩, (Option.some Jvm.ClassFile.FieldType.int))),
  (295, (⟨"java/lang/AbstractStringBuilder", "charAt", "(I)C"⟩, (Option.some Jvm.ClassFile.FieldType.char))),
  (296, (⟨"java/lang/StringBuilder", "<init>", "()V"⟩, (Option.none : Option Jvm.ClassFile.FieldType))),
  (297, (⟨"java/lang/StringBuilder", "append", "(C)Ljava/lang/StringBuilder;"⟩, (Option.some (Jvm.ClassFile.FieldType.object "java/lang/StringBuilder")))),
  (298, (⟨"java/lang/StringBuilder", "length", "()I"⟩, (Option.some Jvm.ClassFile.FieldType.int))),
  (299, (⟨"java/lang/StringBuilder", "charAt", "(I)C"⟩, (Option.some Jvm.ClassFile.FieldType.char))),
  (300, (⟨"java/util/Arrays", "copyOf", "([BI)[B"⟩, (Option.some (Jvm.ClassFile.FieldType.array Jvm.ClassFile.FieldType.byte)))),
  (301, (⟨"java/util/Arrays", "copyOf", "([Ljava/lang/Object;I)[Ljava/lang/Object;"⟩, (Option.some (Jvm.ClassFile.FieldType.array (Jvm.ClassFile.FieldType.object "java/lang/Object"))))),
  (302, (⟨"java/util/Arrays", "copyOf", "([Ljava/lang/Object;ILjava/lang/Class;)[Ljava/lang/Object;"⟩, (Option.some (Jvm.ClassFile.FieldType.array (Jvm.ClassFile.FieldType.object "java/lang/Object"))))),
  (303, (⟨"java/util/AbstractQueue", "<init>", "()V"⟩, (Option.none : Option Jvm.ClassFile.FieldType))),
  (304, (⟨"java/util/PriorityQueue", "<init>", "(ILjava/util/Comparator;)V"⟩, (Option.none : Option Jvm.ClassFile.FieldType))),
  (305, (⟨"java/util/PriorityQueue", "add", "(Ljava/lang/Object;)Z"⟩, (Option.some Jvm.ClassFile.FieldType.boolean))),
  (306, (⟨"java/util/PriorityQueue", "offer", "(Ljava/lang/Object;)Z"⟩, (Option.some Jvm.ClassFile.FieldType.boolean))),
  (307, (⟨"java/util/PriorityQueue", "grow", "(I)V"⟩, (Option.none : Option Jvm.ClassFile.FieldType))),
  (308, (⟨"java/util/PriorityQueue", "siftUp", "(ILjava/lang/Object;)V"⟩, (Option.none : Option Jvm.ClassFile.FieldType))),
  (309, (⟨"java/util/PriorityQueue", "siftUpUsingComparator", "(ILjava/lang/Object;[Ljava/lang/Object;Ljava/util/Comparator;)V"⟩, (Option.none : Option Jvm.ClassFile.FieldType))),
  (310, (⟨"java/util/PriorityQueue", "size", "()I"⟩, (Option.some Jvm.ClassFile.FieldType.int))),
  (311, (⟨"java/util/PriorityQueue", "poll", "()Ljava/lang/Object;"⟩, (Option.some (Jvm.ClassFile.FieldType.object "java/lang/Object")))),
  (312, (⟨"java/util/PriorityQueue", "siftDownUsingComparator", "(ILjava/lang/Object;[Ljava/lang/Object;ILjava/util/Comparator;)V"⟩, (Option.none : Option Jvm.ClassFile.FieldType)))]
def zmn (i : Nat) : MethodName := ((zlk zmnl i).getD (⟨"", "", ""⟩, none)).1
def zrt (i : Nat) : Option FieldType := ((zlk zmnl i).getD (⟨"", "", ""⟩, none)).2
def zhh (i : Nat) : List (Nat × Nat × Nat × Nat) := if i = 10 then [((12 : Nat), (30 : Nat), (75 : Nat), (187 : Nat)), ((37 : Nat), (68 : Nat), (75 : Nat), (187 : Nat)), ((12 : Nat), (30 : Nat), (91 : Nat), (0 : Nat)), ((37 : Nat), (68 : Nat), (91 : Nat), (0 : Nat)), ((75 : Nat), (84 : Nat), (91 : Nat), (0 : Nat))] else [((9 : Nat), (38 : Nat), (45 : Nat), (187 : Nat)), ((9 : Nat), (38 : Nat), (61 : Nat), (0 : Nat)), ((45 : Nat), (54 : Nat), (61 : Nat), (0 : Nat)), ((61 : Nat), (63 : Nat), (61 : Nat), (0 : Nat))]
def zwh (i : Nat) : Bool := i == 10 || i == 53
def zws (i : Nat) : List Cond := if zwh i then wsW_ (zmn i) (zcb i) (zml i) (zrt i) (zhh i) else ws_ (zmn i) (zcb i) (zml i) (zrt i)
theorem zws_n {i : Nat} (h : zwh i = false) : zws i = ws_ (zmn i) (zcb i) (zml i) (zrt i) := by unfold zws; rw [h]; rfl
theorem zws_w {i : Nat} (h : zwh i = true) : zws i = wsW_ (zmn i) (zcb i) (zml i) (zrt i) (zhh i) := by unfold zws; rw [h]; rfl
def zRun (len : Nat) (p : Program) (l : Launch) (e : Env) (R : Room) (s : State) (m : MethodId) (args : Array Value) (below : List Frame) (meth : Method) (c : Code) (H : Heap) (locs : List Loc) (cells slots mc ms : Nat) (g : JFrame) (rest : List Value) (Qa : State → Outcome → State → Prop) (XC : String → State → State → Prop) (free : Addr → Prop) : Prop :=
  ∀ T : State, T.heap = H → Stand p l e R s m args below meth c T locs cells slots →
    (∃ (v : Option Value) (st₀ t T' : State) (L : List Loc), st₀.heap = H ∧ Stand p l e R s m args below meth c T' (locs ++ L) (cells + mc) (slots + ms) ∧ (∀ q ∈ L, free q.base) ∧ T'.heap = t.heap ∧ T'.vm = t.vm ∧ Qa st₀ (.returned v) t ∧
      Goes p e below T g T' { g with pc := g.pc + len, stack := v.toList ++ rest }) ∨
    (∃ (q : Addr) (st₀ t T' : State) (L : List Loc) (E : String) (ce : Cell), st₀.heap = H ∧ Stand p l e R s m args below meth c T' (locs ++ L) (cells + mc) (slots + ms) ∧ (∀ z ∈ L, free z.base) ∧ T'.heap = t.heap ∧ T'.vm = t.vm ∧ XC E st₀ t ∧ (t.heap[q]? = some ce ∧ t.frames.head? = some (.throwing q)) ∧ ce.vm = .none ∧ s.vm.findClass E = some ce.cls ∧
      Steps p.tables e below (T.setTop g) ((T'.setTop { g with stack := rest }).pushFrame (.throwing q)))
/-- what a call asks of its surroundings -/
def zCx (Z : ZP) (l : Launch) (R : Room) (p : Program) (s : State) (m : MethodId) (args : Array Value) (c : Code) (cc : ByteArray) (nL o : Nat) (H : Heap) (cells slots mc ms : Nat) (rm : Room) (mj : Nat) (Pc : Array Value → State → Prop) (Qc : Array Value → State → Outcome → State → Prop) (XC : String → State → State → Prop) (free : Addr → Prop) (vs rest : List Value) : Prop :=
  CallFix p m c cc nL s args lw_all (znm o) ∧ zSt Z s ∧ vx_Met l (zmn mj) (zws mj) rm Pc Qc XC mc ms free ∧ rm.cells = mc ∧ rm.slots = ms ∧ (rm.frames + 1 ≤ R.frames ∧ 8 + (zml mj + 11) + rm.locals ≤ R.locals) ∧ FrameBlind Pc ∧ (∀ U : State, U.heap = H → s.WarmedH U.vm → Pc vs.toArray U) ∧ (rest.map fun v => v.category).sum ≤ 8 ∧ (cells + mc ≤ R.cells ∧ slots + ms ≤ R.slots)
/-- a cell of the class C -/
abbrev zRc (s : State) (H : Heap) (C : String) (b : Nat) : Prop := ∃ cell : Cell, H[b]? = some cell ∧ cell.vm.isStatics = false ∧ s.vm.findClass C = some cell.cls
def zcn (t : Nat) : Option String := zlk [(1, "DependencyPairAnalyzer"), (2, "DependencyPairAnalyzer$Reader"), (3, "DependencyPairAnalyzer$SizeChangeGraph"), (4, "DependencyPairAnalyzer$Term"), (5, "DependencyPairAnalyzer$SyntaxException"), (6, "DependencyPairAnalyzer$Rule"), (7, "DependencyPairAnalyzer$Pair"), (8, "DependencyPairAnalyzer$TermComparator"), (9, "DependencyPairAnalyzerModel"), (10, "java/util/TreeMap"), (11, "java/util/TreeMap$Entry"), (12, "java/util/TreeMap$KeySet"), (13, "java/util/TreeMap$KeyIterator"), (14, "java/util/TreeSet"), (15, "java/util/PriorityQueue"), (16, "java/lang/StringBuilder"), (32, "java/lang/Integer")] t
def zCS (o ix mj na : Nat) : Prop := ∀ (Z : ZP) (p : Program) (l : Launch) (e : Env) (R : Room) (s : State) (m : MethodId) (args : Array Value) (below : List Frame) (meth : Method) (c : Code) (cc : ByteArray) (nL : Nat) (H : Heap) (locs : List Loc) (cells slots mc ms : Nat) (rm : Room) (Pc : Array Value → State → Prop) (Qc : Array Value → State → Outcome → State → Prop) (XC : String → State → State → Prop) (free : Addr → Prop) (vs rest : List Value) (pc : Nat) (rls : Array Slot),
  zCx Z l R p s m args c cc nL o H cells slots mc ms rm mj Pc Qc XC free vs rest → vs.length = na → rls.size = nL → decode cc pc = .ok (.invokestatic ix, 3) → zRun 3 p l e R s m args below meth c H locs cells slots mc ms (F0 m pc rls (vs.reverse ++ rest)) rest (Qc vs.toArray) XC free
def zCI (o ix mj na : Nat) : Prop := ∀ (Z : ZP) (p : Program) (l : Launch) (e : Env) (R : Room) (s : State) (m : MethodId) (args : Array Value) (below : List Frame) (meth : Method) (c : Code) (cc : ByteArray) (nL : Nat) (H : Heap) (locs : List Loc) (cells slots mc ms : Nat) (rm : Room) (Pc : Array Value → State → Prop) (Qc : Array Value → State → Outcome → State → Prop) (XC : String → State → State → Prop) (free : Addr → Prop) (b : Nat) (vs rest : List Value) (pc : Nat) (rls : Array Slot),
  zCx Z l R p s m args c cc nL o H cells slots mc ms rm mj Pc Qc XC free (.ref b :: vs) rest → vs.length + 1 = na → rls.size = nL → decode cc pc = .ok (.invokespecial ix, 3) → zRun 3 p l e R s m args below meth c H locs cells slots mc ms (F0 m pc rls (vs.reverse ++ .ref b :: rest)) rest (Qc (.ref b :: vs).toArray) XC free
def zCU (o ix t mj na : Nat) : Prop := ∀ (Z : ZP) (p : Program) (l : Launch) (e : Env) (R : Room) (s : State) (m : MethodId) (args : Array Value) (below : List Frame) (meth : Method) (c : Code) (cc : ByteArray) (nL : Nat) (H : Heap) (locs : List Loc) (cells slots mc ms : Nat) (rm : Room) (Pc : Array Value → State → Prop) (Qc : Array Value → State → Outcome → State → Prop) (XC : String → State → State → Prop) (free : Addr → Prop) (b : Nat) (vs rest : List Value) (pc : Nat) (rls : Array Slot),
  zCx Z l R p s m args c cc nL o H cells slots mc ms rm mj Pc Qc XC free (.ref b :: vs) rest → (∀ C T N, zcl[t - 1]? = some (C, T, N) → zRc s H C b) → vs.length + 1 = na → rls.size = nL → decode cc pc = .ok (.invokespecial ix, 3) → zRun 3 p l e R s m args below meth c H locs cells slots mc ms (F0 m pc rls (vs.reverse ++ .ref b :: rest)) rest (Qc (.ref b :: vs).toArray) XC free
def zCV (o ix t mj na : Nat) : Prop := ∀ (Z : ZP) (p : Program) (l : Launch) (e : Env) (R : Room) (s : State) (m : MethodId) (args : Array Value) (below : List Frame) (meth : Method) (c : Code) (cc : ByteArray) (nL : Nat) (H : Heap) (locs : List Loc) (cells slots mc ms : Nat) (rm : Room) (Pc : Array Value → State → Prop) (Qc : Array Value → State → Outcome → State → Prop) (XC : String → State → State → Prop) (free : Addr → Prop) (b : Nat) (vs rest : List Value) (pc : Nat) (rls : Array Slot),
  zCx Z l R p s m args c cc nL o H cells slots mc ms rm mj Pc Qc XC free (.ref b :: vs) rest → (∀ C, zcn t = some C → zRc s H C b) → vs.length + 1 = na → rls.size = nL → decode cc pc = .ok (.invokevirtual ix, 3) → zRun 3 p l e R s m args below meth c H locs cells slots mc ms (F0 m pc rls (vs.reverse ++ .ref b :: rest)) rest (Qc (.ref b :: vs).toArray) XC free
def zCF (o ix t mj na : Nat) : Prop := ∀ (Z : ZP) (p : Program) (l : Launch) (e : Env) (R : Room) (s : State) (m : MethodId) (args : Array Value) (below : List Frame) (meth : Method) (c : Code) (cc : ByteArray) (nL : Nat) (H : Heap) (locs : List Loc) (cells slots mc ms : Nat) (rm : Room) (Pc : Array Value → State → Prop) (Qc : Array Value → State → Outcome → State → Prop) (XC : String → State → State → Prop) (free : Addr → Prop) (b : Nat) (vs rest : List Value) (pc ct : Nat) (rls : Array Slot),
  zCx Z l R p s m args c cc nL o H cells slots mc ms rm mj Pc Qc XC free (.ref b :: vs) rest → (∀ C, zcn t = some C → zRc s H C b) → vs.length + 1 = na → rls.size = nL → decode cc pc = .ok (.invokeinterface ix ct, 5) → zRun 5 p l e R s m args below meth c H locs cells slots mc ms (F0 m pc rls (vs.reverse ++ .ref b :: rest)) rest (Qc (.ref b :: vs).toArray) XC free

theorem zk_S {o ix mj na : Nat} (hw : zwh mj = false) (q1 : Cond.methodLink (znm o) ix (zmn mj) ∈ lw_all) (q2 : Cond.static (zmn mj) ∈ lw_all) (q3 : Cond.initialized (zmn mj).cls ∈ lw_all) (q4 : Cond.code (zmn mj) (zcb mj) (zml mj) (zrt mj) ∈ lw_all) (hd : (zmn mj).cls ≠ "java/lang/invoke/MethodHandle" ∧ (zmn mj).cls ≠ "java/lang/invoke/VarHandle" ∧ (parseMethodDescriptor (zmn mj).desc).map (fun d => d.parameters.length) = some na) : zCS o ix mj na := by
  intro Z p l e R s m args below meth c cc nL H locs cells slots mc ms rm Pc Qc XC free vs rest pc rls hC hn hs hdec
  obtain ⟨hF, hst, hM, hrc, hrs, hR, hbl, hpc, hrest, hroom⟩ := hC
  rw [zws_n hw] at hM
  exact vx_runS (rest := rest) hF hM (va_cwS na hF.2.2.2.2 (lw_S q1 q2 q3 q4) rfl hrc hrs hd hR) ⟨hbl, hpc⟩ rfl hn hs rfl (by show 2 * 0 + _ ≤ 8; omega) hdec hroom
theorem zk_I {o ix mj na : Nat} (hw : zwh mj = false) (hr : zrt mj = none) (hi : (zmn mj).name = "<init>") (q1 : Cond.methodLink (znm o) ix (zmn mj) ∈ lw_all) (q2 : Cond.instanceMethod (zmn mj) ∈ lw_all) (q3 : Cond.initialized (zmn mj).cls ∈ lw_all) (q4 : Cond.code (zmn mj) (zcb mj) (zml mj) (zrt mj) ∈ lw_all) (hd : (zmn mj).cls ≠ "java/lang/invoke/MethodHandle" ∧ (zmn mj).cls ≠ "java/lang/invoke/VarHandle" ∧ (parseMethodDescriptor (zmn mj).desc).map (fun d => d.parameters.length) = some na) : zCI o ix mj (na + 1) := by
  intro Z p l e R s m args below meth c cc nL H locs cells slots mc ms rm Pc Qc XC free b vs rest pc rls hC hn hs hdec
  obtain ⟨hF, hst, hM, hrc, hrs, hR, hbl, hpc, hrest, hroom⟩ := hC
  rw [zws_n hw] at hM
  rw [hr] at hM q4
  exact vx_runI (rest := rest) hF hM (cwI na hF.2.2.2.2 (lw_meth q4) rfl hrc hrs (hF.2.2.2.2 _ q3) (hF.2.2.2.2 _ q1) (hF.2.2.2.2 _ q2) hi hd hR) ⟨hbl, hpc⟩ rfl (by omega) hs rfl (by show 2 * 0 + _ ≤ 8; omega) hdec hroom
theorem zk_IN {o ix mj na : Nat} {host : String} (hw : zwh mj = false) (hr : zrt mj = none) (hi : (zmn mj).name = "<init>") (q1 : Cond.methodLinkNest (znm o) ix (zmn mj) host ∈ zNwM) (q2 : Cond.instanceMethod (zmn mj) ∈ lw_all) (q3 : Cond.initialized (zmn mj).cls ∈ lw_all) (q4 : Cond.code (zmn mj) (zcb mj) (zml mj) (zrt mj) ∈ lw_all) (hd : (zmn mj).cls ≠ "java/lang/invoke/MethodHandle" ∧ (zmn mj).cls ≠ "java/lang/invoke/VarHandle" ∧ (parseMethodDescriptor (zmn mj).desc).map (fun d => d.parameters.length) = some na) : zCI o ix mj (na + 1) := by
  intro Z p l e R s m args below meth c cc nL H locs cells slots mc ms rm Pc Qc XC free b vs rest pc rls hC hn hs hdec
  obtain ⟨hF, hst, hM, hrc, hrs, hR, hbl, hpc, hrest, hroom⟩ := hC
  rw [zws_n hw] at hM
  rw [hr] at hM q4
  exact vx_runIN (rest := rest) hF hM ⟨va_cnB na hF.2.2.2.2 (lw_meth q4) rfl hrc hrs (hst.2.2.1 _ q1) (hF.2.2.2.2 _ q3) hd hR, hi, hF.2.2.2.2 _ q2⟩ ⟨hbl, hpc⟩ rfl (by omega) hs rfl (by show 2 * 0 + _ ≤ 8; omega) hdec hroom
theorem zk_V {o ix t mj na : Nat} {C : String} (hc : zcn t = some C) (hw : zwh mj = false) (q1 : Cond.methodLink (znm o) ix (zmn mj) ∈ lw_all) (q2 : Cond.instanceMethod (zmn mj) ∈ lw_all) (q3 : Cond.selects C (zmn mj) (zmn mj) ∈ lw_all) (q5 : Cond.initialized C ∈ lw_all) (q4 : Cond.code (zmn mj) (zcb mj) (zml mj) (zrt mj) ∈ lw_all) (hd : (zmn mj).cls = C ∧ (zmn mj).cls ≠ "java/lang/invoke/MethodHandle" ∧ (zmn mj).cls ≠ "java/lang/invoke/VarHandle" ∧ (parseMethodDescriptor (zmn mj).desc).map (fun d => d.parameters.length) = some na) : zCV o ix t mj (na + 1) := by
  intro Z p l e R s m args below meth c cc nL H locs cells slots mc ms rm Pc Qc XC free b vs rest pc rls hC hrec hn hs hdec
  obtain ⟨hF, hst, hM, hrc, hrs, hR, hbl, hpc, hrest, hroom⟩ := hC
  rw [zws_n hw] at hM
  exact vx_runV (rest := rest) hF hM (cwV na hF.2.2.2.2 (lw_V q1 q2 q3 q5 q4) rfl hrc hrs hd hR) ⟨hbl, hrec C hc, hpc⟩ rfl (by omega) hs rfl (by show 2 * 0 + _ ≤ 8; omega) hdec hroom
theorem zk_VX {o ix t mj na : Nat} {C : String} (hc : zcn t = some C) (hw : zwh mj = true) (q1 : Cond.methodLink (znm o) ix (zmn mj) ∈ lw_all) (q2 : Cond.instanceMethod (zmn mj) ∈ lw_all) (q3 : Cond.selects C (zmn mj) (zmn mj) ∈ lw_all) (q5 : Cond.initialized C ∈ lw_all) (q4 : Cond.codeWith (zmn mj) (zcb mj) (zml mj) (zrt mj) (zhh mj) ∈ lw_all) (hd : (zmn mj).cls = C ∧ (zmn mj).cls ≠ "java/lang/invoke/MethodHandle" ∧ (zmn mj).cls ≠ "java/lang/invoke/VarHandle" ∧ (parseMethodDescriptor (zmn mj).desc).map (fun d => d.parameters.length) = some na) : zCV o ix t mj (na + 1) := by
  intro Z p l e R s m args below meth c cc nL H locs cells slots mc ms rm Pc Qc XC free b vs rest pc rls hC hrec hn hs hdec
  obtain ⟨hF, hst, hM, hrc, hrs, hR, hbl, hpc, hrest, hroom⟩ := hC
  rw [zws_w hw] at hM
  exact vx_runVX (rest := rest) hF hM (vx_cwVW na hF.2.2.2.2 (lw_VW q1 q2 q3 q5 q4) rfl hrc hrs hd hR) ⟨hbl, hrec C hc, hpc⟩ rfl (by omega) hs rfl (by show 2 * 0 + _ ≤ 8; omega) hdec hroom
theorem zk_VN {o ix t mj na : Nat} {C host : String} (hc : zcn t = some C) (hw : zwh mj = false) (q1 : Cond.methodLinkNest (znm o) ix (zmn mj) host ∈ zNwM) (q2 : Cond.instanceMethod (zmn mj) ∈ lw_all) (q3 : Cond.selects C (zmn mj) (zmn mj) ∈ lw_all) (q5 : Cond.initialized (zmn mj).cls ∈ lw_all) (q4 : Cond.code (zmn mj) (zcb mj) (zml mj) (zrt mj) ∈ lw_all) (hd : (zmn mj).cls ≠ "java/lang/invoke/MethodHandle" ∧ (zmn mj).cls ≠ "java/lang/invoke/VarHandle" ∧ (parseMethodDescriptor (zmn mj).desc).map (fun d => d.parameters.length) = some na) : zCV o ix t mj (na + 1) := by
  intro Z p l e R s m args below meth c cc nL H locs cells slots mc ms rm Pc Qc XC free b vs rest pc rls hC hrec hn hs hdec
  obtain ⟨hF, hst, hM, hrc, hrs, hR, hbl, hpc, hrest, hroom⟩ := hC
  rw [zws_n hw] at hM
  exact vx_runVN (rest := rest) hF hM ⟨va_cnB na hF.2.2.2.2 (lw_meth q4) rfl hrc hrs (hst.2.2.1 _ q1) (hF.2.2.2.2 _ q5) hd hR, hF.2.2.2.2 _ q2, hF.2.2.2.2 _ q3⟩ ⟨hbl, hrec C hc, hpc⟩ rfl (by omega) hs rfl (by show 2 * 0 + _ ≤ 8; omega) hdec hroom
theorem zk_U {o ix t mj na : Nat} {C owner : String} {x : MethodName} (hc : zcn t = some C) (hw : zwh mj = false) (hU : ∀ w ∈ va_wsU (znm o) ix C owner x (zmn mj) (ws_ (zmn mj) (zcb mj) (zml mj) (zrt mj)), w ∈ lw_all) (hyx : zmn mj = ⟨owner, x.name, x.desc⟩) (hd : owner ≠ "java/lang/invoke/MethodHandle" ∧ owner ≠ "java/lang/invoke/VarHandle" ∧ (parseMethodDescriptor x.desc).map (fun d => d.parameters.length) = some na) : zCV o ix t mj (na + 1) := by
  intro Z p l e R s m args below meth c cc nL H locs cells slots mc ms rm Pc Qc XC free b vs rest pc rls hC hrec hn hs hdec
  obtain ⟨hF, hst, hM, hrc, hrs, hR, hbl, hpc, hrest, hroom⟩ := hC
  rw [zws_n hw] at hM
  exact vx_runU (rest := rest) hF hM (va_cwU na hF.2.2.2.2 (lw_good hU) rfl hrc hrs hyx hd hR) ⟨hbl, hrec C hc, hpc⟩ rfl (by omega) hs rfl (by show 2 * 0 + _ ≤ 8; omega) hdec hroom
theorem zk_A {o ix t mj na : Nat} {C owner : String} {x : MethodName} (hc : zcn t = some C) (hw : zwh mj = false) (hU : ∀ w ∈ va_wsU (znm o) ix C owner x (zmn mj) (ws_ (zmn mj) (zcb mj) (zml mj) (zrt mj)), w ∈ lw_all) (hz : (⟨owner, x.name, x.desc⟩ : MethodName) ∈ zNwD) (hd : owner ≠ "java/lang/invoke/MethodHandle" ∧ owner ≠ "java/lang/invoke/VarHandle" ∧ (parseMethodDescriptor x.desc).map (fun d => d.parameters.length) = some na) : zCV o ix t mj (na + 1) := by
  intro Z p l e R s m args below meth c cc nL H locs cells slots mc ms rm Pc Qc XC free b vs rest pc rls hC hrec hn hs hdec
  obtain ⟨hF, hst, hM, hrc, hrs, hR, hbl, hpc, hrest, hroom⟩ := hC
  rw [zws_n hw] at hM
  exact vx_runU (rest := rest) hF hM (va_cwA na hF.2.2.2.2 (lw_good hU) rfl hrc hrs (hst.2.2.2.2.2.2.2.1 _ hz) hd hR) ⟨hbl, hrec C hc, hpc⟩ rfl (by omega) hs rfl (by show 2 * 0 + _ ≤ 8; omega) hdec hroom
theorem zk_SU {o ix t mj na : Nat} {C : String} {T : u_T} {N : Nat} (hc : zcl[t - 1]? = some (C, T, N)) (hw : zwh mj = false) (hU : ∀ w ∈ va_wsSU (znm o) ix (zmn mj) (ws_ (zmn mj) (zcb mj) (zml mj) (zrt mj)), w ∈ lw_all) (hd : (zmn mj).name ≠ "<init>" ∧ (parseMethodDescriptor (zmn mj).desc).map (fun d => d.parameters.length) = some na) : zCU o ix t mj (na + 1) := by
  intro Z p l e R s m args below meth c cc nL H locs cells slots mc ms rm Pc Qc XC free b vs rest pc rls hC hrec hn hs hdec
  obtain ⟨hF, hst, hM, hrc, hrs, hR, hbl, hpc, hrest, hroom⟩ := hC
  rw [zws_n hw] at hM
  exact vx_runSU (rest := rest) (hst.1.1 _ _ hc).2 hF hM (va_cwSU na hF.2.2.2.2 (lw_good hU) rfl hrc hrs hd hR) ⟨hbl, hrec C T N hc, hpc⟩ rfl (by omega) hs rfl (by show 2 * 0 + _ ≤ 8; omega) hdec hroom
theorem zk_F {o ix t mj na : Nat} {C : String} {x : MethodName} (hc : zcn t = some C) (hca : ∀ (Z : ZP) (s : State) (args : Array Value), (∀ w ∈ lw_all, w.before args s = true) → zSt Z s → ∃ cC, ClassAt s C cC) (hw : zwh mj = false) (hU : ∀ w ∈ va_wsF (znm o) ix C x (zmn mj) (ws_ (zmn mj) (zcb mj) (zml mj) (zrt mj)), w ∈ lw_all) (hF2 : (C, x, zmn mj) ∈ zNwI) (hd : x.cls ≠ "java/lang/invoke/MethodHandle" ∧ x.cls ≠ "java/lang/invoke/VarHandle" ∧ (parseMethodDescriptor x.desc).map (fun d => d.parameters.length) = some na) : zCF o ix t mj (na + 1) := by
  intro Z p l e R s m args below meth c cc nL H locs cells slots mc ms rm Pc Qc XC free b vs rest pc ct rls hC hrec hn hs hdec
  obtain ⟨hF, hst, hM, hrc, hrs, hR, hbl, hpc, hrest, hroom⟩ := hC
  rw [zws_n hw] at hM
  obtain ⟨cC, hat⟩ := hca Z s args hF.2.2.2.2 hst
  exact vx_runF (rest := rest) hat hF hM (va_cwF na hF.2.2.2.2 (lw_good hU) rfl hrc hrs (hst.2.2.2.2.2.2.1 _ hF2) hd hR) ⟨hbl, hrec C hc, hpc⟩ rfl (by omega) hs rfl (by show 2 * 0 + _ ≤ 8; omega) hdec hroom

