/-! THE CLASSES (by gen/mktab.py) -/
set_option maxRecDepth 100000
def ctT_1 : u_T := fun k => match k with
  | 0 => ("SpreadsheetEngine", "error", "LSpreadsheetEngine$SyntaxError;", true)
  | 1 => ("SpreadsheetEngine", "buffer", "[B", true)
  | 2 => ("SpreadsheetEngine", "bufferLength", "I", false)
  | 3 => ("SpreadsheetEngine", "finder", "LSpreadsheetEngine$Finder;", true)
  | 4 => ("SpreadsheetEngine", "sheet", "LSpreadsheetEngine$Sheet;", false)
  | 5 => ("SpreadsheetEngine", "history", "Ljava/util/ArrayDeque;", true)
  | 6 => ("SpreadsheetEngine", "kinds", "[I", true)
  | 7 => ("SpreadsheetEngine", "oldKinds", "[I", true)
  | 8 => ("SpreadsheetEngine", "keptKinds", "[I", true)
  | 9 => ("SpreadsheetEngine", "fullKinds", "[I", true)
  | 10 => ("SpreadsheetEngine", "numbers", "[J", true)
  | 11 => ("SpreadsheetEngine", "oldNumbers", "[J", true)
  | 12 => ("SpreadsheetEngine", "keptNumbers", "[J", true)
  | 13 => ("SpreadsheetEngine", "fullNumbers", "[J", true)
  | 14 => ("SpreadsheetEngine", "marked", "Ljava/util/BitSet;", true)
  | 15 => ("SpreadsheetEngine", "wereCyclic", "Ljava/util/BitSet;", true)
  | 16 => ("SpreadsheetEngine", "isAutomatic", "Z", false)
  | 17 => ("SpreadsheetEngine", "lastEvaluated", "I", false)
  | 18 => ("SpreadsheetEngine", "direct", "[Ljava/util/BitSet;", true)
  | 19 => ("SpreadsheetEngine", "reached", "[Ljava/util/BitSet;", true)
  | 20 => ("SpreadsheetEngine", "isGraphKnown", "Z", false)
  | 21 => ("SpreadsheetEngine", "collector", "LSpreadsheetEngine$Collector;", true)
  | 22 => ("SpreadsheetEngine", "found", "Ljava/util/BitSet;", true)
  | 23 => ("SpreadsheetEngine", "distance", "[I", true)
  | 24 => ("SpreadsheetEngine", "queue", "[I", true)
  | 25 => ("SpreadsheetEngine", "levels", "[I", true)
  | 26 => ("SpreadsheetEngine", "order", "[I", true)
  | _ => ("SpreadsheetEngine", "evaluator", "LSpreadsheetEngine$Evaluator;", true)
def cty_1 : Nat → FieldType := fun k => match k with
  | 0 => .object "SpreadsheetEngine$SyntaxError"
  | 1 => .array (.byte)
  | 2 => .int
  | 3 => .object "SpreadsheetEngine$Finder"
  | 4 => .object "SpreadsheetEngine$Sheet"
  | 5 => .object "java/util/ArrayDeque"
  | 6 => .array (.int)
  | 7 => .array (.int)
  | 8 => .array (.int)
  | 9 => .array (.int)
  | 10 => .array (.long)
  | 11 => .array (.long)
  | 12 => .array (.long)
  | 13 => .array (.long)
  | 14 => .object "java/util/BitSet"
  | 15 => .object "java/util/BitSet"
  | 16 => .boolean
  | 17 => .int
  | 18 => .array (.object "java/util/BitSet")
  | 19 => .array (.object "java/util/BitSet")
  | 20 => .boolean
  | 21 => .object "SpreadsheetEngine$Collector"
  | 22 => .object "java/util/BitSet"
  | 23 => .array (.int)
  | 24 => .array (.int)
  | 25 => .array (.int)
  | 26 => .array (.int)
  | _ => .object "SpreadsheetEngine$Evaluator"
def ctT_2 : u_T := fun k => match k with
  | 0 => ("SpreadsheetEngineModel", "content", "[I", true)
  | 1 => ("SpreadsheetEngineModel", "plain", "[J", true)
  | 2 => ("SpreadsheetEngineModel", "many", "[I", true)
  | 3 => ("SpreadsheetEngineModel", "token", "[J", true)
  | 4 => ("SpreadsheetEngineModel", "names", "[I", true)
  | 5 => ("SpreadsheetEngineModel", "nameText", "[J", true)
  | 6 => ("SpreadsheetEngineModel", "nameFirst", "[I", true)
  | 7 => ("SpreadsheetEngineModel", "nameLast", "[I", true)
  | 8 => ("SpreadsheetEngineModel", "kept", "I", false)
  | 9 => ("SpreadsheetEngineModel", "kind", "[I", true)
  | 10 => ("SpreadsheetEngineModel", "value", "[J", true)
  | 11 => ("SpreadsheetEngineModel", "oldKind", "[I", true)
  | 12 => ("SpreadsheetEngineModel", "oldValue", "[J", true)
  | 13 => ("SpreadsheetEngineModel", "marked", "[Z", true)
  | 14 => ("SpreadsheetEngineModel", "wasCyclic", "[Z", true)
  | 15 => ("SpreadsheetEngineModel", "isAutomatic", "Z", false)
  | 16 => ("SpreadsheetEngineModel", "evaluated", "I", false)
  | 17 => ("SpreadsheetEngineModel", "buffer", "[I", true)
  | 18 => ("SpreadsheetEngineModel", "length", "I", false)
  | 19 => ("SpreadsheetEngineModel", "point", "I", false)
  | 20 => ("SpreadsheetEngineModel", "begin", "I", false)
  | 21 => ("SpreadsheetEngineModel", "end", "I", false)
  | 22 => ("SpreadsheetEngineModel", "seen", "I", false)
  | 23 => ("SpreadsheetEngineModel", "wrong", "I", false)
  | 24 => ("SpreadsheetEngineModel", "deep", "I", false)
  | 25 => ("SpreadsheetEngineModel", "drafted", "I", false)
  | 26 => ("SpreadsheetEngineModel", "what", "J", false)
  | 27 => ("SpreadsheetEngineModel", "draft", "[J", true)
  | 28 => ("SpreadsheetEngineModel", "functions", "[Ljava/lang/String;", true)
  | 29 => ("SpreadsheetEngineModel", "written", "I", false)
  | 30 => ("SpreadsheetEngineModel", "border", "I", false)
  | 31 => ("SpreadsheetEngineModel", "isMore", "Z", false)
  | 32 => ("SpreadsheetEngineModel", "lower", "I", false)
  | 33 => ("SpreadsheetEngineModel", "upper", "I", false)
  | 34 => ("SpreadsheetEngineModel", "lost", "I", false)
  | 35 => ("SpreadsheetEngineModel", "bufferName", "J", false)
  | 36 => ("SpreadsheetEngineModel", "direct", "[J", true)
  | 37 => ("SpreadsheetEngineModel", "reach", "[J", true)
  | 38 => ("SpreadsheetEngineModel", "left", "I", false)
  | 39 => ("SpreadsheetEngineModel", "right", "I", false)
  | 40 => ("SpreadsheetEngineModel", "upmost", "I", false)
  | 41 => ("SpreadsheetEngineModel", "lowest", "I", false)
  | 42 => ("SpreadsheetEngineModel", "done", "[J", true)
  | 43 => ("SpreadsheetEngineModel", "cell", "I", false)
  | 44 => ("SpreadsheetEngineModel", "next", "I", false)
  | 45 => ("SpreadsheetEngineModel", "error", "I", false)
  | 46 => ("SpreadsheetEngineModel", "number", "J", false)
  | 47 => ("SpreadsheetEngineModel", "areaError", "I", false)
  | 48 => ("SpreadsheetEngineModel", "areaFirst", "I", false)
  | 49 => ("SpreadsheetEngineModel", "areaLast", "I", false)
  | 50 => ("SpreadsheetEngineModel", "byKind", "[I", true)
  | 51 => ("SpreadsheetEngineModel", "byValue", "[J", true)
  | 52 => ("SpreadsheetEngineModel", "byOldKind", "[I", true)
  | 53 => ("SpreadsheetEngineModel", "byOldValue", "[J", true)
  | 54 => ("SpreadsheetEngineModel", "byMarked", "[Z", true)
  | 55 => ("SpreadsheetEngineModel", "byCyclic", "[Z", true)
  | 56 => ("SpreadsheetEngineModel", "byEvaluated", "I", false)
  | 57 => ("SpreadsheetEngineModel", "nowKind", "[I", true)
  | 58 => ("SpreadsheetEngineModel", "nowValue", "[J", true)
  | 59 => ("SpreadsheetEngineModel", "sought", "I", false)
  | 60 => ("SpreadsheetEngineModel", "found", "I", false)
  | 61 => ("SpreadsheetEngineModel", "written0", "I", false)
  | 62 => ("SpreadsheetEngineModel", "far", "[I", true)
  | _ => ("SpreadsheetEngineModel", "levels", "[I", true)
def cty_2 : Nat → FieldType := fun k => match k with
  | 0 => .array (.int)
  | 1 => .array (.long)
  | 2 => .array (.int)
  | 3 => .array (.long)
  | 4 => .array (.int)
  | 5 => .array (.long)
  | 6 => .array (.int)
  | 7 => .array (.int)
  | 8 => .int
  | 9 => .array (.int)
  | 10 => .array (.long)
  | 11 => .array (.int)
  | 12 => .array (.long)
  | 13 => .array (.boolean)
  | 14 => .array (.boolean)
  | 15 => .boolean
  | 16 => .int
  | 17 => .array (.int)
  | 18 => .int
  | 19 => .int
  | 20 => .int
  | 21 => .int
  | 22 => .int
  | 23 => .int
  | 24 => .int
  | 25 => .int
  | 26 => .long
  | 27 => .array (.long)
  | 28 => .array (.object "java/lang/String")
  | 29 => .int
  | 30 => .int
  | 31 => .boolean
  | 32 => .int
  | 33 => .int
  | 34 => .int
  | 35 => .long
  | 36 => .array (.long)
  | 37 => .array (.long)
  | 38 => .int
  | 39 => .int
  | 40 => .int
  | 41 => .int
  | 42 => .array (.long)
  | 43 => .int
  | 44 => .int
  | 45 => .int
  | 46 => .long
  | 47 => .int
  | 48 => .int
  | 49 => .int
  | 50 => .array (.int)
  | 51 => .array (.long)
  | 52 => .array (.int)
  | 53 => .array (.long)
  | 54 => .array (.boolean)
  | 55 => .array (.boolean)
  | 56 => .int
  | 57 => .array (.int)
  | 58 => .array (.long)
  | 59 => .int
  | 60 => .int
  | 61 => .int
  | 62 => .array (.int)
  | _ => .array (.int)
def ctT_3 : u_T := fun k => match k with
  | _ => ("SpreadsheetEngine$SyntaxError", "position", "I", false)
def cty_3 : Nat → FieldType := fun k => match k with
  | _ => .int
def ctT_4 : u_T := fun k => match k with
  | _ => ("SpreadsheetEngine$Finder", "text", "Ljava/lang/String;", false)
def cty_4 : Nat → FieldType := fun k => match k with
  | _ => .object "java/lang/String"
def ctT_5 : u_T := fun k => match k with
  | 0 => ("SpreadsheetEngine$Sheet", "contents", "[LSpreadsheetEngine$Content;", true)
  | _ => ("SpreadsheetEngine$Sheet", "names", "LSpreadsheetEngine$Registry;", true)
def cty_5 : Nat → FieldType := fun k => match k with
  | 0 => .array (.object "SpreadsheetEngine$Content")
  | _ => .object "SpreadsheetEngine$Registry"
def ctT_6 : u_T := fun k => match k with
  | _ => ("SpreadsheetEngine$Registry", "all", "Ljava/util/List;", true)
def cty_6 : Nat → FieldType := fun k => match k with
  | _ => .object "java/util/List"
def ctT_7 : u_T := fun k => match k with
  | 0 => ("SpreadsheetEngine$Collector", "cells", "Ljava/util/BitSet;", false)
  | _ => ("SpreadsheetEngine$Collector", "this$0", "LSpreadsheetEngine;", true)
def cty_7 : Nat → FieldType := fun k => match k with
  | 0 => .object "java/util/BitSet"
  | _ => .object "SpreadsheetEngine"
def ctT_8 : u_T := fun k => match k with
  | 0 => ("SpreadsheetEngine$Evaluator", "result", "J", false)
  | 1 => ("SpreadsheetEngine$Evaluator", "first", "I", false)
  | 2 => ("SpreadsheetEngine$Evaluator", "last", "I", false)
  | 3 => ("SpreadsheetEngine$Evaluator", "sum", "J", false)
  | 4 => ("SpreadsheetEngine$Evaluator", "least", "J", false)
  | 5 => ("SpreadsheetEngine$Evaluator", "most", "J", false)
  | 6 => ("SpreadsheetEngine$Evaluator", "many", "I", false)
  | 7 => ("SpreadsheetEngine$Evaluator", "isBeyond", "Z", false)
  | _ => ("SpreadsheetEngine$Evaluator", "this$0", "LSpreadsheetEngine;", true)
def cty_8 : Nat → FieldType := fun k => match k with
  | 0 => .long
  | 1 => .int
  | 2 => .int
  | 3 => .long
  | 4 => .long
  | 5 => .long
  | 6 => .int
  | 7 => .boolean
  | _ => .object "SpreadsheetEngine"
def ctT_9 : u_T := fun k => match k with
  | 0 => ("SpreadsheetEngine$Content", "number", "J", true)
  | _ => ("SpreadsheetEngine$Content", "formula", "LSpreadsheetEngine$Node;", true)
def cty_9 : Nat → FieldType := fun k => match k with
  | 0 => .long
  | _ => .object "SpreadsheetEngine$Node"
def ctT_10 : u_T := fun k => match k with
  | 0 => ("SpreadsheetEngine$Parser", "at", "I", false)
  | 1 => ("SpreadsheetEngine$Parser", "depth", "I", false)
  | _ => ("SpreadsheetEngine$Parser", "this$0", "LSpreadsheetEngine;", true)
def cty_10 : Nat → FieldType := fun k => match k with
  | 0 => .int
  | 1 => .int
  | _ => .object "SpreadsheetEngine"
def ctT_11 : u_T := fun k => match k with
  | _ => ("SpreadsheetEngine$Literal", "value", "I", true)
def cty_11 : Nat → FieldType := fun k => match k with
  | _ => .int
def ctT_12 : u_T := fun k => match k with
  | _ => ("SpreadsheetEngine$Parentheses", "of", "LSpreadsheetEngine$Node;", true)
def cty_12 : Nat → FieldType := fun k => match k with
  | _ => .object "SpreadsheetEngine$Node"
def ctT_13 : u_T := fun k => match k with
  | _ => ("SpreadsheetEngine$Name", "text", "Ljava/lang/String;", true)
def cty_13 : Nat → FieldType := fun k => match k with
  | _ => .object "java/lang/String"
def ctT_14 : u_T := fun _ => ("", "", "", false)
def cty_14 : Nat → FieldType := fun _ => .int
def ctT_15 : u_T := fun k => match k with
  | 0 => ("SpreadsheetEngine$Reference", "column", "I", true)
  | 1 => ("SpreadsheetEngine$Reference", "row", "I", true)
  | 2 => ("SpreadsheetEngine$Reference", "isColumnFixed", "Z", true)
  | _ => ("SpreadsheetEngine$Reference", "isRowFixed", "Z", true)
def cty_15 : Nat → FieldType := fun k => match k with
  | 0 => .int
  | 1 => .int
  | 2 => .boolean
  | _ => .boolean
def ctT_16 : u_T := fun k => match k with
  | 0 => ("SpreadsheetEngine$Range", "first", "LSpreadsheetEngine$Reference;", true)
  | _ => ("SpreadsheetEngine$Range", "second", "LSpreadsheetEngine$Reference;", true)
def cty_16 : Nat → FieldType := fun k => match k with
  | 0 => .object "SpreadsheetEngine$Reference"
  | _ => .object "SpreadsheetEngine$Reference"
def ctT_17 : u_T := fun k => match k with
  | 0 => ("SpreadsheetEngine$Call", "function", "LSpreadsheetEngine$Function;", true)
  | _ => ("SpreadsheetEngine$Call", "arguments", "Ljava/util/List;", true)
def cty_17 : Nat → FieldType := fun k => match k with
  | 0 => .object "SpreadsheetEngine$Function"
  | _ => .object "java/util/List"
def ctT_18 : u_T := fun k => match k with
  | _ => ("SpreadsheetEngine$Negation", "of", "LSpreadsheetEngine$Node;", true)
def cty_18 : Nat → FieldType := fun k => match k with
  | _ => .object "SpreadsheetEngine$Node"
def ctT_19 : u_T := fun k => match k with
  | 0 => ("SpreadsheetEngine$Binary", "operator", "Ljava/lang/String;", true)
  | 1 => ("SpreadsheetEngine$Binary", "left", "LSpreadsheetEngine$Node;", true)
  | _ => ("SpreadsheetEngine$Binary", "right", "LSpreadsheetEngine$Node;", true)
def cty_19 : Nat → FieldType := fun k => match k with
  | 0 => .object "java/lang/String"
  | 1 => .object "SpreadsheetEngine$Node"
  | _ => .object "SpreadsheetEngine$Node"
def ctT_20 : u_T := fun k => match k with
  | _ => ("SpreadsheetEngine$Printer", "text", "Ljava/lang/StringBuilder;", true)
def cty_20 : Nat → FieldType := fun k => match k with
  | _ => .object "java/lang/StringBuilder"
def ctT_21 : u_T := fun k => match k with
  | 0 => ("SpreadsheetEngine$RowChange", "row", "I", true)
  | 1 => ("SpreadsheetEngine$RowChange", "isInserted", "Z", true)
  | 2 => ("SpreadsheetEngine$RowChange", "lost", "I", false)
  | 3 => ("SpreadsheetEngine$RowChange", "first", "I", false)
  | _ => ("SpreadsheetEngine$RowChange", "last", "I", false)
def cty_21 : Nat → FieldType := fun k => match k with
  | 0 => .int
  | 1 => .boolean
  | 2 => .int
  | 3 => .int
  | _ => .int
def ctT_22 : u_T := fun k => match k with
  | 0 => ("SpreadsheetEngine$Shifter", "columns", "I", true)
  | _ => ("SpreadsheetEngine$Shifter", "rows", "I", true)
def cty_22 : Nat → FieldType := fun k => match k with
  | 0 => .int
  | _ => .int
def ctT_23 : u_T := fun k => match k with
  | 0 => ("SpreadsheetEngine$RangeName", "text", "Ljava/lang/String;", true)
  | 1 => ("SpreadsheetEngine$RangeName", "first", "I", true)
  | _ => ("SpreadsheetEngine$RangeName", "last", "I", true)
def cty_23 : Nat → FieldType := fun k => match k with
  | 0 => .object "java/lang/String"
  | 1 => .int
  | _ => .int
def ctT_24 : u_T := fun k => match k with
  | 0 => ("SpreadsheetEngine$Renamer", "from", "Ljava/lang/String;", true)
  | 1 => ("SpreadsheetEngine$Renamer", "to", "Ljava/lang/String;", true)
  | _ => ("SpreadsheetEngine$Renamer", "many", "I", false)
def cty_24 : Nat → FieldType := fun k => match k with
  | 0 => .object "java/lang/String"
  | 1 => .object "java/lang/String"
  | _ => .int
def ctT_25 : u_T := fun k => match k with
  | 0 => ("java/util/AbstractList", "modCount", "I", false)
  | 1 => ("java/util/ArrayList", "elementData", "[Ljava/lang/Object;", false)
  | _ => ("java/util/ArrayList", "size", "I", false)
def cty_25 : Nat → FieldType := fun k => match k with
  | 0 => .int
  | 1 => .array (.object "java/lang/Object")
  | _ => .int
def ctT_26 : u_T := fun k => match k with
  | 0 => ("java/util/ArrayDeque", "elements", "[Ljava/lang/Object;", false)
  | 1 => ("java/util/ArrayDeque", "head", "I", false)
  | _ => ("java/util/ArrayDeque", "tail", "I", false)
def cty_26 : Nat → FieldType := fun k => match k with
  | 0 => .array (.object "java/lang/Object")
  | 1 => .int
  | _ => .int
def ctT_27 : u_T := fun k => match k with
  | 0 => ("java/util/BitSet", "words", "[J", false)
  | 1 => ("java/util/BitSet", "wordsInUse", "I", false)
  | _ => ("java/util/BitSet", "sizeIsSticky", "Z", false)
def cty_27 : Nat → FieldType := fun k => match k with
  | 0 => .array (.long)
  | 1 => .int
  | _ => .boolean
def ctT_28 : u_T := fun k => match k with
  | 0 => ("java/lang/AbstractStringBuilder", "value", "[B", false)
  | 1 => ("java/lang/AbstractStringBuilder", "coder", "B", false)
  | 2 => ("java/lang/AbstractStringBuilder", "maybeLatin1", "Z", false)
  | _ => ("java/lang/AbstractStringBuilder", "count", "I", false)
def cty_28 : Nat → FieldType := fun k => match k with
  | 0 => .array (.byte)
  | 1 => .byte
  | 2 => .boolean
  | _ => .int
def ctT_29 : u_T := fun k => match k with
  | 0 => ("java/lang/String", "value", "[B", true)
  | 1 => ("java/lang/String", "coder", "B", true)
  | 2 => ("java/lang/String", "hash", "I", false)
  | _ => ("java/lang/String", "hashIsZero", "Z", false)
def cty_29 : Nat → FieldType := fun k => match k with
  | 0 => .array (.byte)
  | 1 => .byte
  | 2 => .int
  | _ => .boolean
def ctT_30 : u_T := fun k => match k with
  | _ => ("java/lang/Integer", "value", "I", true)
def cty_30 : Nat → FieldType := fun k => match k with
  | _ => .int
def ctT_31 : u_T := fun k => match k with
  | 0 => ("java/util/ArrayList$Itr", "cursor", "I", false)
  | 1 => ("java/util/ArrayList$Itr", "lastRet", "I", false)
  | 2 => ("java/util/ArrayList$Itr", "expectedModCount", "I", false)
  | _ => ("java/util/ArrayList$Itr", "this$0", "Ljava/util/ArrayList;", true)
def cty_31 : Nat → FieldType := fun k => match k with
  | 0 => .int
  | 1 => .int
  | 2 => .int
  | _ => .object "java/util/ArrayList"
def ctT_60 : u_T := fun k => match k with
  | 0 => ("java/lang/Enum", "name", "Ljava/lang/String;", true)
  | _ => ("java/lang/Enum", "ordinal", "I", true)
def cty_60 : Nat → FieldType := fun k => match k with
  | 0 => .object "java/lang/String"
  | _ => .int
def ctT_61 : u_T := fun k => match k with
  | _ => ("java/lang/Boolean", "value", "Z", true)
def cty_61 : Nat → FieldType := fun k => match k with
  | _ => .boolean
def ctT_62 : u_T := fun _ => ("", "", "", false)
def cty_62 : Nat → FieldType := fun _ => .int
def ct_cl : List vw_C := [("SpreadsheetEngine$Broken", ctT_14, 0), ("SpreadsheetEngine", ctT_1, 28), ("SpreadsheetEngineModel", ctT_2, 64), ("SpreadsheetEngine$SyntaxError", ctT_3, 1), ("SpreadsheetEngine$Finder", ctT_4, 1), ("SpreadsheetEngine$Sheet", ctT_5, 2), ("SpreadsheetEngine$Registry", ctT_6, 1), ("SpreadsheetEngine$Collector", ctT_7, 2), ("SpreadsheetEngine$Evaluator", ctT_8, 9), ("SpreadsheetEngine$Content", ctT_9, 2), ("SpreadsheetEngine$Parser", ctT_10, 3), ("SpreadsheetEngine$Literal", ctT_11, 1), ("SpreadsheetEngine$Parentheses", ctT_12, 1), ("SpreadsheetEngine$Name", ctT_13, 1), ("SpreadsheetEngine$Broken", ctT_14, 0), ("SpreadsheetEngine$Reference", ctT_15, 4), ("SpreadsheetEngine$Range", ctT_16, 2), ("SpreadsheetEngine$Call", ctT_17, 2), ("SpreadsheetEngine$Negation", ctT_18, 1), ("SpreadsheetEngine$Binary", ctT_19, 3), ("SpreadsheetEngine$Printer", ctT_20, 1), ("SpreadsheetEngine$RowChange", ctT_21, 5), ("SpreadsheetEngine$Shifter", ctT_22, 2), ("SpreadsheetEngine$RangeName", ctT_23, 3), ("SpreadsheetEngine$Renamer", ctT_24, 3), ("java/util/ArrayList", ctT_25, 3), ("java/util/ArrayDeque", ctT_26, 3), ("java/util/BitSet", ctT_27, 3), ("java/lang/StringBuilder", ctT_28, 4), ("java/lang/String", ctT_29, 4), ("java/lang/Integer", ctT_30, 1), ("java/util/ArrayList$Itr", ctT_31, 4), ("SpreadsheetEngine$Broken", ctT_14, 0), ("SpreadsheetEngine$Broken", ctT_14, 0), ("SpreadsheetEngine$Broken", ctT_14, 0), ("SpreadsheetEngine$Broken", ctT_14, 0), ("SpreadsheetEngine$Broken", ctT_14, 0), ("SpreadsheetEngine$Broken", ctT_14, 0), ("SpreadsheetEngine$Broken", ctT_14, 0), ("SpreadsheetEngine$Broken", ctT_14, 0), ("SpreadsheetEngine$Broken", ctT_14, 0), ("SpreadsheetEngine$Broken", ctT_14, 0), ("SpreadsheetEngine$Broken", ctT_14, 0), ("SpreadsheetEngine$Broken", ctT_14, 0), ("SpreadsheetEngine$Broken", ctT_14, 0), ("SpreadsheetEngine$Broken", ctT_14, 0), ("SpreadsheetEngine$Broken", ctT_14, 0), ("SpreadsheetEngine$Broken", ctT_14, 0), ("SpreadsheetEngine$Broken", ctT_14, 0), ("SpreadsheetEngine$Broken", ctT_14, 0), ("SpreadsheetEngine$Broken", ctT_14, 0), ("SpreadsheetEngine$Broken", ctT_14, 0), ("SpreadsheetEngine$Broken", ctT_14, 0), ("SpreadsheetEngine$Broken", ctT_14, 0), ("SpreadsheetEngine$Broken", ctT_14, 0), ("SpreadsheetEngine$Broken", ctT_14, 0), ("SpreadsheetEngine$Broken", ctT_14, 0), ("SpreadsheetEngine$Broken", ctT_14, 0), ("SpreadsheetEngine$Broken", ctT_14, 0), ("SpreadsheetEngine$Broken", ctT_14, 0), ("SpreadsheetEngine$Function", ctT_60, 2), ("java/lang/Boolean", ctT_61, 1), ("java/lang/System$2", ctT_62, 0)]
def ct_tl : List (Nat → FieldType) := [cty_14, cty_1, cty_2, cty_3, cty_4, cty_5, cty_6, cty_7, cty_8, cty_9, cty_10, cty_11, cty_12, cty_13, cty_14, cty_15, cty_16, cty_17, cty_18, cty_19, cty_20, cty_21, cty_22, cty_23, cty_24, cty_25, cty_26, cty_27, cty_28, cty_29, cty_30, cty_31, cty_14, cty_14, cty_14, cty_14, cty_14, cty_14, cty_14, cty_14, cty_14, cty_14, cty_14, cty_14, cty_14, cty_14, cty_14, cty_14, cty_14, cty_14, cty_14, cty_14, cty_14, cty_14, cty_14, cty_14, cty_14, cty_14, cty_14, cty_14, cty_60, cty_61, cty_62]
def ct_ty (t k : Nat) : FieldType := (ct_tl.getD t (fun _ => .int)) k
theorem ctw_1 : ∀ w ∈ u_ws "SpreadsheetEngine" ctT_1 28, w ∈ lw_all := lw_in _ [514, 516, 518, 520, 522, 524, 526, 528, 530, 532, 534, 536, 538, 540, 542, 544, 546, 548, 550, 552, 554, 556, 558, 560, 562, 564, 566, 568] (by decide +kernel) (by decide +kernel)
theorem ctn_1 : ∀ a, a < 28 → ∀ b, b < 28 → a ≠ b → (ctT_1 a).2.1 ≠ (ctT_1 b).2.1 := by decide +kernel
theorem ctp_1 : ∀ k, k < 28 → parseFieldDescriptor (ctT_1 k).2.2.1 = some (cty_1 k) ∧ cm_kd (cty_1 k) ≤ 5 := by decide +kernel
theorem ctw_2 : ∀ w ∈ u_ws "SpreadsheetEngineModel" ctT_2 64, w ∈ lw_all := lw_in _ [3088, 3090, 3092, 3094, 3096, 3098, 3100, 3102, 3104, 3106, 3108, 3110, 3112, 3114, 3116, 3118, 3120, 3122, 3124, 3126, 3128, 3130, 3132, 3134, 3136, 3138, 3140, 3142, 3144, 3146, 3148, 3150, 3152, 3154, 3156, 3158, 3160, 3162, 3164, 3166, 3168, 3170, 3172, 3174, 3176, 3178, 3180, 3182, 3184, 3186, 3188, 3190, 3192, 3194, 3196, 3198, 3200, 3202, 3204, 3206, 3208, 3210, 3212, 3214] (by decide +kernel) (by decide +kernel)
theorem ctn_2 : ∀ a, a < 64 → ∀ b, b < 64 → a ≠ b → (ctT_2 a).2.1 ≠ (ctT_2 b).2.1 := by decide +kernel
theorem ctp_2 : ∀ k, k < 64 → parseFieldDescriptor (ctT_2 k).2.2.1 = some (cty_2 k) ∧ cm_kd (cty_2 k) ≤ 5 := by decide +kernel
theorem ctw_3 : ∀ w ∈ u_ws "SpreadsheetEngine$SyntaxError" ctT_3 1, w ∈ lw_all := lw_in _ [301] (by decide +kernel) (by decide +kernel)
theorem ctn_3 : ∀ a, a < 1 → ∀ b, b < 1 → a ≠ b → (ctT_3 a).2.1 ≠ (ctT_3 b).2.1 := by decide +kernel
theorem ctp_3 : ∀ k, k < 1 → parseFieldDescriptor (ctT_3 k).2.2.1 = some (cty_3 k) ∧ cm_kd (cty_3 k) ≤ 5 := by decide +kernel
theorem ctw_4 : ∀ w ∈ u_ws "SpreadsheetEngine$Finder" ctT_4 1, w ∈ lw_all := lw_in _ [319] (by decide +kernel) (by decide +kernel)
theorem ctn_4 : ∀ a, a < 1 → ∀ b, b < 1 → a ≠ b → (ctT_4 a).2.1 ≠ (ctT_4 b).2.1 := by decide +kernel
theorem ctp_4 : ∀ k, k < 1 → parseFieldDescriptor (ctT_4 k).2.2.1 = some (cty_4 k) ∧ cm_kd (cty_4 k) ≤ 5 := by decide +kernel
theorem ctw_5 : ∀ w ∈ u_ws "SpreadsheetEngine$Sheet" ctT_5 2, w ∈ lw_all := lw_in _ [379, 381] (by decide +kernel) (by decide +kernel)
theorem ctn_5 : ∀ a, a < 2 → ∀ b, b < 2 → a ≠ b → (ctT_5 a).2.1 ≠ (ctT_5 b).2.1 := by decide +kernel
theorem ctp_5 : ∀ k, k < 2 → parseFieldDescriptor (ctT_5 k).2.2.1 = some (cty_5 k) ∧ cm_kd (cty_5 k) ≤ 5 := by decide +kernel
theorem ctw_6 : ∀ w ∈ u_ws "SpreadsheetEngine$Registry" ctT_6 1, w ∈ lw_all := lw_in _ [370] (by decide +kernel) (by decide +kernel)
theorem ctn_6 : ∀ a, a < 1 → ∀ b, b < 1 → a ≠ b → (ctT_6 a).2.1 ≠ (ctT_6 b).2.1 := by decide +kernel
theorem ctp_6 : ∀ k, k < 1 → parseFieldDescriptor (ctT_6 k).2.2.1 = some (cty_6 k) ∧ cm_kd (cty_6 k) ≤ 5 := by decide +kernel
theorem ctw_7 : ∀ w ∈ u_ws "SpreadsheetEngine$Collector" ctT_7 2, w ∈ lw_all := lw_in _ [436, 438] (by decide +kernel) (by decide +kernel)
theorem ctn_7 : ∀ a, a < 2 → ∀ b, b < 2 → a ≠ b → (ctT_7 a).2.1 ≠ (ctT_7 b).2.1 := by decide +kernel
theorem ctp_7 : ∀ k, k < 2 → parseFieldDescriptor (ctT_7 k).2.2.1 = some (cty_7 k) ∧ cm_kd (cty_7 k) ≤ 5 := by decide +kernel
theorem ctw_8 : ∀ w ∈ u_ws "SpreadsheetEngine$Evaluator" ctT_8 9, w ∈ lw_all := lw_in _ [460, 462, 464, 466, 468, 470, 472, 474, 476] (by decide +kernel) (by decide +kernel)
theorem ctn_8 : ∀ a, a < 9 → ∀ b, b < 9 → a ≠ b → (ctT_8 a).2.1 ≠ (ctT_8 b).2.1 := by decide +kernel
theorem ctp_8 : ∀ k, k < 9 → parseFieldDescriptor (ctT_8 k).2.2.1 = some (cty_8 k) ∧ cm_kd (cty_8 k) ≤ 5 := by decide +kernel
theorem ctw_9 : ∀ w ∈ u_ws "SpreadsheetEngine$Content" ctT_9 2, w ∈ lw_all := lw_in _ [1291, 1293] (by decide +kernel) (by decide +kernel)
theorem ctn_9 : ∀ a, a < 2 → ∀ b, b < 2 → a ≠ b → (ctT_9 a).2.1 ≠ (ctT_9 b).2.1 := by decide +kernel
theorem ctp_9 : ∀ k, k < 2 → parseFieldDescriptor (ctT_9 k).2.2.1 = some (cty_9 k) ∧ cm_kd (cty_9 k) ≤ 5 := by decide +kernel
theorem ctw_10 : ∀ w ∈ u_ws "SpreadsheetEngine$Parser" ctT_10 3, w ∈ lw_all := lw_in _ [604, 606, 608] (by decide +kernel) (by decide +kernel)
theorem ctn_10 : ∀ a, a < 3 → ∀ b, b < 3 → a ≠ b → (ctT_10 a).2.1 ≠ (ctT_10 b).2.1 := by decide +kernel
theorem ctp_10 : ∀ k, k < 3 → parseFieldDescriptor (ctT_10 k).2.2.1 = some (cty_10 k) ∧ cm_kd (cty_10 k) ≤ 5 := by decide +kernel
theorem ctw_11 : ∀ w ∈ u_ws "SpreadsheetEngine$Literal" ctT_11 1, w ∈ lw_all := lw_in _ [666] (by decide +kernel) (by decide +kernel)
theorem ctn_11 : ∀ a, a < 1 → ∀ b, b < 1 → a ≠ b → (ctT_11 a).2.1 ≠ (ctT_11 b).2.1 := by decide +kernel
theorem ctp_11 : ∀ k, k < 1 → parseFieldDescriptor (ctT_11 k).2.2.1 = some (cty_11 k) ∧ cm_kd (cty_11 k) ≤ 5 := by decide +kernel
theorem ctw_12 : ∀ w ∈ u_ws "SpreadsheetEngine$Parentheses" ctT_12 1, w ∈ lw_all := lw_in _ [689] (by decide +kernel) (by decide +kernel)
theorem ctn_12 : ∀ a, a < 1 → ∀ b, b < 1 → a ≠ b → (ctT_12 a).2.1 ≠ (ctT_12 b).2.1 := by decide +kernel
theorem ctp_12 : ∀ k, k < 1 → parseFieldDescriptor (ctT_12 k).2.2.1 = some (cty_12 k) ∧ cm_kd (cty_12 k) ≤ 5 := by decide +kernel
theorem ctw_13 : ∀ w ∈ u_ws "SpreadsheetEngine$Name" ctT_13 1, w ∈ lw_all := lw_in _ [987] (by decide +kernel) (by decide +kernel)
theorem ctn_13 : ∀ a, a < 1 → ∀ b, b < 1 → a ≠ b → (ctT_13 a).2.1 ≠ (ctT_13 b).2.1 := by decide +kernel
theorem ctp_13 : ∀ k, k < 1 → parseFieldDescriptor (ctT_13 k).2.2.1 = some (cty_13 k) ∧ cm_kd (cty_13 k) ≤ 5 := by decide +kernel
theorem ctw_14 : ∀ w ∈ u_ws "SpreadsheetEngine$Broken" ctT_14 0, w ∈ lw_all := fun w h => by cases h
theorem ctn_14 : ∀ a, a < 0 → ∀ b, b < 0 → a ≠ b → (ctT_14 a).2.1 ≠ (ctT_14 b).2.1 := by decide +kernel
theorem ctp_14 : ∀ k, k < 0 → parseFieldDescriptor (ctT_14 k).2.2.1 = some (cty_14 k) ∧ cm_kd (cty_14 k) ≤ 5 := by decide +kernel
theorem ctw_15 : ∀ w ∈ u_ws "SpreadsheetEngine$Reference" ctT_15 4, w ∈ lw_all := lw_in _ [1030, 1032, 1034, 1036] (by decide +kernel) (by decide +kernel)
theorem ctn_15 : ∀ a, a < 4 → ∀ b, b < 4 → a ≠ b → (ctT_15 a).2.1 ≠ (ctT_15 b).2.1 := by decide +kernel
theorem ctp_15 : ∀ k, k < 4 → parseFieldDescriptor (ctT_15 k).2.2.1 = some (cty_15 k) ∧ cm_kd (cty_15 k) ≤ 5 := by decide +kernel
theorem ctw_16 : ∀ w ∈ u_ws "SpreadsheetEngine$Range" ctT_16 2, w ∈ lw_all := lw_in _ [1059, 1061] (by decide +kernel) (by decide +kernel)
theorem ctn_16 : ∀ a, a < 2 → ∀ b, b < 2 → a ≠ b → (ctT_16 a).2.1 ≠ (ctT_16 b).2.1 := by decide +kernel
theorem ctp_16 : ∀ k, k < 2 → parseFieldDescriptor (ctT_16 k).2.2.1 = some (cty_16 k) ∧ cm_kd (cty_16 k) ≤ 5 := by decide +kernel
theorem ctw_17 : ∀ w ∈ u_ws "SpreadsheetEngine$Call" ctT_17 2, w ∈ lw_all := lw_in _ [1178, 1180] (by decide +kernel) (by decide +kernel)
theorem ctn_17 : ∀ a, a < 2 → ∀ b, b < 2 → a ≠ b → (ctT_17 a).2.1 ≠ (ctT_17 b).2.1 := by decide +kernel
theorem ctp_17 : ∀ k, k < 2 → parseFieldDescriptor (ctT_17 k).2.2.1 = some (cty_17 k) ∧ cm_kd (cty_17 k) ≤ 5 := by decide +kernel
theorem ctw_18 : ∀ w ∈ u_ws "SpreadsheetEngine$Negation" ctT_18 1, w ∈ lw_all := lw_in _ [1195] (by decide +kernel) (by decide +kernel)
theorem ctn_18 : ∀ a, a < 1 → ∀ b, b < 1 → a ≠ b → (ctT_18 a).2.1 ≠ (ctT_18 b).2.1 := by decide +kernel
theorem ctp_18 : ∀ k, k < 1 → parseFieldDescriptor (ctT_18 k).2.2.1 = some (cty_18 k) ∧ cm_kd (cty_18 k) ≤ 5 := by decide +kernel
theorem ctw_19 : ∀ w ∈ u_ws "SpreadsheetEngine$Binary" ctT_19 3, w ∈ lw_all := lw_in _ [1223, 1225, 1227] (by decide +kernel) (by decide +kernel)
theorem ctn_19 : ∀ a, a < 3 → ∀ b, b < 3 → a ≠ b → (ctT_19 a).2.1 ≠ (ctT_19 b).2.1 := by decide +kernel
theorem ctp_19 : ∀ k, k < 3 → parseFieldDescriptor (ctT_19 k).2.2.1 = some (cty_19 k) ∧ cm_kd (cty_19 k) ≤ 5 := by decide +kernel
theorem ctw_20 : ∀ w ∈ u_ws "SpreadsheetEngine$Printer" ctT_20 1, w ∈ lw_all := lw_in _ [2599] (by decide +kernel) (by decide +kernel)
theorem ctn_20 : ∀ a, a < 1 → ∀ b, b < 1 → a ≠ b → (ctT_20 a).2.1 ≠ (ctT_20 b).2.1 := by decide +kernel
theorem ctp_20 : ∀ k, k < 1 → parseFieldDescriptor (ctT_20 k).2.2.1 = some (cty_20 k) ∧ cm_kd (cty_20 k) ≤ 5 := by decide +kernel
theorem ctw_21 : ∀ w ∈ u_ws "SpreadsheetEngine$RowChange" ctT_21 5, w ∈ lw_all := lw_in _ [2688, 2690, 2692, 2694, 2696] (by decide +kernel) (by decide +kernel)
theorem ctn_21 : ∀ a, a < 5 → ∀ b, b < 5 → a ≠ b → (ctT_21 a).2.1 ≠ (ctT_21 b).2.1 := by decide +kernel
theorem ctp_21 : ∀ k, k < 5 → parseFieldDescriptor (ctT_21 k).2.2.1 = some (cty_21 k) ∧ cm_kd (cty_21 k) ≤ 5 := by decide +kernel
theorem ctw_22 : ∀ w ∈ u_ws "SpreadsheetEngine$Shifter" ctT_22 2, w ∈ lw_all := lw_in _ [2653, 2655] (by decide +kernel) (by decide +kernel)
theorem ctn_22 : ∀ a, a < 2 → ∀ b, b < 2 → a ≠ b → (ctT_22 a).2.1 ≠ (ctT_22 b).2.1 := by decide +kernel
theorem ctp_22 : ∀ k, k < 2 → parseFieldDescriptor (ctT_22 k).2.2.1 = some (cty_22 k) ∧ cm_kd (cty_22 k) ≤ 5 := by decide +kernel
theorem ctw_23 : ∀ w ∈ u_ws "SpreadsheetEngine$RangeName" ctT_23 3, w ∈ lw_all := lw_in _ [2722, 2724, 2726] (by decide +kernel) (by decide +kernel)
theorem ctn_23 : ∀ a, a < 3 → ∀ b, b < 3 → a ≠ b → (ctT_23 a).2.1 ≠ (ctT_23 b).2.1 := by decide +kernel
theorem ctp_23 : ∀ k, k < 3 → parseFieldDescriptor (ctT_23 k).2.2.1 = some (cty_23 k) ∧ cm_kd (cty_23 k) ≤ 5 := by decide +kernel
theorem ctw_24 : ∀ w ∈ u_ws "SpreadsheetEngine$Renamer" ctT_24 3, w ∈ lw_all := lw_in _ [2841, 2843, 2845] (by decide +kernel) (by decide +kernel)
theorem ctn_24 : ∀ a, a < 3 → ∀ b, b < 3 → a ≠ b → (ctT_24 a).2.1 ≠ (ctT_24 b).2.1 := by decide +kernel
theorem ctp_24 : ∀ k, k < 3 → parseFieldDescriptor (ctT_24 k).2.2.1 = some (cty_24 k) ∧ cm_kd (cty_24 k) ≤ 5 := by decide +kernel
theorem ctw_25 : ∀ w ∈ u_ws "java/util/ArrayList" ctT_25 3, w ∈ lw_all := lw_in _ [365, 361, 363] (by decide +kernel) (by decide +kernel)
theorem ctn_25 : ∀ a, a < 3 → ∀ b, b < 3 → a ≠ b → (ctT_25 a).2.1 ≠ (ctT_25 b).2.1 := by decide +kernel
theorem ctp_25 : ∀ k, k < 3 → parseFieldDescriptor (ctT_25 k).2.2.1 = some (cty_25 k) ∧ cm_kd (cty_25 k) ≤ 5 := by decide +kernel
theorem ctw_26 : ∀ w ∈ u_ws "java/util/ArrayDeque" ctT_26 3, w ∈ lw_all := lw_in _ [394, 396, 398] (by decide +kernel) (by decide +kernel)
theorem ctn_26 : ∀ a, a < 3 → ∀ b, b < 3 → a ≠ b → (ctT_26 a).2.1 ≠ (ctT_26 b).2.1 := by decide +kernel
theorem ctp_26 : ∀ k, k < 3 → parseFieldDescriptor (ctT_26 k).2.2.1 = some (cty_26 k) ∧ cm_kd (cty_26 k) ≤ 5 := by decide +kernel
theorem ctw_27 : ∀ w ∈ u_ws "java/util/BitSet" ctT_27 3, w ∈ lw_all := lw_in _ [417, 419, 421] (by decide +kernel) (by decide +kernel)
theorem ctn_27 : ∀ a, a < 3 → ∀ b, b < 3 → a ≠ b → (ctT_27 a).2.1 ≠ (ctT_27 b).2.1 := by decide +kernel
theorem ctp_27 : ∀ k, k < 3 → parseFieldDescriptor (ctT_27 k).2.2.1 = some (cty_27 k) ∧ cm_kd (cty_27 k) ≤ 5 := by decide +kernel
theorem ctw_28 : ∀ w ∈ u_ws "java/lang/StringBuilder" ctT_28 4, w ∈ lw_all := lw_in _ [834, 836, 838, 840] (by decide +kernel) (by decide +kernel)
theorem ctn_28 : ∀ a, a < 4 → ∀ b, b < 4 → a ≠ b → (ctT_28 a).2.1 ≠ (ctT_28 b).2.1 := by decide +kernel
theorem ctp_28 : ∀ k, k < 4 → parseFieldDescriptor (ctT_28 k).2.2.1 = some (cty_28 k) ∧ cm_kd (cty_28 k) ≤ 5 := by decide +kernel
theorem ctw_29 : ∀ w ∈ u_ws "java/lang/String" ctT_29 4, w ∈ lw_all := lw_in _ [968, 970, 972, 974] (by decide +kernel) (by decide +kernel)
theorem ctn_29 : ∀ a, a < 4 → ∀ b, b < 4 → a ≠ b → (ctT_29 a).2.1 ≠ (ctT_29 b).2.1 := by decide +kernel
theorem ctp_29 : ∀ k, k < 4 → parseFieldDescriptor (ctT_29 k).2.2.1 = some (cty_29 k) ∧ cm_kd (cty_29 k) ≤ 5 := by decide +kernel
theorem ctw_30 : ∀ w ∈ u_ws "java/lang/Integer" ctT_30 1, w ∈ lw_all := lw_in _ [1538] (by decide +kernel) (by decide +kernel)
theorem ctn_30 : ∀ a, a < 1 → ∀ b, b < 1 → a ≠ b → (ctT_30 a).2.1 ≠ (ctT_30 b).2.1 := by decide +kernel
theorem ctp_30 : ∀ k, k < 1 → parseFieldDescriptor (ctT_30 k).2.2.1 = some (cty_30 k) ∧ cm_kd (cty_30 k) ≤ 5 := by decide +kernel
theorem ctw_31 : ∀ w ∈ u_ws "java/util/ArrayList$Itr" ctT_31 4, w ∈ lw_all := lw_in _ [1623, 1625, 1627, 1629] (by decide +kernel) (by decide +kernel)
theorem ctn_31 : ∀ a, a < 4 → ∀ b, b < 4 → a ≠ b → (ctT_31 a).2.1 ≠ (ctT_31 b).2.1 := by decide +kernel
theorem ctp_31 : ∀ k, k < 4 → parseFieldDescriptor (ctT_31 k).2.2.1 = some (cty_31 k) ∧ cm_kd (cty_31 k) ≤ 5 := by decide +kernel
theorem ctp_60 : ∀ k, k < 2 → parseFieldDescriptor (ctT_60 k).2.2.1 = some (cty_60 k) ∧ cm_kd (cty_60 k) ≤ 5 := by decide +kernel
theorem ctp_61 : ∀ k, k < 1 → parseFieldDescriptor (ctT_61 k).2.2.1 = some (cty_61 k) ∧ cm_kd (cty_61 k) ≤ 5 := by decide +kernel
theorem ctp_62 : ∀ k, k < 0 → parseFieldDescriptor (ctT_62 k).2.2.1 = some (cty_62 k) ∧ cm_kd (cty_62 k) ≤ 5 := by decide +kernel
theorem ct_ok {G : cm_G} (h1 : cg_cl G = ct_cl) (h2 : cg_ty G = ct_ty) : cm_clok G := by
  intro t r hr
  rw [h1] at hr
  rw [h2]
  match t, hr with
  | 0, hr => cases hr; exact ⟨by decide, fun _ => ctw_14, ctp_14, fun _ => ctn_14⟩
  | 1, hr => cases hr; exact ⟨by decide, fun _ => ctw_1, ctp_1, fun _ => ctn_1⟩
  | 2, hr => cases hr; exact ⟨by decide, fun _ => ctw_2, ctp_2, fun _ => ctn_2⟩
  | 3, hr => cases hr; exact ⟨by decide, fun _ => ctw_3, ctp_3, fun _ => ctn_3⟩
  | 4, hr => cases hr; exact ⟨by decide, fun _ => ctw_4, ctp_4, fun _ => ctn_4⟩
  | 5, hr => cases hr; exact ⟨by decide, fun _ => ctw_5, ctp_5, fun _ => ctn_5⟩
  | 6, hr => cases hr; exact ⟨by decide, fun _ => ctw_6, ctp_6, fun _ => ctn_6⟩
  | 7, hr => cases hr; exact ⟨by decide, fun _ => ctw_7, ctp_7, fun _ => ctn_7⟩
  | 8, hr => cases hr; exact ⟨by decide, fun _ => ctw_8, ctp_8, fun _ => ctn_8⟩
  | 9, hr => cases hr; exact ⟨by decide, fun _ => ctw_9, ctp_9, fun _ => ctn_9⟩
  | 10, hr => cases hr; exact ⟨by decide, fun _ => ctw_10, ctp_10, fun _ => ctn_10⟩
  | 11, hr => cases hr; exact ⟨by decide, fun _ => ctw_11, ctp_11, fun _ => ctn_11⟩
  | 12, hr => cases hr; exact ⟨by decide, fun _ => ctw_12, ctp_12, fun _ => ctn_12⟩
  | 13, hr => cases hr; exact ⟨by decide, fun _ => ctw_13, ctp_13, fun _ => ctn_13⟩
  | 14, hr => cases hr; exact ⟨by decide, fun _ => ctw_14, ctp_14, fun _ => ctn_14⟩
  | 15, hr => cases hr; exact ⟨by decide, fun _ => ctw_15, ctp_15, fun _ => ctn_15⟩
  | 16, hr => cases hr; exact ⟨by decide, fun _ => ctw_16, ctp_16, fun _ => ctn_16⟩
  | 17, hr => cases hr; exact ⟨by decide, fun _ => ctw_17, ctp_17, fun _ => ctn_17⟩
  | 18, hr => cases hr; exact ⟨by decide, fun _ => ctw_18, ctp_18, fun _ => ctn_18⟩
  | 19, hr => cases hr; exact ⟨by decide, fun _ => ctw_19, ctp_19, fun _ => ctn_19⟩
  | 20, hr => cases hr; exact ⟨by decide, fun _ => ctw_20, ctp_20, fun _ => ctn_20⟩
  | 21, hr => cases hr; exact ⟨by decide, fun _ => ctw_21, ctp_21, fun _ => ctn_21⟩
  | 22, hr => cases hr; exact ⟨by decide, fun _ => ctw_22, ctp_22, fun _ => ctn_22⟩
  | 23, hr => cases hr; exact ⟨by decide, fun _ => ctw_23, ctp_23, fun _ => ctn_23⟩
  | 24, hr => cases hr; exact ⟨by decide, fun _ => ctw_24, ctp_24, fun _ => ctn_24⟩
  | 25, hr => cases hr; exact ⟨by decide, fun _ => ctw_25, ctp_25, fun _ => ctn_25⟩
  | 26, hr => cases hr; exact ⟨by decide, fun _ => ctw_26, ctp_26, fun _ => ctn_26⟩
  | 27, hr => cases hr; exact ⟨by decide, fun _ => ctw_27, ctp_27, fun _ => ctn_27⟩
  | 28, hr => cases hr; exact ⟨by decide, fun _ => ctw_28, ctp_28, fun _ => ctn_28⟩
  | 29, hr => cases hr; exact ⟨by decide, fun _ => ctw_29, ctp_29, fun _ => ctn_29⟩
  | 30, hr => cases hr; exact ⟨by decide, fun _ => ctw_30, ctp_30, fun _ => ctn_30⟩
  | 31, hr => cases hr; exact ⟨by decide, fun _ => ctw_31, ctp_31, fun _ => ctn_31⟩
  | 32, hr => cases hr; exact ⟨by decide, fun _ => ctw_14, ctp_14, fun _ => ctn_14⟩
  | 33, hr => cases hr; exact ⟨by decide, fun _ => ctw_14, ctp_14, fun _ => ctn_14⟩
  | 34, hr => cases hr; exact ⟨by decide, fun _ => ctw_14, ctp_14, fun _ => ctn_14⟩
  | 35, hr => cases hr; exact ⟨by decide, fun _ => ctw_14, ctp_14, fun _ => ctn_14⟩
  | 36, hr => cases hr; exact ⟨by decide, fun _ => ctw_14, ctp_14, fun _ => ctn_14⟩
  | 37, hr => cases hr; exact ⟨by decide, fun _ => ctw_14, ctp_14, fun _ => ctn_14⟩
  | 38, hr => cases hr; exact ⟨by decide, fun _ => ctw_14, ctp_14, fun _ => ctn_14⟩
  | 39, hr => cases hr; exact ⟨by decide, fun _ => ctw_14, ctp_14, fun _ => ctn_14⟩
  | 40, hr => cases hr; exact ⟨by decide, fun _ => ctw_14, ctp_14, fun _ => ctn_14⟩
  | 41, hr => cases hr; exact ⟨by decide, fun _ => ctw_14, ctp_14, fun _ => ctn_14⟩
  | 42, hr => cases hr; exact ⟨by decide, fun _ => ctw_14, ctp_14, fun _ => ctn_14⟩
  | 43, hr => cases hr; exact ⟨by decide, fun _ => ctw_14, ctp_14, fun _ => ctn_14⟩
  | 44, hr => cases hr; exact ⟨by decide, fun _ => ctw_14, ctp_14, fun _ => ctn_14⟩
  | 45, hr => cases hr; exact ⟨by decide, fun _ => ctw_14, ctp_14, fun _ => ctn_14⟩
  | 46, hr => cases hr; exact ⟨by decide, fun _ => ctw_14, ctp_14, fun _ => ctn_14⟩
  | 47, hr => cases hr; exact ⟨by decide, fun _ => ctw_14, ctp_14, fun _ => ctn_14⟩
  | 48, hr => cases hr; exact ⟨by decide, fun _ => ctw_14, ctp_14, fun _ => ctn_14⟩
  | 49, hr => cases hr; exact ⟨by decide, fun _ => ctw_14, ctp_14, fun _ => ctn_14⟩
  | 50, hr => cases hr; exact ⟨by decide, fun _ => ctw_14, ctp_14, fun _ => ctn_14⟩
  | 51, hr => cases hr; exact ⟨by decide, fun _ => ctw_14, ctp_14, fun _ => ctn_14⟩
  | 52, hr => cases hr; exact ⟨by decide, fun _ => ctw_14, ctp_14, fun _ => ctn_14⟩
  | 53, hr => cases hr; exact ⟨by decide, fun _ => ctw_14, ctp_14, fun _ => ctn_14⟩
  | 54, hr => cases hr; exact ⟨by decide, fun _ => ctw_14, ctp_14, fun _ => ctn_14⟩
  | 55, hr => cases hr; exact ⟨by decide, fun _ => ctw_14, ctp_14, fun _ => ctn_14⟩
  | 56, hr => cases hr; exact ⟨by decide, fun _ => ctw_14, ctp_14, fun _ => ctn_14⟩
  | 57, hr => cases hr; exact ⟨by decide, fun _ => ctw_14, ctp_14, fun _ => ctn_14⟩
  | 58, hr => cases hr; exact ⟨by decide, fun _ => ctw_14, ctp_14, fun _ => ctn_14⟩
  | 59, hr => cases hr; exact ⟨by decide, fun _ => ctw_14, ctp_14, fun _ => ctn_14⟩
  | 60, hr => cases hr; exact ⟨by decide, fun h => absurd h (by decide), ctp_60, fun h => absurd h (by decide)⟩
  | 61, hr => cases hr; exact ⟨by decide, fun h => absurd h (by decide), ctp_61, fun h => absurd h (by decide)⟩
  | 62, hr => cases hr; exact ⟨by decide, fun h => absurd h (by decide), ctp_62, fun h => absurd h (by decide)⟩
  | n + 63, hr => exact absurd hr (by simp [ct_cl])
