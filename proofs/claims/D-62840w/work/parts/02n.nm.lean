/-! names, links and their checks: printed by gen/gen06.py -/
def CNL : List String := ["InterchangeDesk", "InterchangeDesk$Scanner", "InterchangeDesk$Interchange", "InterchangeDesk$Segment", "InterchangeDesk$Item", "InterchangeDesk$Slot", "InterchangeDesk$Group", "InterchangeDesk$Table", "InterchangeDesk$Walk", "InterchangeDeskModel", "java/lang/StringBuilder", "java/lang/IllegalArgumentException", "java/lang/IllegalStateException", "java/lang/UnsupportedOperationException"]
def cnm (c : Nat) : String := CNL.getD c ""
def FTB : List (List (String × String × String × Bool)) := [[("InterchangeDesk", "scanner", "LInterchangeDesk$Scanner;", true), ("InterchangeDesk", "now", "LInterchangeDesk$Interchange;", false), ("InterchangeDesk", "trial", "LInterchangeDesk$Interchange;", false), ("InterchangeDesk", "has", "Z", false), ("InterchangeDesk", "fault", "I", false), ("InterchangeDesk", "tables", "[LInterchangeDesk$Table;", true), ("InterchangeDesk", "walk", "LInterchangeDesk$Walk;", true), ("InterchangeDesk", "spareSlot", "LInterchangeDesk$Item;", false), ("InterchangeDesk", "spareGroup", "LInterchangeDesk$Item;", false)], [("InterchangeDesk$Scanner", "text", "[C", true), ("InterchangeDesk$Scanner", "size", "I", false), ("InterchangeDesk$Scanner", "at", "I", false), ("InterchangeDesk$Scanner", "component", "C", false), ("InterchangeDesk$Scanner", "element", "C", false), ("InterchangeDesk$Scanner", "release", "C", false), ("InterchangeDesk$Scanner", "end", "C", false)], [("InterchangeDesk$Interchange", "data", "[C", true), ("InterchangeDesk$Interchange", "used", "I", false), ("InterchangeDesk$Interchange", "segments", "[LInterchangeDesk$Segment;", true), ("InterchangeDesk$Interchange", "count", "I", false), ("InterchangeDesk$Interchange", "elementFirst", "[S", true), ("InterchangeDesk$Interchange", "elementSize", "[S", true), ("InterchangeDesk$Interchange", "elements", "I", false), ("InterchangeDesk$Interchange", "componentFirst", "[S", true), ("InterchangeDesk$Interchange", "componentSize", "[S", true), ("InterchangeDesk$Interchange", "components", "I", false), ("InterchangeDesk$Interchange", "begin", "[I", true), ("InterchangeDesk$Interchange", "end", "[I", true), ("InterchangeDesk$Interchange", "groupOf", "[I", true), ("InterchangeDesk$Interchange", "code", "[I", true), ("InterchangeDesk$Interchange", "place", "[I", true), ("InterchangeDesk$Interchange", "messages", "I", false), ("InterchangeDesk$Interchange", "groupBegin", "[I", true), ("InterchangeDesk$Interchange", "groupCode", "[I", true), ("InterchangeDesk$Interchange", "groups", "I", false), ("InterchangeDesk$Interchange", "ownCode", "I", false), ("InterchangeDesk$Interchange", "print", "Ljava/lang/StringBuilder;", true), ("InterchangeDesk$Interchange", "report", "Ljava/lang/StringBuilder;", true)], [("InterchangeDesk$Segment", "tag", "I", false), ("InterchangeDesk$Segment", "first", "I", false), ("InterchangeDesk$Segment", "count", "I", false)], [("InterchangeDesk$Item", "next", "LInterchangeDesk$Item;", false), ("InterchangeDesk$Item", "above", "LInterchangeDesk$Group;", false), ("InterchangeDesk$Item", "must", "Z", false), ("InterchangeDesk$Item", "most", "I", false)], [("InterchangeDesk$Item", "next", "LInterchangeDesk$Item;", false), ("InterchangeDesk$Item", "above", "LInterchangeDesk$Group;", false), ("InterchangeDesk$Item", "must", "Z", false), ("InterchangeDesk$Item", "most", "I", false), ("InterchangeDesk$Slot", "tag", "I", false)], [("InterchangeDesk$Item", "next", "LInterchangeDesk$Item;", false), ("InterchangeDesk$Item", "above", "LInterchangeDesk$Group;", false), ("InterchangeDesk$Item", "must", "Z", false), ("InterchangeDesk$Item", "most", "I", false), ("InterchangeDesk$Group", "first", "LInterchangeDesk$Item;", false), ("InterchangeDesk$Group", "last", "LInterchangeDesk$Item;", false)], [("InterchangeDesk$Table", "root", "LInterchangeDesk$Group;", true), ("InterchangeDesk$Table", "open", "LInterchangeDesk$Group;", false), ("InterchangeDesk$Table", "deep", "I", false), ("InterchangeDesk$Table", "count", "I", false)], [("InterchangeDesk$Walk", "list", "LInterchangeDesk$Group;", false), ("InterchangeDesk$Walk", "at", "LInterchangeDesk$Item;", false), ("InterchangeDesk$Walk", "had", "I", false), ("InterchangeDesk$Walk", "before", "[I", true), ("InterchangeDesk$Walk", "deep", "I", false)], [("InterchangeDeskModel", "thrown", "I", false), ("InterchangeDeskModel", "length", "I", false), ("InterchangeDeskModel", "text", "[I", false), ("InterchangeDeskModel", "items", "[I", false), ("InterchangeDeskModel", "tag", "[I", false), ("InterchangeDeskModel", "must", "[Z", false), ("InterchangeDeskModel", "most", "[I", false), ("InterchangeDeskModel", "inside", "[I", false), ("InterchangeDeskModel", "openOf", "[I", false), ("InterchangeDeskModel", "componentMark", "I", false), ("InterchangeDeskModel", "elementMark", "I", false), ("InterchangeDeskModel", "releaseMark", "I", false), ("InterchangeDeskModel", "endMark", "I", false), ("InterchangeDeskModel", "fault", "I", false), ("InterchangeDeskModel", "madeSegments", "I", false), ("InterchangeDeskModel", "madeTag", "[I", false), ("InterchangeDeskModel", "madeElement", "[I", false), ("InterchangeDeskModel", "madeElements", "I", false), ("InterchangeDeskModel", "madeComponent", "[I", false), ("InterchangeDeskModel", "madeComponents", "I", false), ("InterchangeDeskModel", "madeCharacter", "[I", false), ("InterchangeDeskModel", "madeCharacters", "I", false), ("InterchangeDeskModel", "made", "[I", false), ("InterchangeDeskModel", "loaded", "Z", false), ("InterchangeDeskModel", "segments", "I", false), ("InterchangeDeskModel", "tagOf", "[I", false), ("InterchangeDeskModel", "elementFrom", "[I", false), ("InterchangeDeskModel", "elements", "I", false), ("InterchangeDeskModel", "componentFrom", "[I", false), ("InterchangeDeskModel", "components", "I", false), ("InterchangeDeskModel", "characterFrom", "[I", false), ("InterchangeDeskModel", "character", "[I", false), ("InterchangeDeskModel", "code", "I", false), ("InterchangeDeskModel", "messages", "I", false), ("InterchangeDeskModel", "messageFrom", "[I", false), ("InterchangeDeskModel", "messageTo", "[I", false), ("InterchangeDeskModel", "messageGroup", "[I", false), ("InterchangeDeskModel", "messageCode", "[I", false), ("InterchangeDeskModel", "messagePlace", "[I", false), ("InterchangeDeskModel", "groups", "I", false), ("InterchangeDeskModel", "groupFrom", "[I", false), ("InterchangeDeskModel", "groupTo", "[I", false), ("InterchangeDeskModel", "groupCode", "[I", false), ("InterchangeDeskModel", "stands", "I", false), ("InterchangeDeskModel", "had", "I", false), ("InterchangeDeskModel", "deep", "I", false), ("InterchangeDeskModel", "groupAt", "[I", false), ("InterchangeDeskModel", "groupHad", "[I", false), ("InterchangeDeskModel", "printed", "I", false), ("InterchangeDeskModel", "print", "[I", false), ("InterchangeDeskModel", "reported", "I", false), ("InterchangeDeskModel", "report", "[I", false), ("InterchangeDeskModel", "reports", "Z", false)], [("java/lang/AbstractStringBuilder", "value", "[B", false), ("java/lang/AbstractStringBuilder", "coder", "B", false), ("java/lang/AbstractStringBuilder", "maybeLatin1", "Z", false), ("java/lang/AbstractStringBuilder", "count", "I", false)]]
def Ff (c : Nat) : u_T := fun k => (FTB.getD c []).getD k ("", "", "", false)
def clN (c : Nat) : Nat := (FTB.getD c []).length
/-- type codes: 0 int, 1 char, 2 short, 3 byte, 4 boolean, 5 a reference -/
def FTY : List (List Nat) := [[5, 5, 5, 4, 0, 5, 5, 5, 5], [5, 0, 0, 1, 1, 1, 1], [5, 0, 5, 0, 5, 5, 0, 5, 5, 0, 5, 5, 5, 5, 5, 0, 5, 5, 0, 0, 5, 5], [0, 0, 0], [5, 5, 4, 0], [5, 5, 4, 0, 0], [5, 5, 4, 0, 5, 5], [5, 5, 0, 0], [5, 5, 0, 5, 0], [0, 0, 5, 5, 5, 5, 5, 5, 5, 0, 0, 0, 0, 0, 0, 5, 5, 0, 5, 0, 5, 0, 5, 4, 0, 5, 5, 0, 5, 0, 5, 5, 0, 0, 5, 5, 5, 5, 5, 0, 5, 5, 5, 0, 0, 0, 5, 5, 0, 5, 0, 5, 4], [5, 3, 4, 0]]
def fty (c k : Nat) : Nat := (FTY.getD c []).getD k 0
def OWL : List String := ["InterchangeDeskLaw", "InterchangeDesk", "InterchangeDesk$Scanner", "InterchangeDesk$Interchange", "InterchangeDesk$Walk", "InterchangeDesk$Table", "InterchangeDesk$Segment", "InterchangeDesk$Group", "InterchangeDesk$Item", "InterchangeDesk$Slot", "InterchangeDeskModel", "java/lang/StringBuilder", "java/lang/AbstractStringBuilder", "java/lang/StringLatin1", "java/lang/Math", "java/lang/String", "java/util/Arrays", "java/lang/Integer", "jdk/internal/util/Preconditions", "jdk/internal/util/ArraysSupport"]
def onm (o : Nat) : String := OWL.getD o ""
def MOW : List Nat := [0, 0, 0, 0, 0, 0, 0, 0, 0, 0, 0, 0, 1, 1, 1, 1, 1, 1, 2, 3, 4, 5, 1, 1, 1, 1, 1, 1, 1, 1, 1, 1, 1, 6, 7, 1, 1, 1, 1, 1, 1, 1, 1, 1, 1, 1, 1, 1, 3, 1, 8, 9, 7, 2, 1, 3, 3, 1, 1, 1, 1, 1, 1, 3, 2, 2, 2, 3, 3, 3, 4, 4, 4, 1, 2, 2, 3, 2, 4, 9, 7, 4, 3, 3, 3, 10, 10, 10, 10, 10, 10, 10, 10, 10, 10, 10, 10, 10, 10, 10, 10, 10, 10, 10, 10, 10, 10, 10, 10, 10, 10, 10, 10, 10, 10, 10, 10, 10, 10, 10, 10, 10, 10, 10, 10, 10, 10, 10, 10, 10, 10, 10, 10, 10, 10, 10, 10, 10, 11, 12, 11, 11, 11, 12, 11, 12, 12, 11, 12, 12, 13, 12, 14, 15, 12, 12, 16, 17, 17, 18, 19, 14]
def mow (mi : Nat) : Nat := MOW.getD mi 0
def MNL : List MethodName := [⟨"InterchangeDeskLaw", "law", "([I)Z"⟩, ⟨"InterchangeDeskLaw", "slot", "(LInterchangeDesk;IIZI[J)I"⟩, ⟨"InterchangeDeskLaw", "open", "(LInterchangeDesk;IZI[J)I"⟩, ⟨"InterchangeDeskLaw", "close", "(LInterchangeDesk;I[J)I"⟩, ⟨"InterchangeDeskLaw", "clear", "(LInterchangeDesk;I[J)I"⟩, ⟨"InterchangeDeskLaw", "read", "(LInterchangeDesk;[J)I"⟩, ⟨"InterchangeDeskLaw", "interchange", "(LInterchangeDesk;I[J)I"⟩, ⟨"InterchangeDeskLaw", "message", "(LInterchangeDesk;II[J)I"⟩, ⟨"InterchangeDeskLaw", "group", "(LInterchangeDesk;I[J)I"⟩, ⟨"InterchangeDeskLaw", "segment", "(LInterchangeDesk;IIII[J)I"⟩, ⟨"InterchangeDeskLaw", "print", "(LInterchangeDesk;I[J)I"⟩, ⟨"InterchangeDeskLaw", "report", "(LInterchangeDesk;I[J)I"⟩, ⟨"InterchangeDesk", "scans", "()Z"⟩, ⟨"InterchangeDesk", "<init>", "()V"⟩, ⟨"InterchangeDesk", "type", "(J)Z"⟩, ⟨"InterchangeDesk", "wipe", "()V"⟩, ⟨"InterchangeDesk", "length", "()I"⟩, ⟨"InterchangeDesk", "fault", "()I"⟩, ⟨"InterchangeDesk$Scanner", "<init>", "()V"⟩, ⟨"InterchangeDesk$Interchange", "<init>", "()V"⟩, ⟨"InterchangeDesk$Walk", "<init>", "()V"⟩, ⟨"InterchangeDesk$Table", "<init>", "()V"⟩, ⟨"InterchangeDesk", "slot", "(IIZI)I"⟩, ⟨"InterchangeDesk", "open", "(IZI)I"⟩, ⟨"InterchangeDesk", "close", "(I)Z"⟩, ⟨"InterchangeDesk", "clear", "(I)Z"⟩, ⟨"InterchangeDesk", "read", "()I"⟩, ⟨"InterchangeDesk", "interchange", "(I)I"⟩, ⟨"InterchangeDesk", "message", "(II)I"⟩, ⟨"InterchangeDesk", "group", "(I)I"⟩, ⟨"InterchangeDesk", "segment", "(IIII)I"⟩, ⟨"InterchangeDesk", "print", "(I)I"⟩, ⟨"InterchangeDesk", "report", "(I)I"⟩, ⟨"InterchangeDesk$Segment", "<init>", "()V"⟩, ⟨"InterchangeDesk$Group", "<init>", "()V"⟩, ⟨"InterchangeDesk", "tableOf", "(I)LInterchangeDesk$Table;"⟩, ⟨"InterchangeDesk", "isTag", "(I)Z"⟩, ⟨"InterchangeDesk", "isEnvelope", "(I)Z"⟩, ⟨"InterchangeDesk", "need", "(Z)V"⟩, ⟨"InterchangeDesk", "needState", "(Z)V"⟩, ⟨"InterchangeDesk", "newSlot", "()LInterchangeDesk$Slot;"⟩, ⟨"InterchangeDesk", "add", "(LInterchangeDesk$Table;LInterchangeDesk$Item;ZI)I"⟩, ⟨"InterchangeDesk", "newGroup", "()LInterchangeDesk$Group;"⟩, ⟨"InterchangeDesk", "give", "(LInterchangeDesk;LInterchangeDesk$Item;I)V"⟩, ⟨"InterchangeDesk", "nests", "(LInterchangeDesk$Interchange;)Z"⟩, ⟨"InterchangeDesk", "judge", "(LInterchangeDesk$Interchange;)V"⟩, ⟨"InterchangeDesk", "printAll", "(LInterchangeDesk$Interchange;)V"⟩, ⟨"InterchangeDesk", "reportAll", "(LInterchangeDesk$Interchange;)V"⟩, ⟨"InterchangeDesk$Interchange", "find", "(III)I"⟩, ⟨"InterchangeDesk", "at", "(Ljava/lang/StringBuilder;I)I"⟩, ⟨"InterchangeDesk$Item", "<init>", "()V"⟩, ⟨"InterchangeDesk$Slot", "<init>", "()V"⟩, ⟨"InterchangeDesk$Group", "append", "(LInterchangeDesk$Item;)V"⟩, ⟨"InterchangeDesk$Scanner", "scan", "(LInterchangeDesk$Interchange;)V"⟩, ⟨"InterchangeDesk", "members", "(LInterchangeDesk$Interchange;)I"⟩, ⟨"InterchangeDesk$Interchange", "envelope", "(IIII)I"⟩, ⟨"InterchangeDesk$Interchange", "same", "(IIII)Z"⟩, ⟨"InterchangeDesk", "tableFor", "(LInterchangeDesk$Interchange;I)LInterchangeDesk$Table;"⟩, ⟨"InterchangeDesk", "match", "(LInterchangeDesk$Interchange;ILInterchangeDesk$Table;)I"⟩, ⟨"InterchangeDesk", "writeTag", "(Ljava/lang/StringBuilder;I)V"⟩, ⟨"InterchangeDesk", "full", "(LInterchangeDesk$Interchange;I)I"⟩, ⟨"InterchangeDesk", "write", "(Ljava/lang/StringBuilder;LInterchangeDesk$Interchange;I)V"⟩, ⟨"InterchangeDesk", "line", "(LInterchangeDesk$Interchange;CIIII)V"⟩, ⟨"InterchangeDesk$Interchange", "clear", "()V"⟩, ⟨"InterchangeDesk$Scanner", "marks", "()V"⟩, ⟨"InterchangeDesk$Scanner", "look", "()C"⟩, ⟨"InterchangeDesk$Scanner", "scanSegment", "(LInterchangeDesk$Interchange;)V"⟩, ⟨"InterchangeDesk$Interchange", "size", "(II)I"⟩, ⟨"InterchangeDesk$Interchange", "number", "(I)I"⟩, ⟨"InterchangeDesk$Interchange", "at", "(III)C"⟩, ⟨"InterchangeDesk$Walk", "begin", "(LInterchangeDesk$Table;)V"⟩, ⟨"InterchangeDesk$Walk", "step", "(I)I"⟩, ⟨"InterchangeDesk$Walk", "finish", "()I"⟩, ⟨"InterchangeDesk", "isUsual", "(C)Z"⟩, ⟨"InterchangeDesk$Scanner", "isMark", "(C)Z"⟩, ⟨"InterchangeDesk$Scanner", "need", "(Z)V"⟩, ⟨"InterchangeDesk$Interchange", "newSegment", "(I)LInterchangeDesk$Segment;"⟩, ⟨"InterchangeDesk$Scanner", "part", "(LInterchangeDesk$Interchange;LInterchangeDesk$Segment;)Z"⟩, ⟨"InterchangeDesk$Walk", "leave", "()V"⟩, ⟨"InterchangeDesk$Slot", "begins", "(I)Z"⟩, ⟨"InterchangeDesk$Group", "begins", "(I)Z"⟩, ⟨"InterchangeDesk$Walk", "enter", "()I"⟩, ⟨"InterchangeDesk$Interchange", "newElement", "(LInterchangeDesk$Segment;)V"⟩, ⟨"InterchangeDesk$Interchange", "newComponent", "()V"⟩, ⟨"InterchangeDesk$Interchange", "add", "(C)V"⟩, ⟨"InterchangeDeskModel", "<init>", "()V"⟩, ⟨"InterchangeDeskModel", "type", "(J)Z"⟩, ⟨"InterchangeDeskModel", "wipe", "()V"⟩, ⟨"InterchangeDeskModel", "length", "()I"⟩, ⟨"InterchangeDeskModel", "slot", "(IIZI)I"⟩, ⟨"InterchangeDeskModel", "thrown", "()I"⟩, ⟨"InterchangeDeskModel", "open", "(IZI)I"⟩, ⟨"InterchangeDeskModel", "close", "(I)Z"⟩, ⟨"InterchangeDeskModel", "clear", "(I)Z"⟩, ⟨"InterchangeDeskModel", "read", "()I"⟩, ⟨"InterchangeDeskModel", "fault", "()I"⟩, ⟨"InterchangeDeskModel", "interchange", "(I)I"⟩, ⟨"InterchangeDeskModel", "message", "(II)I"⟩, ⟨"InterchangeDeskModel", "group", "(I)I"⟩, ⟨"InterchangeDeskModel", "segment", "(IIII)I"⟩, ⟨"InterchangeDeskModel", "print", "(I)I"⟩, ⟨"InterchangeDeskModel", "report", "(I)I"⟩, ⟨"InterchangeDeskModel", "isType", "(I)Z"⟩, ⟨"InterchangeDeskModel", "isTag", "(I)Z"⟩, ⟨"InterchangeDeskModel", "isEnvelope", "(I)Z"⟩, ⟨"InterchangeDeskModel", "isBare", "(I)Z"⟩, ⟨"InterchangeDeskModel", "add", "(IIZI)I"⟩, ⟨"InterchangeDeskModel", "openGroups", "(I)I"⟩, ⟨"InterchangeDeskModel", "scans", "()Z"⟩, ⟨"InterchangeDeskModel", "wraps", "()Z"⟩, ⟨"InterchangeDeskModel", "take", "()V"⟩, ⟨"InterchangeDeskModel", "judge", "(I)V"⟩, ⟨"InterchangeDeskModel", "check", "(IIII)I"⟩, ⟨"InterchangeDeskModel", "writePrint", "()V"⟩, ⟨"InterchangeDeskModel", "writeReport", "()V"⟩, ⟨"InterchangeDeskModel", "sizeOf", "(I)I"⟩, ⟨"InterchangeDeskModel", "isLetter", "(I)Z"⟩, ⟨"InterchangeDeskModel", "following", "(III)I"⟩, ⟨"InterchangeDeskModel", "marks", "()I"⟩, ⟨"InterchangeDeskModel", "next", "(II)I"⟩, ⟨"InterchangeDeskModel", "component", "(II)I"⟩, ⟨"InterchangeDeskModel", "same", "(II)Z"⟩, ⟨"InterchangeDeskModel", "typeOf", "(I)I"⟩, ⟨"InterchangeDeskModel", "comes", "(II)I"⟩, ⟨"InterchangeDeskModel", "lacks", "(I)Z"⟩, ⟨"InterchangeDeskModel", "isNumber", "(II)Z"⟩, ⟨"InterchangeDeskModel", "writeTag", "(I)V"⟩, ⟨"InterchangeDeskModel", "kept", "(I)I"⟩, ⟨"InterchangeDeskModel", "write", "(I)V"⟩, ⟨"InterchangeDeskModel", "writeComponent", "(I)V"⟩, ⟨"InterchangeDeskModel", "writeLine", "(IIII)V"⟩, ⟨"InterchangeDeskModel", "canMark", "(I)Z"⟩, ⟨"InterchangeDeskModel", "put", "(I)V"⟩, ⟨"InterchangeDeskModel", "beginElement", "()V"⟩, ⟨"InterchangeDeskModel", "beginComponent", "()V"⟩, ⟨"InterchangeDeskModel", "begins", "(II)I"⟩, ⟨"InterchangeDeskModel", "goOn", "(I)V"⟩, ⟨"InterchangeDeskModel", "writeNumber", "(I)V"⟩, ⟨"java/lang/StringBuilder", "<init>", "(I)V"⟩, ⟨"java/lang/AbstractStringBuilder", "<init>", "(I)V"⟩, ⟨"java/lang/StringBuilder", "append", "(C)Ljava/lang/StringBuilder;"⟩, ⟨"java/lang/StringBuilder", "length", "()I"⟩, ⟨"java/lang/StringBuilder", "charAt", "(I)C"⟩, ⟨"java/lang/AbstractStringBuilder", "append", "(C)Ljava/lang/AbstractStringBuilder;"⟩, ⟨"java/lang/StringBuilder", "append", "(I)Ljava/lang/StringBuilder;"⟩, ⟨"java/lang/AbstractStringBuilder", "length", "()I"⟩, ⟨"java/lang/AbstractStringBuilder", "charAt", "(I)C"⟩, ⟨"java/lang/StringBuilder", "setLength", "(I)V"⟩, ⟨"java/lang/AbstractStringBuilder", "ensureCapacityInternal", "(I)V"⟩, ⟨"java/lang/AbstractStringBuilder", "isLatin1", "()Z"⟩, ⟨"java/lang/StringLatin1", "canEncode", "(C)Z"⟩, ⟨"java/lang/AbstractStringBuilder", "append", "(I)Ljava/lang/AbstractStringBuilder;"⟩, ⟨"java/lang/Math", "min", "(II)I"⟩, ⟨"java/lang/String", "checkIndex", "(II)V"⟩, ⟨"java/lang/AbstractStringBuilder", "setLength", "(I)V"⟩, ⟨"java/lang/AbstractStringBuilder", "newCapacity", "(I)I"⟩, ⟨"java/util/Arrays", "copyOf", "([BI)[B"⟩, ⟨"java/lang/Integer", "stringSize", "(I)I"⟩, ⟨"java/lang/Integer", "getChars", "(II[B)I"⟩, ⟨"jdk/internal/util/Preconditions", "checkIndex", "(IILjava/util/function/BiFunction;)I"⟩, ⟨"jdk/internal/util/ArraysSupport", "newLength", "(III)I"⟩, ⟨"java/lang/Math", "max", "(II)I"⟩]
def mnm (mi : Nat) : MethodName := MNL.getD mi ⟨"", "", ""⟩
def MBL : List ByteArray := [code, method_3_code, method_4_code, method_5_code, method_6_code, method_7_code, method_8_code, method_9_code, method_10_code, method_11_code, method_12_code, method_13_code, prog_1_method_19_code, prog_1_method_2_code, prog_1_method_3_code, prog_1_method_4_code, prog_1_method_5_code, prog_1_method_32_code, prog_5_method_1_code, prog_3_method_1_code, prog_9_method_1_code, prog_8_method_1_code, prog_1_method_13_code, prog_1_method_14_code, prog_1_method_15_code, prog_1_method_17_code, prog_1_method_18_code, prog_1_method_33_code, prog_1_method_34_code, prog_1_method_35_code, prog_1_method_36_code, prog_1_method_38_code, prog_1_method_39_code, prog_6_method_1_code, prog_2_method_1_code, prog_1_method_8_code, prog_1_method_9_code, prog_1_method_1_code, prog_1_method_6_code, prog_1_method_7_code, prog_1_method_10_code, prog_1_method_12_code, prog_1_method_11_code, prog_1_method_16_code, prog_1_method_20_code, prog_1_method_22_code, prog_1_method_29_code, prog_1_method_31_code, prog_3_method_7_code, prog_1_method_37_code, prog_4_method_1_code, prog_7_method_1_code, prog_2_method_3_code, prog_5_method_6_code, prog_1_method_21_code, prog_3_method_12_code, prog_3_method_10_code, prog_1_method_23_code, prog_1_method_24_code, prog_1_method_27_code, prog_1_method_28_code, prog_1_method_26_code, prog_1_method_30_code, prog_3_method_2_code, prog_5_method_5_code, prog_5_method_2_code, prog_5_method_7_code, prog_3_method_8_code, prog_3_method_11_code, prog_3_method_9_code, prog_9_method_2_code, prog_9_method_4_code, prog_9_method_6_code, prog_1_method_25_code, prog_5_method_4_code, prog_5_method_3_code, prog_3_method_3_code, prog_5_method_8_code, prog_9_method_3_code, prog_7_method_2_code, prog_2_method_2_code, prog_9_method_5_code, prog_3_method_4_code, prog_3_method_5_code, prog_3_method_6_code, prog_11_method_1_code, prog_11_method_3_code, prog_11_method_4_code, prog_11_method_5_code, prog_11_method_13_code, prog_11_method_2_code, prog_11_method_15_code, prog_11_method_16_code, prog_11_method_17_code, prog_11_method_38_code, prog_11_method_39_code, prog_11_method_48_code, prog_11_method_49_code, prog_11_method_50_code, prog_11_method_51_code, prog_11_method_52_code, prog_11_method_53_code, prog_11_method_6_code, prog_11_method_8_code, prog_11_method_9_code, prog_11_method_12_code, prog_11_method_11_code, prog_11_method_14_code, prog_11_method_24_code, prog_11_method_25_code, prog_11_method_26_code, prog_11_method_37_code, prog_11_method_31_code, prog_11_method_45_code, prog_11_method_47_code, prog_11_method_28_code, prog_11_method_7_code, prog_11_method_10_code, prog_11_method_19_code, prog_11_method_23_code, prog_11_method_27_code, prog_11_method_29_code, prog_11_method_36_code, prog_11_method_34_code, prog_11_method_35_code, prog_11_method_30_code, prog_11_method_43_code, prog_11_method_44_code, prog_11_method_40_code, prog_11_method_41_code, prog_11_method_46_code, prog_11_method_18_code, prog_11_method_22_code, prog_11_method_21_code, prog_11_method_20_code, prog_11_method_32_code, prog_11_method_33_code, prog_11_method_42_code, prog_21_method_2_code, prog_12_method_2_code, prog_21_method_14_code, prog_21_method_93_code, prog_21_method_88_code, prog_12_method_31_code, prog_21_method_15_code, prog_12_method_6_code, prog_12_method_14_code, prog_21_method_89_code, prog_12_method_9_code, prog_12_method_68_code, prog_22_method_3_code, prog_12_method_32_code, prog_18_method_69_code, prog_20_method_155_code, prog_12_method_13_code, prog_12_method_10_code, prog_27_method_121_code, prog_17_method_13_code, prog_17_method_12_code, prog_29_method_11_code, prog_28_method_27_code, prog_18_method_65_code]
def mb (mi : Nat) : ByteArray := MBL.getD mi ⟨#[]⟩
def MRL : List (Option FieldType) := [ret, (some .int), (some .int), (some .int), (some .int), (some .int), (some .int), (some .int), (some .int), (some .int), (some .int), (some .int), (some .boolean), none, (some .boolean), none, (some .int), (some .int), none, none, none, none, (some .int), (some .int), (some .boolean), (some .boolean), (some .int), (some .int), (some .int), (some .int), (some .int), (some .int), (some .int), none, none, (some (.object "InterchangeDesk$Table")), (some .boolean), (some .boolean), none, none, (some (.object "InterchangeDesk$Slot")), (some .int), (some (.object "InterchangeDesk$Group")), none, (some .boolean), none, none, none, (some .int), (some .int), none, none, none, none, (some .int), (some .int), (some .boolean), (some (.object "InterchangeDesk$Table")), (some .int), none, (some .int), none, none, none, none, (some .char), none, (some .int), (some .int), (some .char), none, (some .int), (some .int), (some .boolean), (some .boolean), none, (some (.object "InterchangeDesk$Segment")), (some .boolean), none, (some .boolean), (some .boolean), (some .int), none, none, none, none, (some .boolean), none, (some .int), (some .int), (some .int), (some .int), (some .boolean), (some .boolean), (some .int), (some .int), (some .int), (some .int), (some .int), (some .int), (some .int), (some .int), (some .boolean), (some .boolean), (some .boolean), (some .boolean), (some .int), (some .int), (some .boolean), (some .boolean), none, none, (some .int), none, none, (some .int), (some .boolean), (some .int), (some .int), (some .int), (some .int), (some .boolean), (some .int), (some .int), (some .boolean), (some .boolean), none, (some .int), none, none, none, (some .boolean), none, none, none, (some .int), none, none, none, none, (some (.object "java/lang/StringBuilder")), (some .int), (some .char), (some (.object "java/lang/AbstractStringBuilder")), (some (.object "java/lang/StringBuilder")), (some .int), (some .char), none, none, (some .boolean), (some .boolean), (some (.object "java/lang/AbstractStringBuilder")), (some .int), none, none, (some .int), (some (.array .byte)), (some .int), (some .int), (some .int), (some .int), (some .int)]
def mrt (mi : Nat) : Option FieldType := MRL.getD mi none
def MHL : List (List (Nat × Nat × Nat × Nat)) := [[], [(0, 14, 17, 13), (0, 14, 21, 15)], [(0, 12, 15, 13), (0, 12, 19, 15)], [(0, 16, 19, 13)], [(0, 16, 19, 13)], [(0, 8, 11, 13), (0, 8, 14, 32)], [(0, 9, 12, 15)], [(0, 10, 13, 15)], [(0, 9, 12, 15)], [(0, 14, 17, 15)], [(0, 9, 12, 15)], [(0, 9, 12, 15)], [(0, 11, 14, 59)]]
def mhn (mi : Nat) : List (Nat × Nat × Nat × Nat) := MHL.getD mi []
def MSL : List Bool := [true, true, true, true, true, true, true, true, true, true, true, true, false, false, false, false, false, false, false, false, false, false, false, false, false, false, false, false, false, false, false, false, false, false, false, false, true, true, true, true, false, true, false, true, true, false, true, true, false, true, false, false, false, false, true, false, false, false, false, true, true, true, true, false, false, false, false, false, false, false, false, false, false, true, true, true, false, false, false, false, false, false, false, false, false, false, false, false, false, false, false, false, false, false, false, false, false, false, false, false, false, false, true, true, true, false, false, false, false, false, false, false, false, false, false, false, true, false, false, false, false, false, false, false, false, false, false, false, false, false, false, true, false, false, false, false, false, false, false, false, false, false, false, false, false, false, false, false, false, false, true, false, true, true, false, false, true, true, true, true, true, true]
def mst (mi : Nat) : Bool := MSL.getD mi false
/-- arguments by descriptor, the receiver not among them -/
def MAL : List Nat := [1, 6, 5, 3, 3, 2, 3, 4, 3, 6, 3, 3, 0, 0, 1, 0, 0, 0, 0, 0, 0, 0, 4, 3, 1, 1, 0, 1, 2, 1, 4, 1, 1, 0, 0, 1, 1, 1, 1, 1, 0, 4, 0, 3, 1, 1, 1, 1, 3, 2, 0, 0, 1, 1, 1, 4, 4, 2, 3, 2, 2, 3, 6, 0, 0, 0, 1, 2, 1, 3, 1, 1, 0, 1, 1, 1, 1, 2, 0, 1, 1, 0, 1, 0, 1, 0, 1, 0, 0, 4, 0, 3, 1, 1, 0, 0, 1, 2, 1, 4, 1, 1, 1, 1, 1, 1, 4, 1, 0, 0, 0, 1, 4, 0, 0, 1, 1, 3, 0, 2, 2, 2, 1, 2, 1, 2, 1, 1, 1, 1, 4, 1, 1, 0, 0, 2, 1, 1, 1, 1, 1, 0, 1, 1, 1, 0, 1, 1, 1, 0, 1, 1, 2, 2, 1, 1, 2, 1, 3, 3, 3, 2]
def mar (mi : Nat) : Nat := MAL.getD mi 0
def cwd (j : Nat) : Jvm.Cond := if 1 ≤ j ∧ j < 13 then .codeWith (mnm j) (mb j) (mxl j) (mrt j) (mhn j) else .code (mnm j) (mb j) (mxl j) (mrt j)
def iwd (j : Nat) : Jvm.Cond := if mst j then .static (mnm j) else .instanceMethod (mnm j)
def CIX : List Nat := [0, 391, 527, 540, 547, 557, 999, 1006, 1013, 1020, 1027, 1048, 566, 77, 375, 380, 384, 388, 85, 117, 267, 288, 397, 531, 544, 551, 562, 1003, 1010, 1017, 1024, 1031, 1052, 159, 294, 401, 471, 474, 404, 483, 502, 520, 535, 554, 863, 909, 954, 991, 878, 1034, 297, 507, 524, 570, 866, 870, 882, 914, 920, 957, 982, 985, 994, 574, 824, 828, 840, 874, 890, 886, 924, 928, 951, 988, 833, 836, 844, 848, 932, 941, 938, 946, 852, 856, 860, 1057, 1227, 1231, 1235, 1239, 1223, 1273, 1281, 1285, 1289, 1407, 1411, 1415, 1419, 1423, 1427, 1431, 1242, 1245, 1251, 1261, 1269, 1277, 1293, 1320, 1324, 1328, 1332, 1372, 1392, 1340, 1248, 1265, 1297, 1304, 1336, 1344, 1352, 1356, 1368, 1348, 1376, 1384, 1380, 1388, 1397, 1300, 1308, 1312, 1316, 1360, 1364, 1401, 125, 128, 961, 767, 1039, 964, 720, 769, 1042, 578, 585, 621, 967, 723, 613, 976, 581, 589, 603, 726, 729, 979, 592, 595]
def SIX : List Nat := [0, 390, 526, 539, 546, 556, 998, 1005, 1012, 1019, 1026, 1047, 565, 76, 373, 378, 382, 386, 84, 116, 266, 287, 395, 529, 542, 549, 560, 1001, 1008, 1015, 1022, 1029, 1050, 158, 293, 400, 470, 473, 403, 482, 501, 519, 534, 553, 862, 908, 953, 990, 876, 1033, 296, 506, 522, 568, 865, 868, 880, 913, 919, 956, 981, 984, 993, 572, 823, 827, 839, 872, 888, 884, 922, 926, 949, 987, 832, 835, 842, 847, 931, 940, 937, 945, 850, 854, 858, 1056, 1225, 1229, 1233, 1237, 1221, 1271, 1279, 1283, 1287, 1405, 1409, 1413, 1417, 1421, 1425, 1429, 1241, 1244, 1250, 1260, 1268, 1276, 1292, 1319, 1323, 1327, 1331, 1371, 1391, 1339, 1247, 1264, 1296, 1303, 1335, 1343, 1351, 1355, 1367, 1347, 1375, 1383, 1379, 1387, 1396, 1299, 1307, 1311, 1315, 1359, 1363, 1400, 124, 127, 959, 766, 1037, 963, 718, 763, 1041, 576, 584, 618, 966, 722, 612, 975, 580, 588, 602, 725, 728, 978, 591, 594]
def IIX : List Nat := [45, 45, 45, 45, 45, 45, 45, 45, 45, 45, 45, 45, 46, 46, 46, 46, 46, 46, 47, 48, 54, 55, 46, 46, 46, 46, 46, 46, 46, 46, 46, 46, 46, 53, 57, 46, 46, 46, 46, 46, 46, 46, 46, 46, 46, 46, 46, 46, 48, 46, 56, 64, 57, 47, 46, 48, 48, 46, 46, 46, 46, 46, 46, 48, 47, 47, 47, 48, 48, 48, 54, 54, 54, 46, 47, 47, 48, 47, 54, 64, 57, 54, 48, 48, 48, 58, 58, 58, 58, 58, 58, 58, 58, 58, 58, 58, 58, 58, 58, 58, 58, 58, 58, 58, 58, 58, 58, 58, 58, 58, 58, 58, 58, 58, 58, 58, 58, 58, 58, 58, 58, 58, 58, 58, 58, 58, 58, 58, 58, 58, 58, 58, 58, 58, 58, 58, 58, 58, 50, 49, 50, 50, 50, 49, 50, 49, 49, 50, 49, 49, 69, 49, 66, 51, 49, 49, 67, 71, 71, 70, 65, 66]
def tw (i : Nat) (c : Jvm.Cond) : Bool := decide (lw_tbl[i]? = some c)
/-- owner, entry, class, field; the word's place; 0 plain, 1 a nest mate's, 2 by another name -/
def FLL : List (Nat × Nat × Nat × Nat × Nat × Nat) := [(1, 18, 0, 0, 344, 0), (1, 25, 0, 1, 345, 0), (1, 29, 0, 2, 346, 0), (1, 32, 0, 4, 348, 0), (1, 38, 0, 5, 349, 0), (1, 45, 0, 6, 350, 0), (1, 50, 1, 1, 90, 1), (1, 55, 1, 0, 88, 1), (1, 69, 0, 7, 351, 0), (1, 75, 5, 0, 306, 0), (1, 75, 6, 0, 306, 0), (1, 81, 0, 8, 352, 0), (1, 86, 6, 4, 301, 1), (1, 89, 6, 5, 303, 1), (1, 93, 5, 2, 312, 0), (1, 93, 6, 2, 312, 0), (1, 97, 5, 3, 314, 0), (1, 97, 6, 3, 314, 0), (1, 100, 7, 1, 332, 1), (1, 108, 7, 3, 334, 1), (1, 122, 7, 2, 333, 1), (1, 132, 5, 4, 510, 1), (1, 143, 6, 1, 310, 2), (1, 150, 7, 0, 330, 1), (1, 157, 1, 2, 92, 1), (1, 167, 0, 3, 347, 0), (1, 180, 2, 15, 204, 1), (1, 186, 2, 3, 181, 1), (1, 187, 2, 2, 178, 1), (1, 191, 3, 0, 162, 1), (1, 194, 2, 11, 196, 1), (1, 198, 2, 10, 194, 1), (1, 201, 2, 12, 198, 1), (1, 204, 2, 18, 210, 1), (1, 207, 2, 16, 206, 1), (1, 210, 2, 17, 208, 1), (1, 221, 2, 19, 211, 1), (1, 224, 2, 14, 202, 1), (1, 239, 2, 13, 200, 1), (1, 259, 2, 7, 188, 1), (1, 263, 2, 8, 190, 1), (1, 266, 2, 0, 175, 1), (1, 278, 2, 5, 185, 1), (1, 281, 2, 4, 183, 1), (1, 284, 2, 20, 213, 1), (1, 292, 3, 2, 166, 1), (1, 293, 3, 1, 164, 1), (1, 303, 2, 21, 215, 1), (2, 9, 1, 0, 87, 0), (2, 15, 1, 2, 91, 0), (2, 19, 1, 1, 89, 0), (2, 25, 1, 3, 93, 0), (2, 29, 1, 4, 94, 0), (2, 32, 1, 5, 95, 0), (2, 35, 1, 6, 96, 0), (2, 62, 2, 3, 180, 1), (2, 73, 2, 9, 192, 1), (3, 9, 2, 0, 174, 0), (3, 17, 2, 2, 177, 0), (3, 21, 2, 4, 182, 0), (3, 25, 2, 5, 184, 0), (3, 28, 2, 7, 187, 0), (3, 31, 2, 8, 189, 0), (3, 34, 2, 10, 193, 0), (3, 38, 2, 11, 195, 0), (3, 41, 2, 12, 197, 0), (3, 44, 2, 13, 199, 0), (3, 47, 2, 14, 201, 0), (3, 50, 2, 16, 205, 0), (3, 53, 2, 17, 207, 0), (3, 61, 2, 20, 212, 0), (3, 65, 2, 21, 214, 0), (3, 69, 2, 1, 176, 0), (3, 73, 2, 3, 179, 0), (3, 76, 2, 6, 186, 0), (3, 79, 2, 9, 191, 0), (3, 82, 2, 15, 203, 0), (3, 85, 2, 18, 209, 0), (3, 91, 3, 0, 161, 1), (3, 94, 3, 1, 163, 1), (3, 97, 3, 2, 165, 1), (4, 9, 8, 3, 272, 0), (4, 15, 7, 0, 329, 1), (4, 21, 8, 0, 269, 0), (4, 24, 6, 4, 300, 1), (4, 30, 8, 1, 270, 0), (4, 33, 8, 2, 271, 0), (4, 37, 8, 4, 273, 0), (4, 40, 6, 1, 308, 2), (4, 56, 5, 2, 311, 0), (4, 56, 6, 2, 311, 0), (4, 60, 5, 0, 305, 0), (4, 60, 6, 0, 305, 0), (4, 63, 5, 3, 313, 0), (4, 63, 6, 3, 313, 0), (5, 10, 7, 0, 328, 0), (5, 16, 7, 1, 331, 0), (7, 7, 6, 4, 299, 0), (7, 17, 5, 0, 304, 0), (7, 17, 6, 0, 304, 0), (7, 20, 5, 1, 307, 0), (7, 20, 6, 1, 307, 0), (7, 24, 6, 5, 302, 0), (9, 7, 5, 4, 509, 0), (10, 7, 9, 2, 1061, 0), (10, 13, 9, 3, 1062, 0), (10, 16, 9, 4, 1063, 0), (10, 19, 9, 5, 1064, 0), (10, 23, 9, 6, 1065, 0), (10, 26, 9, 7, 1066, 0), (10, 29, 9, 8, 1067, 0), (10, 32, 9, 13, 1072, 0), (10, 36, 9, 15, 1074, 0), (10, 39, 9, 16, 1075, 0), (10, 42, 9, 18, 1077, 0), (10, 45, 9, 20, 1079, 0), (10, 48, 9, 22, 1081, 0), (10, 51, 9, 25, 1084, 0), (10, 54, 9, 26, 1085, 0), (10, 57, 9, 28, 1087, 0), (10, 60, 9, 30, 1089, 0), (10, 63, 9, 31, 1090, 0), (10, 66, 9, 34, 1093, 0), (10, 69, 9, 35, 1094, 0), (10, 72, 9, 36, 1095, 0), (10, 75, 9, 37, 1096, 0), (10, 78, 9, 38, 1097, 0), (10, 81, 9, 40, 1099, 0), (10, 84, 9, 41, 1100, 0), (10, 87, 9, 42, 1101, 0), (10, 90, 9, 46, 1105, 0), (10, 93, 9, 47, 1106, 0), (10, 96, 9, 49, 1108, 0), (10, 99, 9, 51, 1110, 0), (10, 102, 9, 0, 1059, 0), (10, 105, 9, 1, 1060, 0), (10, 142, 9, 9, 1068, 0), (10, 145, 9, 10, 1069, 0), (10, 148, 9, 11, 1070, 0), (10, 151, 9, 12, 1071, 0), (10, 157, 9, 19, 1078, 0), (10, 160, 9, 21, 1080, 0), (10, 163, 9, 17, 1076, 0), (10, 169, 9, 14, 1073, 0), (10, 187, 9, 24, 1083, 0), (10, 190, 9, 27, 1086, 0), (10, 193, 9, 29, 1088, 0), (10, 196, 9, 33, 1092, 0), (10, 199, 9, 39, 1098, 0), (10, 215, 9, 45, 1104, 0), (10, 218, 9, 43, 1102, 0), (10, 221, 9, 44, 1103, 0), (10, 253, 9, 23, 1082, 0), (10, 260, 9, 32, 1091, 0), (10, 269, 9, 52, 1111, 0), (10, 272, 9, 50, 1109, 0), (10, 275, 9, 48, 1107, 0), (12, 15, 10, 0, 139, 0), (12, 22, 10, 1, 140, 0), (12, 73, 10, 2, 141, 0), (12, 79, 10, 3, 143, 0)]
def MLL : List (Nat × Nat × Nat × Nat × Nat) := [(0, 7, 22, 394, 0), (0, 17, 23, 528, 0), (0, 21, 24, 541, 0), (0, 25, 25, 548, 0), (0, 28, 26, 559, 0), (0, 34, 27, 1000, 0), (0, 38, 28, 1007, 0), (0, 42, 29, 1014, 0), (0, 45, 30, 1021, 0), (0, 49, 31, 1028, 0), (0, 52, 32, 1049, 0), (0, 55, 13, 75, 0), (0, 58, 85, 1055, 0), (0, 61, 14, 372, 0), (0, 65, 86, 1224, 0), (0, 66, 15, 377, 0), (0, 69, 87, 1228, 0), (0, 70, 16, 381, 0), (0, 73, 88, 1232, 0), (0, 74, 1, 389, 0), (0, 79, 89, 1236, 0), (0, 80, 90, 1220, 0), (0, 83, 2, 525, 0), (0, 86, 91, 1270, 0), (0, 87, 3, 538, 0), (0, 90, 92, 1278, 0), (0, 91, 4, 545, 0), (0, 93, 93, 1282, 0), (0, 94, 5, 555, 0), (0, 97, 94, 1286, 0), (0, 98, 17, 385, 0), (0, 101, 95, 1404, 0), (0, 102, 6, 997, 0), (0, 104, 96, 1408, 0), (0, 105, 7, 1004, 0), (0, 108, 97, 1412, 0), (0, 109, 8, 1011, 0), (0, 111, 98, 1416, 0), (0, 112, 9, 1018, 0), (0, 115, 99, 1420, 0), (0, 116, 10, 1025, 0), (0, 118, 100, 1424, 0), (0, 119, 11, 1046, 0), (0, 121, 101, 1428, 0), (1, 17, 18, 83, 1), (1, 24, 19, 115, 0), (1, 44, 20, 265, 1), (1, 49, 21, 286, 1), (1, 65, 38, 402, 0), (1, 80, 51, 505, 1), (1, 92, 34, 537, 1), (1, 104, 52, 521, 0), (1, 111, 35, 398, 0), (1, 115, 36, 469, 0), (1, 119, 37, 472, 0), (1, 125, 39, 481, 0), (1, 128, 40, 499, 0), (1, 135, 41, 518, 0), (1, 139, 42, 532, 0), (1, 146, 43, 552, 0), (1, 153, 12, 563, 0), (1, 160, 44, 861, 0), (1, 170, 45, 906, 0), (1, 174, 46, 952, 0), (1, 177, 47, 989, 0), (1, 183, 53, 567, 0), (1, 213, 54, 864, 0), (1, 217, 55, 867, 0), (1, 227, 56, 910, 0), (1, 231, 57, 911, 0), (1, 235, 58, 917, 0), (1, 242, 67, 915, 0), (1, 245, 69, 916, 0), (1, 248, 70, 921, 0), (1, 251, 71, 925, 0), (1, 255, 72, 948, 0), (1, 269, 73, 986, 0), (1, 273, 140, 958, 0), (1, 288, 59, 955, 0), (1, 295, 60, 980, 0), (1, 299, 61, 983, 0), (1, 306, 48, 995, 0), (1, 310, 144, 996, 0), (1, 313, 62, 992, 0), (1, 317, 141, 1035, 0), (1, 320, 142, 1036, 0), (1, 324, 49, 1032, 0), (2, 38, 65, 825, 0), (2, 42, 74, 831, 0), (2, 46, 75, 834, 0), (2, 50, 63, 571, 0), (2, 55, 64, 821, 0), (2, 58, 66, 837, 0), (2, 65, 76, 841, 0), (2, 69, 77, 845, 0), (2, 76, 82, 849, 0), (2, 80, 83, 853, 0), (2, 83, 84, 857, 0), (3, 58, 138, 123, 0), (3, 68, 33, 157, 1), (3, 88, 147, 575, 0), (3, 98, 48, 875, 0), (3, 102, 67, 871, 0), (3, 106, 69, 883, 0), (3, 110, 56, 879, 0), (3, 114, 68, 887, 0), (4, 43, 78, 929, 0), (4, 52, 81, 943, 0), (5, 9, 34, 292, 1), (7, 1, 50, 295, 1), (9, 1, 50, 508, 1), (10, 108, 116, 1246, 0), (10, 118, 117, 1262, 0), (10, 122, 102, 1240, 0), (10, 125, 103, 1243, 0), (10, 128, 104, 1249, 0), (10, 131, 105, 1258, 0), (10, 134, 106, 1266, 0), (10, 138, 107, 1274, 0), (10, 154, 131, 1298, 0), (10, 166, 134, 1313, 0), (10, 172, 132, 1305, 0), (10, 176, 133, 1309, 0), (10, 179, 118, 1294, 0), (10, 183, 119, 1301, 0), (10, 202, 115, 1337, 0), (10, 205, 120, 1333, 0), (10, 208, 121, 1341, 0), (10, 212, 125, 1345, 0), (10, 224, 135, 1357, 0), (10, 227, 136, 1361, 0), (10, 230, 112, 1329, 0), (10, 234, 122, 1349, 0), (10, 237, 123, 1353, 0), (10, 240, 124, 1365, 0), (10, 243, 108, 1290, 0), (10, 247, 109, 1317, 0), (10, 250, 110, 1321, 0), (10, 257, 111, 1325, 0), (10, 263, 113, 1369, 0), (10, 266, 114, 1389, 0), (10, 278, 128, 1377, 0), (10, 281, 126, 1373, 0), (10, 284, 127, 1381, 0), (10, 287, 129, 1385, 0), (10, 290, 137, 1398, 0), (10, 294, 130, 1394, 0), (11, 1, 139, 126, 0), (11, 50, 143, 962, 0), (11, 53, 151, 721, 0), (11, 329, 146, 1040, 0), (11, 333, 154, 579, 0), (11, 343, 145, 768, 0), (12, 83, 149, 617, 0), (12, 100, 148, 582, 0), (12, 104, 155, 586, 0), (12, 108, 156, 601, 0), (12, 114, 160, 590, 0), (12, 138, 152, 1043, 0), (12, 144, 153, 1044, 0), (12, 191, 150, 965, 0), (12, 245, 157, 724, 0), (12, 248, 158, 727, 0), (15, 1059, 159, 977, 0), (16, 304, 152, 611, 0), (19, 194, 161, 593, 0)]
def CLL : List (Nat × Nat × Nat × Nat) := [(0, 8, 0, 73), (0, 56, 9, 1053), (1, 15, 1, 81), (1, 22, 2, 113), (1, 36, 7, 261), (1, 42, 8, 263), (1, 59, 11, 405), (1, 62, 12, 484), (1, 73, 5, 503), (1, 84, 6, 536), (1, 164, 13, 891), (2, 22, 11, 829), (3, 15, 3, 119), (3, 56, 10, 121), (4, 25, 6, 947), (5, 7, 6, 290)]
def ALL : List (Nat × Nat × Nat × Nat) := [(1, 36, 27, 261), (3, 15, 26, 119)]
def KLI : List (Nat × Nat × Nat × Nat) := [(1, 3, 5590594, 475), (1, 4, 5590597, 476), (1, 5, 5590599, 477), (1, 6, 5590600, 478), (1, 7, 5590612, 479), (1, 8, 5590618, 480), (10, 112, 5590594, 1252), (10, 113, 5590618, 1253), (10, 114, 5590599, 1254), (10, 115, 5590597, 1255), (10, 116, 5590600, 1256), (10, 117, 5590612, 1257), (10, 293, 5587785, 1393), (10, 298, 5587782, 1402), (10, 299, 5587789, 1403), (12, 39, 2147483647, 600), (19, 200, 2147483639, 596)]
def KLL : List (Nat × Nat × Nat × Nat) := [(0, 59, 4294967295, 1432), (1, 53, 255, 376)]
def STL : List (Nat × Nat × Nat × Nat) := [(12, 18, 0, 130), (15, 1053, 3, 660), (17, 83, 2, 730), (17, 87, 1, 732)]
def CPL : List (Nat × Nat × Nat × Nat) := [(16, 150, 1002, 614)]
def OBL : List (Nat × Nat × Nat) := [(1, 9, 78), (2, 3, 86), (3, 3, 118), (4, 3, 268), (5, 1, 289), (6, 1, 160), (8, 1, 298), (10, 1, 1058), (12, 3, 129)]
def EXL : List (Nat × Nat × Nat × Nat) := [(1, 61, 11, 446), (1, 64, 12, 493), (1, 166, 13, 900), (2, 24, 11, 830)]
def BGL : List (Nat × Nat × Nat) := [(4, 46, 933), (7, 13, 939)]
def VSL : List (Nat × Nat × Nat × Nat) := [(0, 12, 4, 0), (0, 14, 374, 0), (0, 15, 379, 0), (0, 16, 383, 0), (0, 17, 387, 0), (0, 22, 396, 0), (0, 23, 530, 0), (0, 24, 543, 0), (0, 25, 550, 0), (0, 26, 561, 0), (0, 27, 1002, 0), (0, 28, 1009, 0), (0, 29, 1016, 0), (0, 30, 1023, 0), (0, 31, 1030, 0), (0, 32, 1051, 0), (0, 35, 0, 0), (0, 40, 2, 0), (0, 42, 3, 0), (0, 45, 9, 0), (0, 57, 10, 0), (0, 58, 11, 0), (1, 53, 569, 0), (1, 64, 5, 0), (1, 65, 6, 0), (1, 66, 7, 0), (1, 77, 8, 0), (2, 48, 877, 0), (2, 55, 869, 0), (2, 56, 881, 0), (2, 63, 573, 0), (2, 67, 873, 0), (2, 68, 889, 0), (2, 69, 885, 0), (2, 76, 843, 0), (2, 82, 851, 0), (2, 83, 855, 0), (2, 84, 859, 0), (6, 52, 523, 0), (8, 70, 923, 0), (8, 71, 927, 0), (8, 72, 950, 0), (8, 78, 12, 0), (8, 81, 13, 0), (9, 86, 1226, 0), (9, 87, 1230, 0), (9, 88, 1234, 0), (9, 89, 1238, 0), (9, 90, 1222, 0), (9, 91, 1272, 0), (9, 92, 1280, 0), (9, 93, 1284, 0), (9, 94, 1288, 0), (9, 95, 1406, 0), (9, 96, 1410, 0), (9, 97, 1414, 0), (9, 98, 1418, 0), (9, 99, 1422, 0), (9, 100, 1426, 0), (9, 101, 1430, 0), (9, 105, 14, 0), (9, 106, 16, 0), (9, 107, 17, 0), (9, 108, 18, 0), (9, 109, 24, 0), (9, 110, 25, 0), (9, 111, 26, 0), (9, 112, 27, 0), (9, 113, 37, 0), (9, 114, 42, 0), (9, 115, 29, 0), (9, 117, 15, 0), (9, 118, 19, 0), (9, 119, 20, 0), (9, 120, 28, 0), (9, 121, 30, 0), (9, 122, 32, 0), (9, 123, 33, 0), (9, 124, 36, 0), (9, 125, 31, 0), (9, 126, 38, 0), (9, 127, 40, 0), (9, 128, 39, 0), (9, 129, 41, 0), (9, 130, 43, 0), (9, 132, 21, 0), (9, 133, 22, 0), (9, 134, 23, 0), (9, 135, 34, 0), (9, 136, 35, 0), (9, 137, 44, 0), (10, 140, 960, 0), (10, 141, 1445, 0), (10, 142, 1038, 0), (10, 144, 719, 0), (10, 147, 577, 0), (10, 148, 583, 1), (10, 149, 620, 0), (10, 155, 587, 1)]
def UPL : List (Nat × Nat × Nat × Nat) := [(11, 143, 1444, 152), (11, 145, 764, 152), (11, 146, 1446, 152), (11, 151, 1443, 152), (11, 154, 1435, 152)]
def fck (f : Nat × Nat × Nat × Nat × Nat × Nat) : Bool := match f with
  | (o, i, c, k, j, 0) => tw j (.fieldLink (onm o) i (Ff c k).1 (Ff c k).2.1 (Ff c k).2.2.1)
  | (o, i, c, k, j, 1) => tw j (.fieldLinkNest (onm o) i (Ff c k).1 (Ff c k).2.1 (Ff c k).2.2.1 "InterchangeDesk")
  | (o, i, c, k, j, _) => tw j (.fieldLink (onm o) i "InterchangeDesk$Group" (Ff c k).2.1 (Ff c k).2.2.1) && tw 309 (.sameField "InterchangeDesk$Group" (Ff c k).1 (Ff c k).2.1 (Ff c k).2.2.1)
theorem FLL_ok : FLL.all fck = true := by decide +kernel
def mck (f : Nat × Nat × Nat × Nat × Nat) : Bool := match f with
  | (o, i, m, j, 0) => tw j (.methodLink (onm o) i (mnm m))
  | (o, i, m, j, _) => tw j (.methodLinkNest (onm o) i (mnm m) "InterchangeDesk")
theorem MLL_ok : MLL.all mck = true := by decide +kernel
theorem CLL_ok : CLL.all (fun f => tw f.2.2.2 (.classLink (onm f.1) f.2.1 (cnm f.2.2.1))) = true := by decide +kernel
def arC (k : Nat) : String := if k = 26 then "InterchangeDesk$Segment" else "InterchangeDesk$Table"
theorem ALL_ok : ALL.all (fun f => tw f.2.2.2 (.classLink (onm f.1) f.2.1 (arC f.2.2.1))) = true := by decide +kernel
theorem KLI_ok : KLI.all (fun f => tw f.2.2.2 (.constant (onm f.1) f.2.1 (Int32.ofNat f.2.2.1)) && decide (f.2.2.1 < 2147483648)) = true := by decide +kernel
theorem KLL_ok : KLL.all (fun f => tw f.2.2.2 (.constantLong (onm f.1) f.2.1 (Int64.ofNat f.2.2.1)) && decide (f.2.2.1 < 9223372036854775808)) = true := by decide +kernel
def stC (k : Nat) : String × String × String := match k with
  | 0 => ("java/lang/String", "COMPACT_STRINGS", "Z")
  | 1 => ("java/lang/Integer", "DigitTens", "[B")
  | 2 => ("java/lang/Integer", "DigitOnes", "[B")
  | _ => ("jdk/internal/util/Preconditions", "SIOOBE_FORMATTER", "Ljava/util/function/BiFunction;")
theorem STL_ok : STL.all (fun f => tw f.2.2.2 (.fieldLink (onm f.1) f.2.1 (stC f.2.2.1).1 (stC f.2.2.1).2.1 (stC f.2.2.1).2.2)) = true := by decide +kernel
def acpN : MethodName := ⟨"java/lang/System", "arraycopy", "(Ljava/lang/Object;ILjava/lang/Object;II)V"⟩
theorem CPL_ok : CPL.all (fun f => tw f.2.2.2 (.methodLink (onm f.1) f.2.1 acpN)) = true := by decide +kernel
theorem OBL_ok : OBL.all (fun f => tw f.2.2 (.methodLink (onm f.1) f.2.1 objectInit)) = true := by decide +kernel
def exN (c : Nat) : MethodName := ⟨cnm c, "<init>", "()V"⟩
theorem EXL_ok : EXL.all (fun f => tw f.2.2.2 (.methodLink (onm f.1) f.2.1 (exN f.2.2.1))) = true := by decide +kernel
def begN : MethodName := ⟨"InterchangeDesk$Item", "begins", "(I)Z"⟩
theorem BGL_ok : BGL.all (fun f => tw f.2.2 (.methodLink (onm f.1) f.2.1 begN)) = true := by decide +kernel
theorem VSL_ok : VSL.all (fun f => if Nat.beq f.2.2.2 0 then tw f.2.2.1 (.selects (cnm f.1) (mnm f.2.1) (mnm f.2.1)) else tw f.2.2.1 (.privateMethod (mnm f.2.1)) && (decide ((mnm f.2.1).cls = (mnm 149).cls) && tw 620 (.selects (cnm 10) (mnm 149) (mnm 149)))) = true := by decide +kernel
theorem UPL_ok : UPL.all (fun f => tw f.2.2.1 (.sameMethod (mnm f.2.1).cls (mnm f.2.1).cls (mnm f.2.1).name (mnm f.2.1).desc) && tw f.2.2.2 (.superclass (onm f.1) (mnm f.2.1).cls)) = true := by decide +kernel
set_option maxRecDepth 100000 in
theorem cw1 : lw_tbl[391]? = some (cwd 1) := rfl
set_option maxRecDepth 100000 in
theorem cw2 : lw_tbl[527]? = some (cwd 2) := rfl
set_option maxRecDepth 100000 in
theorem cw3 : lw_tbl[540]? = some (cwd 3) := rfl
set_option maxRecDepth 100000 in
theorem cw4 : lw_tbl[547]? = some (cwd 4) := rfl
set_option maxRecDepth 100000 in
theorem cw5 : lw_tbl[557]? = some (cwd 5) := rfl
set_option maxRecDepth 100000 in
theorem cw6 : lw_tbl[999]? = some (cwd 6) := rfl
set_option maxRecDepth 100000 in
theorem cw7 : lw_tbl[1006]? = some (cwd 7) := rfl
set_option maxRecDepth 100000 in
theorem cw8 : lw_tbl[1013]? = some (cwd 8) := rfl
set_option maxRecDepth 100000 in
theorem cw9 : lw_tbl[1020]? = some (cwd 9) := rfl
set_option maxRecDepth 100000 in
theorem cw10 : lw_tbl[1027]? = some (cwd 10) := rfl
set_option maxRecDepth 100000 in
theorem cw11 : lw_tbl[1048]? = some (cwd 11) := rfl
set_option maxRecDepth 100000 in
theorem cw12 : lw_tbl[566]? = some (cwd 12) := rfl
set_option maxRecDepth 100000 in
theorem cw13 : lw_tbl[77]? = some (cwd 13) := rfl
set_option maxRecDepth 100000 in
theorem cw14 : lw_tbl[375]? = some (cwd 14) := rfl
set_option maxRecDepth 100000 in
theorem cw15 : lw_tbl[380]? = some (cwd 15) := rfl
set_option maxRecDepth 100000 in
theorem cw16 : lw_tbl[384]? = some (cwd 16) := rfl
set_option maxRecDepth 100000 in
theorem cw17 : lw_tbl[388]? = some (cwd 17) := rfl
set_option maxRecDepth 100000 in
theorem cw18 : lw_tbl[85]? = some (cwd 18) := rfl
set_option maxRecDepth 100000 in
theorem cw19 : lw_tbl[117]? = some (cwd 19) := rfl
set_option maxRecDepth 100000 in
theorem cw20 : lw_tbl[267]? = some (cwd 20) := rfl
set_option maxRecDepth 100000 in
theorem cw21 : lw_tbl[288]? = some (cwd 21) := rfl
set_option maxRecDepth 100000 in
theorem cw22 : lw_tbl[397]? = some (cwd 22) := rfl
set_option maxRecDepth 100000 in
theorem cw23 : lw_tbl[531]? = some (cwd 23) := rfl
set_option maxRecDepth 100000 in
theorem cw24 : lw_tbl[544]? = some (cwd 24) := rfl
set_option maxRecDepth 100000 in
theorem cw25 : lw_tbl[551]? = some (cwd 25) := rfl
set_option maxRecDepth 100000 in
theorem cw26 : lw_tbl[562]? = some (cwd 26) := rfl
set_option maxRecDepth 100000 in
theorem cw27 : lw_tbl[1003]? = some (cwd 27) := rfl
set_option maxRecDepth 100000 in
theorem cw28 : lw_tbl[1010]? = some (cwd 28) := rfl
set_option maxRecDepth 100000 in
theorem cw29 : lw_tbl[1017]? = some (cwd 29) := rfl
set_option maxRecDepth 100000 in
theorem cw30 : lw_tbl[1024]? = some (cwd 30) := rfl
set_option maxRecDepth 100000 in
theorem cw31 : lw_tbl[1031]? = some (cwd 31) := rfl
set_option maxRecDepth 100000 in
theorem cw32 : lw_tbl[1052]? = some (cwd 32) := rfl
set_option maxRecDepth 100000 in
theorem cw33 : lw_tbl[159]? = some (cwd 33) := rfl
set_option maxRecDepth 100000 in
theorem cw34 : lw_tbl[294]? = some (cwd 34) := rfl
set_option maxRecDepth 100000 in
theorem cw35 : lw_tbl[401]? = some (cwd 35) := rfl
set_option maxRecDepth 100000 in
theorem cw36 : lw_tbl[471]? = some (cwd 36) := rfl
set_option maxRecDepth 100000 in
theorem cw37 : lw_tbl[474]? = some (cwd 37) := rfl
set_option maxRecDepth 100000 in
theorem cw38 : lw_tbl[404]? = some (cwd 38) := rfl
set_option maxRecDepth 100000 in
theorem cw39 : lw_tbl[483]? = some (cwd 39) := rfl
set_option maxRecDepth 100000 in
theorem cw40 : lw_tbl[502]? = some (cwd 40) := rfl
set_option maxRecDepth 100000 in
theorem cw41 : lw_tbl[520]? = some (cwd 41) := rfl
set_option maxRecDepth 100000 in
theorem cw42 : lw_tbl[535]? = some (cwd 42) := rfl
set_option maxRecDepth 100000 in
theorem cw43 : lw_tbl[554]? = some (cwd 43) := rfl
set_option maxRecDepth 100000 in
theorem cw44 : lw_tbl[863]? = some (cwd 44) := rfl
set_option maxRecDepth 100000 in
theorem cw45 : lw_tbl[909]? = some (cwd 45) := rfl
set_option maxRecDepth 100000 in
theorem cw46 : lw_tbl[954]? = some (cwd 46) := rfl
set_option maxRecDepth 100000 in
theorem cw47 : lw_tbl[991]? = some (cwd 47) := rfl
set_option maxRecDepth 100000 in
theorem cw48 : lw_tbl[878]? = some (cwd 48) := rfl
set_option maxRecDepth 100000 in
theorem cw49 : lw_tbl[1034]? = some (cwd 49) := rfl
set_option maxRecDepth 100000 in
theorem cw50 : lw_tbl[297]? = some (cwd 50) := rfl
set_option maxRecDepth 100000 in
theorem cw51 : lw_tbl[507]? = some (cwd 51) := rfl
set_option maxRecDepth 100000 in
theorem cw52 : lw_tbl[524]? = some (cwd 52) := rfl
set_option maxRecDepth 100000 in
theorem cw53 : lw_tbl[570]? = some (cwd 53) := rfl
set_option maxRecDepth 100000 in
theorem cw54 : lw_tbl[866]? = some (cwd 54) := rfl
set_option maxRecDepth 100000 in
theorem cw55 : lw_tbl[870]? = some (cwd 55) := rfl
set_option maxRecDepth 100000 in
theorem cw56 : lw_tbl[882]? = some (cwd 56) := rfl
set_option maxRecDepth 100000 in
theorem cw57 : lw_tbl[914]? = some (cwd 57) := rfl
set_option maxRecDepth 100000 in
theorem cw58 : lw_tbl[920]? = some (cwd 58) := rfl
set_option maxRecDepth 100000 in
theorem cw59 : lw_tbl[957]? = some (cwd 59) := rfl
set_option maxRecDepth 100000 in
theorem cw60 : lw_tbl[982]? = some (cwd 60) := rfl
set_option maxRecDepth 100000 in
theorem cw61 : lw_tbl[985]? = some (cwd 61) := rfl
set_option maxRecDepth 100000 in
theorem cw62 : lw_tbl[994]? = some (cwd 62) := rfl
set_option maxRecDepth 100000 in
theorem cw63 : lw_tbl[574]? = some (cwd 63) := rfl
set_option maxRecDepth 100000 in
theorem cw64 : lw_tbl[824]? = some (cwd 64) := rfl
set_option maxRecDepth 100000 in
theorem cw65 : lw_tbl[828]? = some (cwd 65) := rfl
set_option maxRecDepth 100000 in
theorem cw66 : lw_tbl[840]? = some (cwd 66) := rfl
set_option maxRecDepth 100000 in
theorem cw67 : lw_tbl[874]? = some (cwd 67) := rfl
set_option maxRecDepth 100000 in
theorem cw68 : lw_tbl[890]? = some (cwd 68) := rfl
set_option maxRecDepth 100000 in
theorem cw69 : lw_tbl[886]? = some (cwd 69) := rfl
set_option maxRecDepth 100000 in
theorem cw70 : lw_tbl[924]? = some (cwd 70) := rfl
set_option maxRecDepth 100000 in
theorem cw71 : lw_tbl[928]? = some (cwd 71) := rfl
set_option maxRecDepth 100000 in
theorem cw72 : lw_tbl[951]? = some (cwd 72) := rfl
set_option maxRecDepth 100000 in
theorem cw73 : lw_tbl[988]? = some (cwd 73) := rfl
set_option maxRecDepth 100000 in
theorem cw74 : lw_tbl[833]? = some (cwd 74) := rfl
set_option maxRecDepth 100000 in
theorem cw75 : lw_tbl[836]? = some (cwd 75) := rfl
set_option maxRecDepth 100000 in
theorem cw76 : lw_tbl[844]? = some (cwd 76) := rfl
set_option maxRecDepth 100000 in
theorem cw77 : lw_tbl[848]? = some (cwd 77) := rfl
set_option maxRecDepth 100000 in
theorem cw78 : lw_tbl[932]? = some (cwd 78) := rfl
set_option maxRecDepth 100000 in
theorem cw79 : lw_tbl[941]? = some (cwd 79) := rfl
set_option maxRecDepth 100000 in
theorem cw80 : lw_tbl[938]? = some (cwd 80) := rfl
set_option maxRecDepth 100000 in
theorem cw81 : lw_tbl[946]? = some (cwd 81) := rfl
set_option maxRecDepth 100000 in
theorem cw82 : lw_tbl[852]? = some (cwd 82) := rfl
set_option maxRecDepth 100000 in
theorem cw83 : lw_tbl[856]? = some (cwd 83) := rfl
set_option maxRecDepth 100000 in
theorem cw84 : lw_tbl[860]? = some (cwd 84) := rfl
set_option maxRecDepth 100000 in
theorem cw85 : lw_tbl[1057]? = some (cwd 85) := rfl
set_option maxRecDepth 100000 in
theorem cw86 : lw_tbl[1227]? = some (cwd 86) := rfl
set_option maxRecDepth 100000 in
theorem cw87 : lw_tbl[1231]? = some (cwd 87) := rfl
set_option maxRecDepth 100000 in
theorem cw88 : lw_tbl[1235]? = some (cwd 88) := rfl
set_option maxRecDepth 100000 in
theorem cw89 : lw_tbl[1239]? = some (cwd 89) := rfl
set_option maxRecDepth 100000 in
theorem cw90 : lw_tbl[1223]? = some (cwd 90) := rfl
set_option maxRecDepth 100000 in
theorem cw91 : lw_tbl[1273]? = some (cwd 91) := rfl
set_option maxRecDepth 100000 in
theorem cw92 : lw_tbl[1281]? = some (cwd 92) := rfl
set_option maxRecDepth 100000 in
theorem cw93 : lw_tbl[1285]? = some (cwd 93) := rfl
set_option maxRecDepth 100000 in
theorem cw94 : lw_tbl[1289]? = some (cwd 94) := rfl
set_option maxRecDepth 100000 in
theorem cw95 : lw_tbl[1407]? = some (cwd 95) := rfl
set_option maxRecDepth 100000 in
theorem cw96 : lw_tbl[1411]? = some (cwd 96) := rfl
set_option maxRecDepth 100000 in
theorem cw97 : lw_tbl[1415]? = some (cwd 97) := rfl
set_option maxRecDepth 100000 in
theorem cw98 : lw_tbl[1419]? = some (cwd 98) := rfl
set_option maxRecDepth 100000 in
theorem cw99 : lw_tbl[1423]? = some (cwd 99) := rfl
set_option maxRecDepth 100000 in
theorem cw100 : lw_tbl[1427]? = some (cwd 100) := rfl
set_option maxRecDepth 100000 in
theorem cw101 : lw_tbl[1431]? = some (cwd 101) := rfl
set_option maxRecDepth 100000 in
theorem cw102 : lw_tbl[1242]? = some (cwd 102) := rfl
set_option maxRecDepth 100000 in
theorem cw103 : lw_tbl[1245]? = some (cwd 103) := rfl
set_option maxRecDepth 100000 in
theorem cw104 : lw_tbl[1251]? = some (cwd 104) := rfl
set_option maxRecDepth 100000 in
theorem cw105 : lw_tbl[1261]? = some (cwd 105) := rfl
set_option maxRecDepth 100000 in
theorem cw106 : lw_tbl[1269]? = some (cwd 106) := rfl
set_option maxRecDepth 100000 in
theorem cw107 : lw_tbl[1277]? = some (cwd 107) := rfl
set_option maxRecDepth 100000 in
theorem cw108 : lw_tbl[1293]? = some (cwd 108) := rfl
set_option maxRecDepth 100000 in
theorem cw109 : lw_tbl[1320]? = some (cwd 109) := rfl
set_option maxRecDepth 100000 in
theorem cw110 : lw_tbl[1324]? = some (cwd 110) := rfl
set_option maxRecDepth 100000 in
theorem cw111 : lw_tbl[1328]? = some (cwd 111) := rfl
set_option maxRecDepth 100000 in
theorem cw112 : lw_tbl[1332]? = some (cwd 112) := rfl
set_option maxRecDepth 100000 in
theorem cw113 : lw_tbl[1372]? = some (cwd 113) := rfl
set_option maxRecDepth 100000 in
theorem cw114 : lw_tbl[1392]? = some (cwd 114) := rfl
set_option maxRecDepth 100000 in
theorem cw115 : lw_tbl[1340]? = some (cwd 115) := rfl
set_option maxRecDepth 100000 in
theorem cw116 : lw_tbl[1248]? = some (cwd 116) := rfl
set_option maxRecDepth 100000 in
theorem cw117 : lw_tbl[1265]? = some (cwd 117) := rfl
set_option maxRecDepth 100000 in
theorem cw118 : lw_tbl[1297]? = some (cwd 118) := rfl
set_option maxRecDepth 100000 in
theorem cw119 : lw_tbl[1304]? = some (cwd 119) := rfl
set_option maxRecDepth 100000 in
theorem cw120 : lw_tbl[1336]? = some (cwd 120) := rfl
set_option maxRecDepth 100000 in
theorem cw121 : lw_tbl[1344]? = some (cwd 121) := rfl
set_option maxRecDepth 100000 in
theorem cw122 : lw_tbl[1352]? = some (cwd 122) := rfl
set_option maxRecDepth 100000 in
theorem cw123 : lw_tbl[1356]? = some (cwd 123) := rfl
set_option maxRecDepth 100000 in
theorem cw124 : lw_tbl[1368]? = some (cwd 124) := rfl
set_option maxRecDepth 100000 in
theorem cw125 : lw_tbl[1348]? = some (cwd 125) := rfl
set_option maxRecDepth 100000 in
theorem cw126 : lw_tbl[1376]? = some (cwd 126) := rfl
set_option maxRecDepth 100000 in
theorem cw127 : lw_tbl[1384]? = some (cwd 127) := rfl
set_option maxRecDepth 100000 in
theorem cw128 : lw_tbl[1380]? = some (cwd 128) := rfl
set_option maxRecDepth 100000 in
theorem cw129 : lw_tbl[1388]? = some (cwd 129) := rfl
set_option maxRecDepth 100000 in
theorem cw130 : lw_tbl[1397]? = some (cwd 130) := rfl
set_option maxRecDepth 100000 in
theorem cw131 : lw_tbl[1300]? = some (cwd 131) := rfl
set_option maxRecDepth 100000 in
theorem cw132 : lw_tbl[1308]? = some (cwd 132) := rfl
set_option maxRecDepth 100000 in
theorem cw133 : lw_tbl[1312]? = some (cwd 133) := rfl
set_option maxRecDepth 100000 in
theorem cw134 : lw_tbl[1316]? = some (cwd 134) := rfl
set_option maxRecDepth 100000 in
theorem cw135 : lw_tbl[1360]? = some (cwd 135) := rfl
set_option maxRecDepth 100000 in
theorem cw136 : lw_tbl[1364]? = some (cwd 136) := rfl
set_option maxRecDepth 100000 in
theorem cw137 : lw_tbl[1401]? = some (cwd 137) := rfl
set_option maxRecDepth 100000 in
theorem cw138 : lw_tbl[125]? = some (cwd 138) := rfl
set_option maxRecDepth 100000 in
theorem cw139 : lw_tbl[128]? = some (cwd 139) := rfl
set_option maxRecDepth 100000 in
theorem cw140 : lw_tbl[961]? = some (cwd 140) := rfl
set_option maxRecDepth 100000 in
theorem cw141 : lw_tbl[767]? = some (cwd 141) := rfl
set_option maxRecDepth 100000 in
theorem cw142 : lw_tbl[1039]? = some (cwd 142) := rfl
set_option maxRecDepth 100000 in
theorem cw143 : lw_tbl[964]? = some (cwd 143) := rfl
set_option maxRecDepth 100000 in
theorem cw144 : lw_tbl[720]? = some (cwd 144) := rfl
set_option maxRecDepth 100000 in
theorem cw145 : lw_tbl[769]? = some (cwd 145) := rfl
set_option maxRecDepth 100000 in
theorem cw146 : lw_tbl[1042]? = some (cwd 146) := rfl
set_option maxRecDepth 100000 in
theorem cw147 : lw_tbl[578]? = some (cwd 147) := rfl
set_option maxRecDepth 100000 in
theorem cw148 : lw_tbl[585]? = some (cwd 148) := rfl
set_option maxRecDepth 100000 in
theorem cw149 : lw_tbl[621]? = some (cwd 149) := rfl
set_option maxRecDepth 100000 in
theorem cw150 : lw_tbl[967]? = some (cwd 150) := rfl
set_option maxRecDepth 100000 in
theorem cw151 : lw_tbl[723]? = some (cwd 151) := rfl
set_option maxRecDepth 100000 in
theorem cw152 : lw_tbl[613]? = some (cwd 152) := rfl
set_option maxRecDepth 100000 in
theorem cw153 : lw_tbl[976]? = some (cwd 153) := rfl
set_option maxRecDepth 100000 in
theorem cw154 : lw_tbl[581]? = some (cwd 154) := rfl
set_option maxRecDepth 100000 in
theorem cw155 : lw_tbl[589]? = some (cwd 155) := rfl
set_option maxRecDepth 100000 in
theorem cw156 : lw_tbl[603]? = some (cwd 156) := rfl
set_option maxRecDepth 100000 in
theorem cw157 : lw_tbl[726]? = some (cwd 157) := rfl
set_option maxRecDepth 100000 in
theorem cw158 : lw_tbl[729]? = some (cwd 158) := rfl
set_option maxRecDepth 100000 in
theorem cw159 : lw_tbl[979]? = some (cwd 159) := rfl
set_option maxRecDepth 100000 in
theorem cw160 : lw_tbl[592]? = some (cwd 160) := rfl
set_option maxRecDepth 100000 in
theorem cw161 : lw_tbl[595]? = some (cwd 161) := rfl
theorem SIX_ok : (List.range 162).all (fun j => decide (j = 0) || tw (SIX.getD j 0) (iwd j)) = true := by decide +kernel
theorem IIX_ok : (List.range 162).all (fun j => tw (IIX.getD j 0) (.initialized (mnm j).cls)) = true := by decide +kernel
def LIX : List (List Nat) := [[353, 355, 357, 359, 361, 363, 365, 367, 369], [97, 99, 101, 103, 105, 107, 109], [216, 218, 220, 222, 224, 226, 228, 230, 232, 234, 236, 238, 240, 242, 244, 246, 248, 250, 252, 254, 256, 258], [167, 169, 171], [513, 514, 515, 516], [513, 514, 515, 516, 511], [319, 321, 323, 325, 315, 317], [335, 337, 339, 341], [274, 276, 278, 280, 282], [1112, 1114, 1116, 1118, 1120, 1122, 1124, 1126, 1128, 1130, 1132, 1134, 1136, 1138, 1140, 1142, 1144, 1146, 1148, 1150, 1152, 1154, 1156, 1158, 1160, 1162, 1164, 1166, 1168, 1170, 1172, 1174, 1176, 1178, 1180, 1182, 1184, 1186, 1188, 1190, 1192, 1194, 1196, 1198, 1200, 1202, 1204, 1206, 1208, 1210, 1212, 1214, 1216], [144, 146, 148, 150]]
theorem LIX_ok : (List.range 11).all (fun c => decide (c = 4) || (List.range (clN c)).all (fun k => tw ((LIX.getD c []).getD k 0) (u_lay (cnm c) (Ff c) k))) = true := by decide +kernel
def tyF (t : Nat) (d : String) : Bool := match parseFieldDescriptor d with
  | some .int => Nat.beq t 0
  | some .char => Nat.beq t 1
  | some .short => Nat.beq t 2
  | some .byte => Nat.beq t 3
  | some .boolean => Nat.beq t 4
  | some (.object _) => Nat.beq t 5
  | some (.array _) => Nat.beq t 5
  | _ => false
theorem FTY_ok : (List.range 11).all (fun c => (List.range (clN c)).all (fun k => tyF (fty c k) (Ff c k).2.2.1)) = true := by decide +kernel
theorem FNM_ok : (List.range 11).all (fun c => (List.range (clN c)).all (fun a => (List.range (clN c)).all (fun b => decide (a = b) || !decide ((Ff c a).2.1 = (Ff c b).2.1)))) = true := by decide +kernel
def NIX : List Nat := [74, 82, 114, 156, 0, 504, 291, 285, 264, 1054, 122, 406, 485, 892]
def NJX : List Nat := [46, 47, 48, 53, 56, 64, 57, 55, 54, 58, 50, 62, 63, 72]
def nsl (c : Nat) : Nat := if c ≤ 10 then clN c else 6
theorem NIX_ok : (List.range 14).all (fun c => decide (c = 4) || (tw (NIX.getD c 0) (.instantiable (cnm c) (nsl c)) && tw (NJX.getD c 0) (.initialized (cnm c)))) = true := by decide +kernel
theorem oi_ok : tw 79 (.instanceMethod objectInit) = true ∧ tw 80 (.code objectInit ⟨#[0xb1]⟩ 1 none) = true := by decide +kernel
def arT (k : Nat) : FieldType := match k with
  | 20 => .int
  | 21 => .char
  | 22 => .short
  | 23 => .byte
  | 24 => .boolean
  | 25 => .long
  | 26 => .object "InterchangeDesk$Segment"
  | _ => .object "InterchangeDesk$Table"
def AIX : List Nat := [154, 112, 153, 155, 1219, 1433]
theorem AIX_ok : (List.range 6).all (fun k => tw (AIX.getD k 0) (.arrayClass (arT (20 + k)))) = true := by decide +kernel
theorem AO_ok : tw 120 (.arrayOver (arT 26)) = true ∧ tw 262 (.arrayOver (arT 27)) = true := by decide +kernel
theorem ca_ok : tw 1447 (.castable (cnm 5) (cnm 5)) = true ∧ tw 1448 (.castable (cnm 6) (cnm 6)) = true := by decide +kernel
theorem bg_ok : tw 942 (.selects (cnm 5) begN (mnm 79)) = true ∧ tw 936 (.selects (cnm 6) begN (mnm 80)) = true ∧ tw 934 (.declares begN) = true ∧ tw 935 (.sameMethod begN.cls begN.cls begN.name begN.desc) = true ∧ tw 56 (.initialized "InterchangeDesk$Item") = true := by decide +kernel
theorem cp_ok : tw 616 (.native acpN) = true ∧ tw 615 (.static acpN) = true := by decide +kernel
theorem ls_ok : (List.range 4).all (fun k => tw ([131, 733, 731, 661].getD k 0) (.laysStatic (stC k).1 (stC k).2.1 (stC k).2.2)) = true := by decide +kernel
def lps (mi : Nat) : Nat := if mi = 14 ∨ mi = 86 then 1 else 99
def atc (t : ArrayType) : Nat := match t with
  | .int => 20
  | .char => 21
  | .short => 22
  | .byte => 23
  | .boolean => 24
  | .long => 25
  | _ => 0
def cls1 (r : Nat) : List Nat := if r = 4 then [5, 6] else [r]
def rtc (t : Option FieldType) : Nat := match t with
  | some .int => 0
  | some .char => 1
  | some .short => 2
  | some .byte => 3
  | some .boolean => 4
  | some (.object _) => 5
  | some (.array _) => 5
  | none => 7
  | _ => 6
def has2 (l : List (Nat × Nat × Nat)) (a b : Nat) : Bool := l.any (fun f => Nat.beq f.1 a && Nat.beq f.2.1 b)
def has3 (l : List (Nat × Nat × Nat × Nat)) (a b c : Nat) : Bool := l.any (fun f => Nat.beq f.1 a && (Nat.beq f.2.1 b && Nat.beq f.2.2.1 c))
def hasM (a b c : Nat) : Bool := MLL.any (fun f => Nat.beq f.1 a && (Nat.beq f.2.1 b && Nat.beq f.2.2.1 c))
def hasF (a b c k : Nat) : Bool := FLL.any (fun f => Nat.beq f.1 a && (Nat.beq f.2.1 b && (Nat.beq f.2.2.1 c && Nat.beq f.2.2.2.1 k)))
def hasV (c m : Nat) : Bool := VSL.any (fun f => Nat.beq f.1 c && Nat.beq f.2.1 m)
def hasU (o m : Nat) : Bool := UPL.any (fun f => Nat.beq f.1 o && Nat.beq f.2.1 m)
def stk (mi i : Nat) : Bool := !(Nat.beq i (lps mi + 1)) && !(Nat.beq i (lps mi))
def lnkE (mi pc : Nat) (e : EN) : Bool := match e with
  | (ins, len, r1, r2, r3, r4) => match ins with
    | .iconst n => decide (-1 ≤ n ∧ n ≤ 5) && Nat.beq len 1
    | .bipush n => decide (-128 ≤ n ∧ n < 128) && Nat.beq len 2
    | .sipush n => decide (-32768 ≤ n ∧ n < 32768) && Nat.beq len 3
    | .if_icmp _ f => decide ((pc : Int) + f = r1) && Nat.beq len 3
    | .ifCond _ f => decide ((pc : Int) + f = r1) && Nat.beq len 3
    | .goto f => decide ((pc : Int) + f = r1) && Nat.beq len 3
    | .ifnull f => decide ((pc : Int) + f = r1) && Nat.beq len 3
    | .ifnonnull f => decide ((pc : Int) + f = r1) && Nat.beq len 3
    | .tableswitch d lo hi l => decide (hi = lo + l.size - 1) && (decide (0 ≤ (pc : Int) + d) && (decide (0 < l.size) && l.toList.all (fun o => decide (0 ≤ (pc : Int) + o))))
    | .lookupswitch d l => decide (0 ≤ (pc : Int) + d) && (l.toList.all (fun o => decide (0 ≤ (pc : Int) + o.2)) && (l.toList.zip (l.toList.drop 1)).all (fun (a, next) => a.1 < next.1))
    | .ldc i => has3 KLI (mow mi) i r1 && Nat.beq len 2
    | .ldc_w i => has3 KLI (mow mi) i r1 && Nat.beq len 3
    | .ldc2_w i => has3 KLL (mow mi) i r1 && Nat.beq len 3
    | .getfield i => (cls1 r1).all (fun c => hasF (mow mi) i c r2 && (Nat.ble c 10 && (!(Nat.beq c 4) && (Nat.blt r2 (clN c) && Nat.beq (fty c r2) r3)))) && Nat.beq len 3
    | .putfield i => (cls1 r1).all (fun c => hasF (mow mi) i c r2 && (Nat.ble c 10 && (!(Nat.beq c 4) && (Nat.blt r2 (clN c) && (Nat.beq (fty c r2) r3 && (!((Ff c r2).2.2.2) || (decide ((Ff c r2).1 = onm (mow mi)) && (decide ((mnm mi).name = "<init>") && FLL.all (fun f => !(Nat.beq f.1 (mow mi) && Nat.beq f.2.1 i) || Nat.beq f.2.2.2.2.2 0))))))))) && Nat.beq len 3
    | .getstatic i => has3 STL (mow mi) i r1 && (Nat.ble r1 3 && Nat.beq len 3)
    | .new i => has3 CLL (mow mi) i r1 && (Nat.ble r1 13 && (!(Nat.beq r1 4) && (Nat.beq r2 (nsl r1) && Nat.beq len 3)))
    | .anewarray i => has3 ALL (mow mi) i r1 && ((Nat.beq r1 26 || Nat.beq r1 27) && Nat.beq len 3)
    | .newarray t => Nat.beq (atc t) r1 && (Nat.ble 20 r1 && Nat.beq len 2)
    | .instanceof i => has3 CLL (mow mi) i r1 && ((Nat.beq r1 5 || Nat.beq r1 6) && Nat.beq len 3)
    | .checkcast i => has3 CLL (mow mi) i r1 && ((Nat.beq r1 5 || Nat.beq r1 6) && Nat.beq len 3)
    | .istore i => stk mi i && (Nat.blt i (mxl mi) && Nat.beq len 2)
    | .astore i => stk mi i && (Nat.blt i (mxl mi) && Nat.beq len 2)
    | .istore_n i => stk mi i.val && (Nat.blt i.val (mxl mi) && Nat.beq len 1)
    | .astore_n i => stk mi i.val && (Nat.blt i.val (mxl mi) && Nat.beq len 1)
    | .iinc i n => stk mi i && (Nat.blt i (mxl mi) && (decide (-128 ≤ n ∧ n < 128) && Nat.beq len 3))
    | .lload_n i => Nat.beq i.val (lps mi) && Nat.beq len 1
    | .iload i => !(Nat.beq i (lps mi)) && Nat.beq len 2
    | .aload i => !(Nat.beq i (lps mi)) && Nat.beq len 2
    | .iload_n i => !(Nat.beq i.val (lps mi)) && Nat.beq len 1
    | .aload_n i => !(Nat.beq i.val (lps mi)) && Nat.beq len 1
    | .invokestatic i => if Nat.beq r1 1002 then has3 CPL (mow mi) i 1002 && (Nat.beq r2 5 && Nat.beq len 3) else hasM (mow mi) i r1 && (Nat.blt r1 162 && (Nat.ble 1 r1 && (mst r1 && (Nat.beq r2 (mar r1) && (Nat.beq len 3 && MLL.all (fun f => !(Nat.beq f.1 (mow mi) && Nat.beq f.2.1 i) || Nat.beq f.2.2.2.2 0))))))
    | .invokespecial i => if Nat.beq r1 1000 then has2 OBL (mow mi) i && (Nat.beq r2 1 && Nat.beq len 3) else if Nat.beq r1 1001 then has3 EXL (mow mi) i r4 && (Nat.beq r2 1 && (Nat.ble 11 r4 && (Nat.ble r4 13 && (Nat.beq len 3 && (Nat.ble 13 mi && decide (decode (mb mi) (pc + 3) = .ok (.athrow, 1))))))) else hasM (mow mi) i r1 && (Nat.blt r1 162 && (Nat.ble 1 r1 && (!(mst r1) && (Nat.beq r2 (mar r1 + 1) && (Nat.beq len 3 && (decide ((mnm r1).name = "<init>") || (hasU (mow mi) r1 && (!(decide ((mnm r1).name = "<init>")) && MLL.all (fun f => !(Nat.beq f.1 (mow mi) && Nat.beq f.2.1 i) || Nat.beq f.2.2.2.2 0)))))))))
    | .invokevirtual i => if Nat.beq r1 500 then has2 BGL (mow mi) i && (Nat.beq r2 2 && Nat.beq len 3) else hasM (mow mi) i r1 && (Nat.blt r1 162 && (Nat.ble 1 r1 && (!(mst r1) && (Nat.beq r2 (mar r1 + 1) && (Nat.beq len 3 && (hasV r4 r1 && (Nat.ble r4 10 && MLL.all (fun f => !(Nat.beq f.1 (mow mi) && Nat.beq f.2.1 i) || Nat.beq f.2.2.2.2 0))))))))
    | .ireturn => Nat.beq r1 (rtc (mrt mi)) && (Nat.ble r1 4 && Nat.beq len 1)
    | .areturn => Nat.beq 5 (rtc (mrt mi)) && Nat.beq len 1
    | .return_ => Nat.beq 7 (rtc (mrt mi)) && Nat.beq len 1
    | _ => Nat.beq len 1
def chkE (mi : Nat) (q : Nat × EN) : Bool := decide (decode (mb mi) q.1 = .ok (q.2.1, q.2.2.1)) && lnkE mi q.1 q.2
