set_option maxRecDepth 100000
/-! the constants: texts 43 -/
def kx_str : List (String × Nat × String × Nat) := [("java/util/ArrayList", 23, "Illegal Capacity: ", 20), ("java/util/Arrays", 337, " > ", 21), ("ArcRecorder$Parser", 40, "", 22), ("ArcRecorder$Parser", 178, "recorder", 23), ("ArcRecorder$Parser", 180, "samples", 24), ("ArcRecorder$Parser", 184, "window", 25), ("ArcRecorder$Parser", 191, "count", 26), ("jdk/internal/util/ArraysSupport", 92, "unrecognized basic type: ", 27), ("ArcRecorder$Parser", 304, "branch", 28), ("ArcRecorder$Parser", 223, "heater", 29), ("ArcRecorder$Parser", 225, "motor", 30), ("ArcRecorder$Parser", 227, "dimmer", 31), ("ArcRecorder$Parser", 306, "arc", 32), ("ArcRecorder$Parser", 308, "seed", 33), ("ArcRecorder$Parser", 309, "signature", 34), ("ArcRecorder$Parser", 311, "nuisance", 35), ("ArcRecorder$Parser", 313, "at", 36), ("ArcRecorder", 40, "recorder", 23), ("ArcRecorder", 42, "samples", 24), ("ArcRecorder", 44, "window", 25), ("ArcRecorder", 46, "count", 26), ("ArcRecorder", 48, "branch", 28), ("ArcRecorder", 50, "rated", 37), ("ArcRecorder", 52, "heater", 29), ("ArcRecorder", 54, "motor", 30), ("ArcRecorder", 56, "dimmer", 31), ("ArcRecorder", 58, "arc", 32), ("ArcRecorder", 60, "of", 38), ("ArcRecorder", 62, "amps", 39), ("ArcRecorder", 64, "lag", 40), ("ArcRecorder", 66, "cut", 41), ("ArcRecorder", 68, "gap", 42), ("ArcRecorder", 70, "out", 43), ("ArcRecorder", 72, "seed", 33), ("ArcRecorder", 74, "signature", 34), ("ArcRecorder", 76, "always", 44), ("ArcRecorder", 78, "and", 45), ("ArcRecorder", 80, "nuisance", 35), ("ArcRecorder", 82, "at", 36), ("ArcRecorder", 84, "on", 46), ("ArcRecorder", 86, "off", 47), ("ArcRecorder", 22, "peak", 48), ("ArcRecorder", 28, "mean", 49), ("ArcRecorder", 30, "flat", 50), ("ArcRecorder", 32, "steep", 51), ("ArcRecorder", 34, "change", 52), ("ArcRecorder", 36, "energy", 53), ("ArcRecorder$Parser", 202, "rated", 37), ("ArcRecorder$Parser", 206, "of", 38), ("ArcRecorder$Parser", 218, "amps", 39), ("ArcRecorder$Parser", 236, "lag", 40), ("ArcRecorder$Parser", 243, "cut", 41), ("ArcRecorder$Parser", 246, "gap", 42), ("ArcRecorder$Parser", 250, "out", 43), ("ArcRecorder$Parser", 283, "always", 44), ("ArcRecorder$Parser", 275, "and", 45), ("ArcRecorder$Parser", 295, "on", 46), ("ArcRecorder$Parser", 297, "off", 47), ("java/util/ArrayDeque", 35, "Sorry, deque too big", 54), ("java/util/ArrayList", 201, "Index: ", 55), ("java/util/ArrayList", 203, ", Size: ", 56), ("java/util/LinkedList", 100, "Index: ", 55), ("java/util/LinkedList", 109, ", Size: ", 56), ("java/lang/Throwable", 81, ": ", 57), ("java/lang/StringIndexOutOfBoundsException", 13, "String index out of range: ", 58), ("java/util/Arrays", 48, "fromIndex(", 59), ("java/util/Arrays", 57, ") > toIndex(", 60), ("java/util/Arrays", 59, ")", 61), ("java/lang/ArrayIndexOutOfBoundsException", 13, "Array index out of range: ", 62), ("ArcRecorderModel", 162, "recorder", 23), ("ArcRecorderModel", 164, "samples", 24), ("ArcRecorderModel", 166, "window", 25), ("ArcRecorderModel", 168, "count", 26), ("ArcRecorderModel", 154, "heater", 29), ("ArcRecorderModel", 156, "motor", 30), ("ArcRecorderModel", 158, "dimmer", 31), ("ArcRecorderModel", 160, "arc", 32), ("ArcRecorderModel", 170, "branch", 28), ("ArcRecorderModel", 172, "rated", 37), ("ArcRecorderModel", 174, "of", 38), ("ArcRecorderModel", 176, "amps", 39), ("ArcRecorderModel", 178, "lag", 40), ("ArcRecorderModel", 180, "cut", 41), ("ArcRecorderModel", 182, "gap", 42), ("ArcRecorderModel", 184, "out", 43), ("ArcRecorderModel", 186, "seed", 33), ("ArcRecorderModel", 188, "signature", 34), ("ArcRecorderModel", 190, "always", 44), ("ArcRecorderModel", 192, "and", 45), ("ArcRecorderModel", 194, "nuisance", 35), ("ArcRecorderModel", 196, "at", 36), ("ArcRecorderModel", 198, "on", 46), ("ArcRecorderModel", 200, "off", 47), ("ArcRecorderModel", 142, "peak", 48), ("ArcRecorderModel", 144, "mean", 49), ("ArcRecorderModel", 146, "flat", 50), ("ArcRecorderModel", 148, "steep", 51), ("ArcRecorderModel", 150, "change", 52), ("ArcRecorderModel", 152, "energy", 53)]
def kx_sta : List (String × String × String × (Int32 ⊕ (Nat × Bool))) := [("java/util/ArrayList", "EMPTY_ELEMENTDATA", "[Ljava/lang/Object;", .inr (0, true)), ("java/util/ArrayList", "DEFAULTCAPACITY_EMPTY_ELEMENTDATA", "[Ljava/lang/Object;", .inr (1, true)), ("java/lang/Integer", "DigitOnes", "[B", .inr (2, true)), ("java/lang/Integer", "DigitTens", "[B", .inr (3, true)), ("ArcRecorder$Feature", "$VALUES", "[LArcRecorder$Feature;", .inr (4, true)), ("jdk/internal/util/ArraysSupport", "JLA", "Ljdk/internal/access/JavaLangAccess;", .inr (5, true)), ("ArcRecorder$Token", "END", "LArcRecorder$Token;", .inr (7, true)), ("ArcRecorder$Token", "WORD", "LArcRecorder$Token;", .inr (8, true)), ("ArcRecorder$Token", "NUMBER", "LArcRecorder$Token;", .inr (9, true)), ("ArcRecorder$Token", "SYMBOL", "LArcRecorder$Token;", .inr (10, true)), ("ArcRecorder$Feature", "PEAK", "LArcRecorder$Feature;", .inr (11, true)), ("ArcRecorder$Feature", "MEAN", "LArcRecorder$Feature;", .inr (12, true)), ("ArcRecorder$Feature", "FLAT", "LArcRecorder$Feature;", .inr (13, true)), ("ArcRecorder$Feature", "STEEP", "LArcRecorder$Feature;", .inr (14, true)), ("ArcRecorder$Feature", "CHANGE", "LArcRecorder$Feature;", .inr (15, true)), ("ArcRecorder$Feature", "ENERGY", "LArcRecorder$Feature;", .inr (16, true)), ("java/lang/String", "COMPACT_STRINGS", "Z", .inl 1), ("java/lang/StringUTF16", "$assertionsDisabled", "Z", .inl 1), ("java/lang/StringUTF16", "HI_BYTE_SHIFT", "I", .inl 0), ("java/lang/StringUTF16", "LO_BYTE_SHIFT", "I", .inl 8), ("jdk/internal/util/Preconditions", "SIOOBE_FORMATTER", "Ljava/util/function/BiFunction;", .inr (400, false)), ("java/lang/Throwable", "UNASSIGNED_STACK", "[Ljava/lang/StackTraceElement;", .inr (401, false)), ("java/lang/Throwable", "SUPPRESSED_SENTINEL", "Ljava/util/List;", .inr (402, false))]
def kx_nc : List (String × String) := [("ArcRecorder", "ArcRecorder$ParseError"), ("ArcRecorder$State", "ArcRecorder$ParseError"), ("ArcRecorder$Plant", "ArcRecorder$ParseError"), ("java/util/ArrayList", "ArcRecorder$ParseError"), ("java/lang/IllegalArgumentException", "ArcRecorder$ParseError"), ("java/lang/StringBuilder", "ArcRecorder$ParseError"), ("java/lang/String", "ArcRecorder$ParseError"), ("java/util/LinkedList", "ArcRecorder$ParseError"), ("java/util/ArrayDeque", "ArcRecorder$ParseError"), ("ArcRecorder$Feature$1", "ArcRecorder$ParseError"), ("ArcRecorder$Feature$2", "ArcRecorder$ParseError"), ("ArcRecorder$Feature$3", "ArcRecorder$ParseError"), ("ArcRecorder$Feature$4", "ArcRecorder$ParseError"), ("ArcRecorder$Feature$5", "ArcRecorder$ParseError"), ("ArcRecorder$Feature$6", "ArcRecorder$ParseError"), ("ArcRecorder$Branch", "ArcRecorder$ParseError"), ("ArcRecorderModel", "ArcRecorder$ParseError"), ("java/lang/IllegalStateException", "ArcRecorder$ParseError"), ("ArcRecorder$Parser", "ArcRecorder$ParseError"), ("ArcRecorder$Token", "ArcRecorder$ParseError"), ("java/lang/System$2", "ArcRecorder$ParseError"), ("ArcRecorder$Heater", "ArcRecorder$ParseError"), ("ArcRecorder$Motor", "ArcRecorder$ParseError"), ("ArcRecorder$Dimmer", "ArcRecorder$ParseError"), ("ArcRecorder$Arc", "ArcRecorder$ParseError"), ("ArcRecorder$Pattern", "ArcRecorder$ParseError"), ("ArcRecorder$Test", "ArcRecorder$ParseError"), ("ArcRecorder$Nuisance", "ArcRecorder$ParseError"), ("ArcRecorder$Switch", "ArcRecorder$ParseError"), ("java/util/LinkedList$Node", "ArcRecorder$ParseError"), ("java/util/NoSuchElementException", "ArcRecorder$ParseError"), ("java/lang/ArrayIndexOutOfBoundsException", "ArcRecorder$ParseError"), ("java/lang/IndexOutOfBoundsException", "ArcRecorder$ParseError"), ("java/util/AbstractList$ListItr", "ArcRecorder$ParseError"), ("java/util/ArrayList$ListItr", "ArcRecorder$ParseError"), ("java/util/LinkedList$ListItr", "ArcRecorder$ParseError"), ("java/util/ArrayDeque$DeqIterator", "ArcRecorder$ParseError"), ("ArcRecorder$Trip", "ArcRecorder$ParseError"), ("java/lang/StringIndexOutOfBoundsException", "ArcRecorder$ParseError"), ("ArcRecorder", "java/lang/String"), ("ArcRecorder$State", "java/lang/String"), ("ArcRecorder$Plant", "java/lang/String"), ("java/util/ArrayList", "java/lang/String"), ("java/lang/IllegalArgumentException", "java/lang/String"), ("java/lang/StringBuilder", "java/lang/String"), ("java/util/LinkedList", "java/lang/String"), ("java/util/ArrayDeque", "java/lang/String"), ("ArcRecorder$Feature$1", "java/lang/String"), ("ArcRecorder$Feature$2", "java/lang/String"), ("ArcRecorder$Feature$3", "java/lang/String"), ("ArcRecorder$Feature$4", "java/lang/String"), ("ArcRecorder$Feature$5", "java/lang/String"), ("ArcRecorder$Feature$6", "java/lang/String"), ("ArcRecorder$Branch", "java/lang/String"), ("ArcRecorderModel", "java/lang/String"), ("java/lang/IllegalStateException", "java/lang/String"), ("ArcRecorder$Parser", "java/lang/String"), ("ArcRecorder$Token", "java/lang/String"), ("ArcRecorder$ParseError", "java/lang/String"), ("java/lang/System$2", "java/lang/String"), ("ArcRecorder$Heater", "java/lang/String"), ("ArcRecorder$Motor", "java/lang/String"), ("ArcRecorder$Dimmer", "java/lang/String"), ("ArcRecorder$Arc", "java/lang/String"), ("ArcRecorder$Pattern", "java/lang/String"), ("ArcRecorder$Test", "java/lang/String"), ("ArcRecorder$Nuisance", "java/lang/String"), ("ArcRecorder$Switch", "java/lang/String"), ("java/util/LinkedList$Node", "java/lang/String"), ("java/util/NoSuchElementException", "java/lang/String"), ("java/lang/ArrayIndexOutOfBoundsException", "java/lang/String"), ("java/lang/IndexOutOfBoundsException", "java/lang/String"), ("java/util/AbstractList$ListItr", "java/lang/String"), ("java/util/ArrayList$ListItr", "java/lang/String"), ("java/util/LinkedList$ListItr", "java/lang/String"), ("java/util/ArrayDeque$DeqIterator", "java/lang/String"), ("ArcRecorder$Trip", "java/lang/String"), ("java/lang/StringIndexOutOfBoundsException", "java/lang/String"), ("java/lang/Integer", "java/lang/String"), ("ArcRecorder", "java/lang/IllegalStateException"), ("ArcRecorder$State", "java/lang/IllegalStateException"), ("ArcRecorder$Plant", "java/lang/IllegalStateException"), ("java/util/ArrayList", "java/lang/IllegalStateException"), ("java/lang/IllegalArgumentException", "java/lang/IllegalStateException"), ("java/lang/StringBuilder", "java/lang/IllegalStateException"), ("java/lang/String", "java/lang/IllegalStateException"), ("java/util/LinkedList", "java/lang/IllegalStateException"), ("java/util/ArrayDeque", "java/lang/IllegalStateException"), ("ArcRecorder$Feature$1", "java/lang/IllegalStateException"), ("ArcRecorder$Feature$2", "java/lang/IllegalStateException"), ("ArcRecorder$Feature$3", "java/lang/IllegalStateException"), ("ArcRecorder$Feature$4", "java/lang/IllegalStateException"), ("ArcRecorder$Feature$5", "java/lang/IllegalStateException"), ("ArcRecorder$Feature$6", "java/lang/IllegalStateException"), ("ArcRecorder$Branch", "java/lang/IllegalStateException"), ("ArcRecorderModel", "java/lang/IllegalStateException"), ("ArcRecorder$Parser", "java/lang/IllegalStateException"), ("ArcRecorder$Token", "java/lang/IllegalStateException"), ("ArcRecorder$ParseError", "java/lang/IllegalStateException"), ("java/lang/System$2", "java/lang/IllegalStateException"), ("ArcRecorder$Heater", "java/lang/IllegalStateException"), ("ArcRecorder$Motor", "java/lang/IllegalStateException"), ("ArcRecorder$Dimmer", "java/lang/IllegalStateException"), ("ArcRecorder$Arc", "java/lang/IllegalStateException"), ("ArcRecorder$Pattern", "java/lang/IllegalStateException"), ("ArcRecorder$Test", "java/lang/IllegalStateException"), ("ArcRecorder$Nuisance", "java/lang/IllegalStateException"), ("ArcRecorder$Switch", "java/lang/IllegalStateException"), ("java/util/LinkedList$Node", "java/lang/IllegalStateException"), ("java/util/NoSuchElementException", "java/lang/IllegalStateException"), ("java/lang/ArrayIndexOutOfBoundsException", "java/lang/IllegalStateException"), ("java/lang/IndexOutOfBoundsException", "java/lang/IllegalStateException"), ("java/util/AbstractList$ListItr", "java/lang/IllegalStateException"), ("java/util/ArrayList$ListItr", "java/lang/IllegalStateException"), ("java/util/LinkedList$ListItr", "java/lang/IllegalStateException"), ("java/util/ArrayDeque$DeqIterator", "java/lang/IllegalStateException"), ("ArcRecorder$Trip", "java/lang/IllegalStateException"), ("java/lang/StringIndexOutOfBoundsException", "java/lang/IllegalStateException"), ("ArcRecorder", "java/lang/IllegalArgumentException"), ("ArcRecorder$State", "java/lang/IllegalArgumentException"), ("ArcRecorder$Plant", "java/lang/IllegalArgumentException"), ("java/util/ArrayList", "java/lang/IllegalArgumentException"), ("java/lang/StringBuilder", "java/lang/IllegalArgumentException"), ("java/lang/String", "java/lang/IllegalArgumentException"), ("java/util/LinkedList", "java/lang/IllegalArgumentException"), ("java/util/ArrayDeque", "java/lang/IllegalArgumentException"), ("ArcRecorder$Feature$1", "java/lang/IllegalArgumentException"), ("ArcRecorder$Feature$2", "java/lang/IllegalArgumentException"), ("ArcRecorder$Feature$3", "java/lang/IllegalArgumentException"), ("ArcRecorder$Feature$4", "java/lang/IllegalArgumentException"), ("ArcRecorder$Feature$5", "java/lang/IllegalArgumentException"), ("ArcRecorder$Feature$6", "java/lang/IllegalArgumentException"), ("ArcRecorder$Branch", "java/lang/IllegalArgumentException"), ("ArcRecorderModel", "java/lang/IllegalArgumentException"), ("java/lang/IllegalStateException", "java/lang/IllegalArgumentException"), ("ArcRecorder$Parser", "java/lang/IllegalArgumentException"), ("ArcRecorder$Token", "java/lang/IllegalArgumentException"), ("ArcRecorder$ParseError", "java/lang/IllegalArgumentException"), ("java/lang/System$2", "java/lang/IllegalArgumentException"), ("ArcRecorder$Heater", "java/lang/IllegalArgumentException"), ("ArcRecorder$Motor", "java/lang/IllegalArgumentException"), ("ArcRecorder$Dimmer", "java/lang/IllegalArgumentException"), ("ArcRecorder$Arc", "java/lang/IllegalArgumentException"), ("ArcRecorder$Pattern", "java/lang/IllegalArgumentException"), ("ArcRecorder$Test", "java/lang/IllegalArgumentException"), ("ArcRecorder$Nuisance", "java/lang/IllegalArgumentException"), ("ArcRecorder$Switch", "java/lang/IllegalArgumentException"), ("java/util/LinkedList$Node", "java/lang/IllegalArgumentException"), ("java/util/NoSuchElementException", "java/lang/IllegalArgumentException"), ("java/lang/ArrayIndexOutOfBoundsException", "java/lang/IllegalArgumentException"), ("java/lang/IndexOutOfBoundsException", "java/lang/IllegalArgumentException"), ("java/util/AbstractList$ListItr", "java/lang/IllegalArgumentException"), ("java/util/ArrayList$ListItr", "java/lang/IllegalArgumentException"), ("java/util/LinkedList$ListItr", "java/lang/IllegalArgumentException"), ("java/util/ArrayDeque$DeqIterator", "java/lang/IllegalArgumentException"), ("ArcRecorder$Trip", "java/lang/IllegalArgumentException"), ("java/lang/StringIndexOutOfBoundsException", "java/lang/IllegalArgumentException"), ("ArcRecorder", "java/lang/IndexOutOfBoundsException"), ("ArcRecorder$State", "java/lang/IndexOutOfBoundsException"), ("ArcRecorder$Plant", "java/lang/IndexOutOfBoundsException"), ("java/util/ArrayList", "java/lang/IndexOutOfBoundsException"), ("java/lang/IllegalArgumentException", "java/lang/IndexOutOfBoundsException"), ("java/lang/StringBuilder", "java/lang/IndexOutOfBoundsException"), ("java/lang/String", "java/lang/IndexOutOfBoundsException"), ("java/util/LinkedList", "java/lang/IndexOutOfBoundsException"), ("java/util/ArrayDeque", "java/lang/IndexOutOfBoundsException"), ("ArcRecorder$Feature$1", "java/lang/IndexOutOfBoundsException"), ("ArcRecorder$Feature$2", "java/lang/IndexOutOfBoundsException"), ("ArcRecorder$Feature$3", "java/lang/IndexOutOfBoundsException"), ("ArcRecorder$Feature$4", "java/lang/IndexOutOfBoundsException"), ("ArcRecorder$Feature$5", "java/lang/IndexOutOfBoundsException"), ("ArcRecorder$Feature$6", "java/lang/IndexOutOfBoundsException"), ("ArcRecorder$Branch", "java/lang/IndexOutOfBoundsException"), ("ArcRecorderModel", "java/lang/IndexOutOfBoundsException"), ("java/lang/IllegalStateException", "java/lang/IndexOutOfBoundsException"), ("ArcRecorder$Parser", "java/lang/IndexOutOfBoundsException"), ("ArcRecorder$Token", "java/lang/IndexOutOfBoundsException"), ("ArcRecorder$ParseError", "java/lang/IndexOutOfBoundsException"), ("java/lang/System$2", "java/lang/IndexOutOfBoundsException"), ("ArcRecorder$Heater", "java/lang/IndexOutOfBoundsException"), ("ArcRecorder$Motor", "java/lang/IndexOutOfBoundsException"), ("ArcRecorder$Dimmer", "java/lang/IndexOutOfBoundsException"), ("ArcRecorder$Arc", "java/lang/IndexOutOfBoundsException"), ("ArcRecorder$Pattern", "java/lang/IndexOutOfBoundsException"), ("ArcRecorder$Test", "java/lang/IndexOutOfBoundsException"), ("ArcRecorder$Nuisance", "java/lang/IndexOutOfBoundsException"), ("ArcRecorder$Switch", "java/lang/IndexOutOfBoundsException"), ("java/util/LinkedList$Node", "java/lang/IndexOutOfBoundsException"), ("java/util/NoSuchElementException", "java/lang/IndexOutOfBoundsException"), ("java/util/AbstractList$ListItr", "java/lang/IndexOutOfBoundsException"), ("java/util/ArrayList$ListItr", "java/lang/IndexOutOfBoundsException"), ("java/util/LinkedList$ListItr", "java/lang/IndexOutOfBoundsException"), ("java/util/ArrayDeque$DeqIterator", "java/lang/IndexOutOfBoundsException"), ("ArcRecorder$Trip", "java/lang/IndexOutOfBoundsException"), ("ArcRecorder", "ArcRecorder$Arc"), ("ArcRecorder$State", "ArcRecorder$Arc"), ("ArcRecorder$Plant", "ArcRecorder$Arc"), ("java/util/ArrayList", "ArcRecorder$Arc"), ("java/lang/IllegalArgumentException", "ArcRecorder$Arc"), ("java/lang/StringBuilder", "ArcRecorder$Arc"), ("java/lang/String", "ArcRecorder$Arc"), ("java/util/LinkedList", "ArcRecorder$Arc"), ("java/util/ArrayDeque", "ArcRecorder$Arc"), ("ArcRecorder$Feature$1", "ArcRecorder$Arc"), ("ArcRecorder$Feature$2", "ArcRecorder$Arc"), ("ArcRecorder$Feature$3", "ArcRecorder$Arc"), ("ArcRecorder$Feature$4", "ArcRecorder$Arc"), ("ArcRecorder$Feature$5", "ArcRecorder$Arc"), ("ArcRecorder$Feature$6", "ArcRecorder$Arc"), ("ArcRecorder$Branch", "ArcRecorder$Arc"), ("ArcRecorderModel", "ArcRecorder$Arc"), ("java/lang/IllegalStateException", "ArcRecorder$Arc"), ("ArcRecorder$Parser", "ArcRecorder$Arc"), ("ArcRecorder$Token", "ArcRecorder$Arc"), ("ArcRecorder$ParseError", "ArcRecorder$Arc"), ("java/lang/System$2", "ArcRecorder$Arc"), ("ArcRecorder$Heater", "ArcRecorder$Arc"), ("ArcRecorder$Motor", "ArcRecorder$Arc"), ("ArcRecorder$Dimmer", "ArcRecorder$Arc"), ("ArcRecorder$Pattern", "ArcRecorder$Arc"), ("ArcRecorder$Test", "ArcRecorder$Arc"), ("ArcRecorder$Nuisance", "ArcRecorder$Arc"), ("ArcRecorder$Switch", "ArcRecorder$Arc"), ("java/util/LinkedList$Node", "ArcRecorder$Arc"), ("java/util/NoSuchElementException", "ArcRecorder$Arc"), ("java/lang/ArrayIndexOutOfBoundsException", "ArcRecorder$Arc"), ("java/lang/IndexOutOfBoundsException", "ArcRecorder$Arc"), ("java/util/AbstractList$ListItr", "ArcRecorder$Arc"), ("java/util/ArrayList$ListItr", "ArcRecorder$Arc"), ("java/util/LinkedList$ListItr", "ArcRecorder$Arc"), ("java/util/ArrayDeque$DeqIterator", "ArcRecorder$Arc"), ("ArcRecorder$Trip", "ArcRecorder$Arc"), ("java/lang/StringIndexOutOfBoundsException", "ArcRecorder$Arc"), ("ArcRecorder", "java/util/NoSuchElementException"), ("ArcRecorder$State", "java/util/NoSuchElementException"), ("ArcRecorder$Plant", "java/util/NoSuchElementException"), ("java/util/ArrayList", "java/util/NoSuchElementException"), ("java/lang/IllegalArgumentException", "java/util/NoSuchElementException"), ("java/lang/StringBuilder", "java/util/NoSuchElementException"), ("java/lang/String", "java/util/NoSuchElementException"), ("java/util/LinkedList", "java/util/NoSuchElementException"), ("java/util/ArrayDeque", "java/util/NoSuchElementException"), ("ArcRecorder$Feature$1", "java/util/NoSuchElementException"), ("ArcRecorder$Feature$2", "java/util/NoSuchElementException"), ("ArcRecorder$Feature$3", "java/util/NoSuchElementException"), ("ArcRecorder$Feature$4", "java/util/NoSuchElementException"), ("ArcRecorder$Feature$5", "java/util/NoSuchElementException"), ("ArcRecorder$Feature$6", "java/util/NoSuchElementException"), ("ArcRecorder$Branch", "java/util/NoSuchElementException"), ("ArcRecorderModel", "java/util/NoSuchElementException"), ("java/lang/IllegalStateException", "java/util/NoSuchElementException"), ("ArcRecorder$Parser", "java/util/NoSuchElementException"), ("ArcRecorder$Token", "java/util/NoSuchElementException"), ("ArcRecorder$ParseError", "java/util/NoSuchElementException"), ("java/lang/System$2", "java/util/NoSuchElementException"), ("ArcRecorder$Heater", "java/util/NoSuchElementException"), ("ArcRecorder$Motor", "java/util/NoSuchElementException"), ("ArcRecorder$Dimmer", "java/util/NoSuchElementException"), ("ArcRecorder$Arc", "java/util/NoSuchElementException"), ("ArcRecorder$Pattern", "java/util/NoSuchElementException"), ("ArcRecorder$Test", "java/util/NoSuchElementException"), ("ArcRecorder$Nuisance", "java/util/NoSuchElementException"), ("ArcRecorder$Switch", "java/util/NoSuchElementException"), ("java/util/LinkedList$Node", "java/util/NoSuchElementException"), ("java/lang/ArrayIndexOutOfBoundsException", "java/util/NoSuchElementException"), ("java/lang/IndexOutOfBoundsException", "java/util/NoSuchElementException"), ("java/util/AbstractList$ListItr", "java/util/NoSuchElementException"), ("java/util/ArrayList$ListItr", "java/util/NoSuchElementException"), ("java/util/LinkedList$ListItr", "java/util/NoSuchElementException"), ("java/util/ArrayDeque$DeqIterator", "java/util/NoSuchElementException"), ("ArcRecorder$Trip", "java/util/NoSuchElementException"), ("java/lang/StringIndexOutOfBoundsException", "java/util/NoSuchElementException"), ("ArcRecorder", "[B"), ("ArcRecorder$State", "[B"), ("ArcRecorder$Plant", "[B"), ("java/util/ArrayList", "[B"), ("java/lang/IllegalArgumentException", "[B"), ("java/lang/StringBuilder", "[B"), ("java/lang/String", "[B"), ("java/util/LinkedList", "[B"), ("java/util/ArrayDeque", "[B"), ("ArcRecorder$Feature$1", "[B"), ("ArcRecorder$Feature$2", "[B"), ("ArcRecorder$Feature$3", "[B"), ("ArcRecorder$Feature$4", "[B"), ("ArcRecorder$Feature$5", "[B"), ("ArcRecorder$Feature$6", "[B"), ("ArcRecorder$Branch", "[B"), ("ArcRecorderModel", "[B"), ("java/lang/IllegalStateException", "[B"), ("ArcRecorder$Parser", "[B"), ("ArcRecorder$Token", "[B"), ("ArcRecorder$ParseError", "[B"), ("java/lang/System$2", "[B"), ("ArcRecorder$Heater", "[B"), ("ArcRecorder$Motor", "[B"), ("ArcRecorder$Dimmer", "[B"), ("ArcRecorder$Arc", "[B"), ("ArcRecorder$Pattern", "[B"), ("ArcRecorder$Test", "[B"), ("ArcRecorder$Nuisance", "[B"), ("ArcRecorder$Switch", "[B"), ("java/util/LinkedList$Node", "[B"), ("java/util/NoSuchElementException", "[B"), ("java/lang/ArrayIndexOutOfBoundsException", "[B"), ("java/lang/IndexOutOfBoundsException", "[B"), ("java/util/AbstractList$ListItr", "[B"), ("java/util/ArrayList$ListItr", "[B"), ("java/util/LinkedList$ListItr", "[B"), ("java/util/ArrayDeque$DeqIterator", "[B"), ("ArcRecorder$Trip", "[B"), ("java/lang/StringIndexOutOfBoundsException", "[B"), ("java/lang/Throwable", "[B"), ("[Ljava/lang/Object;", "[B"), ("[F", "[B"), ("[I", "[B"), ("[LArcRecorder$Feature;", "[B"), ("[Z", "[B"), ("[J", "[B"), ("[D", "[B"), ("[C", "[B"), ("[S", "[B"), ("java/lang/Throwable", "java/lang/String"), ("[Ljava/lang/Object;", "java/lang/String"), ("[F", "java/lang/String"), ("[B", "java/lang/String"), ("[I", "java/lang/String"), ("[LArcRecorder$Feature;", "java/lang/String"), ("[Z", "java/lang/String"), ("[J", "java/lang/String"), ("[D", "java/lang/String"), ("[C", "java/lang/String"), ("[S", "java/lang/String"), ("java/lang/Throwable", "ArcRecorder$Arc"), ("[Ljava/lang/Object;", "ArcRecorder$Arc"), ("[F", "ArcRecorder$Arc"), ("[B", "ArcRecorder$Arc"), ("[I", "ArcRecorder$Arc"), ("[LArcRecorder$Feature;", "ArcRecorder$Arc"), ("[Z", "ArcRecorder$Arc"), ("[J", "ArcRecorder$Arc"), ("[D", "ArcRecorder$Arc"), ("[C", "ArcRecorder$Arc"), ("[S", "ArcRecorder$Arc"), ("ArcRecorder", "ArcRecorder$Feature"), ("ArcRecorder$State", "ArcRecorder$Feature"), ("ArcRecorder$Plant", "ArcRecorder$Feature"), ("java/util/ArrayList", "ArcRecorder$Feature"), ("java/lang/IllegalArgumentException", "ArcRecorder$Feature"), ("java/lang/StringBuilder", "ArcRecorder$Feature"), ("java/lang/String", "ArcRecorder$Feature"), ("java/util/LinkedList", "ArcRecorder$Feature"), ("java/util/ArrayDeque", "ArcRecorder$Feature"), ("ArcRecorder$Branch", "ArcRecorder$Feature"), ("ArcRecorderModel", "ArcRecorder$Feature"), ("java/lang/IllegalStateException", "ArcRecorder$Feature"), ("ArcRecorder$Parser", "ArcRecorder$Feature"), ("ArcRecorder$Token", "ArcRecorder$Feature"), ("ArcRecorder$ParseError", "ArcRecorder$Feature"), ("java/lang/System$2", "ArcRecorder$Feature"), ("ArcRecorder$Heater", "ArcRecorder$Feature"), ("ArcRecorder$Motor", "ArcRecorder$Feature"), ("ArcRecorder$Dimmer", "ArcRecorder$Feature"), ("ArcRecorder$Arc", "ArcRecorder$Feature"), ("ArcRecorder$Pattern", "ArcRecorder$Feature"), ("ArcRecorder$Test", "ArcRecorder$Feature"), ("ArcRecorder$Nuisance", "ArcRecorder$Feature"), ("ArcRecorder$Switch", "ArcRecorder$Feature"), ("java/util/LinkedList$Node", "ArcRecorder$Feature"), ("java/util/NoSuchElementException", "ArcRecorder$Feature"), ("java/lang/ArrayIndexOutOfBoundsException", "ArcRecorder$Feature"), ("java/lang/IndexOutOfBoundsException", "ArcRecorder$Feature"), ("java/util/AbstractList$ListItr", "ArcRecorder$Feature"), ("java/util/ArrayList$ListItr", "ArcRecorder$Feature"), ("java/util/LinkedList$ListItr", "ArcRecorder$Feature"), ("java/util/ArrayDeque$DeqIterator", "ArcRecorder$Feature"), ("ArcRecorder$Trip", "ArcRecorder$Feature"), ("java/lang/StringIndexOutOfBoundsException", "ArcRecorder$Feature"), ("java/lang/Throwable", "ArcRecorder$Feature")]
/-- bytes of the texts -/
def kx_tx0 : List Int32 := [73, 108, 108, 101, 103, 97, 108, 32, 67, 97, 112, 97, 99, 105, 116, 121, 58, 32]
def kx_tx1 : List Int32 := [32, 62, 32]
def kx_tx2 : List Int32 := []
def kx_tx3 : List Int32 := [114, 101, 99, 111, 114, 100, 101, 114]
def kx_tx4 : List Int32 := [115, 97, 109, 112, 108, 101, 115]
def kx_tx5 : List Int32 := [119, 105, 110, 100, 111, 119]
def kx_tx6 : List Int32 := [99, 111, 117, 110, 116]
def kx_tx7 : List Int32 := [117, 110, 114, 101, 99, 111, 103, 110, 105, 122, 101, 100, 32, 98, 97, 115, 105, 99, 32, 116, 121, 112, 101, 58, 32]
def kx_tx8 : List Int32 := [98, 114, 97, 110, 99, 104]
def kx_tx9 : List Int32 := [104, 101, 97, 116, 101, 114]
def kx_tx10 : List Int32 := [109, 111, 116, 111, 114]
def kx_tx11 : List Int32 := [100, 105, 109, 109, 101, 114]
def kx_tx12 : List Int32 := [97, 114, 99]
def kx_tx13 : List Int32 := [115, 101, 101, 100]
def kx_tx14 : List Int32 := [115, 105, 103, 110, 97, 116, 117, 114, 101]
def kx_tx15 : List Int32 := [110, 117, 105, 115, 97, 110, 99, 101]
def kx_tx16 : List Int32 := [97, 116]
def kx_tx17 : List Int32 := [114, 97, 116, 101, 100]
def kx_tx18 : List Int32 := [111, 102]
def kx_tx19 : List Int32 := [97, 109, 112, 115]
def kx_tx20 : List Int32 := [108, 97, 103]
def kx_tx21 : List Int32 := [99, 117, 116]
def kx_tx22 : List Int32 := [103, 97, 112]
def kx_tx23 : List Int32 := [111, 117, 116]
def kx_tx24 : List Int32 := [97, 108, 119, 97, 121, 115]
def kx_tx25 : List Int32 := [97, 110, 100]
def kx_tx26 : List Int32 := [111, 110]
def kx_tx27 : List Int32 := [111, 102, 102]
def kx_tx28 : List Int32 := [112, 101, 97, 107]
def kx_tx29 : List Int32 := [109, 101, 97, 110]
def kx_tx30 : List Int32 := [102, 108, 97, 116]
def kx_tx31 : List Int32 := [115, 116, 101, 101, 112]
def kx_tx32 : List Int32 := [99, 104, 97, 110, 103, 101]
def kx_tx33 : List Int32 := [101, 110, 101, 114, 103, 121]
def kx_tx34 : List Int32 := [83, 111, 114, 114, 121, 44, 32, 100, 101, 113, 117, 101, 32, 116, 111, 111, 32, 98, 105, 103]
def kx_tx35 : List Int32 := [73, 110, 100, 101, 120, 58, 32]
def kx_tx36 : List Int32 := [44, 32, 83, 105, 122, 101, 58, 32]
def kx_tx37 : List Int32 := [58, 32]
def kx_tx38 : List Int32 := [83, 116, 114, 105, 110, 103, 32, 105, 110, 100, 101, 120, 32, 111, 117, 116, 32, 111, 102, 32, 114, 97, 110, 103, 101, 58, 32]
def kx_tx39 : List Int32 := [102, 114, 111, 109, 73, 110, 100, 101, 120, 40]
def kx_tx40 : List Int32 := [41, 32, 62, 32, 116, 111, 73, 110, 100, 101, 120, 40]
def kx_tx41 : List Int32 := [41]
def kx_tx42 : List Int32 := [65, 114, 114, 97, 121, 32, 105, 110, 100, 101, 120, 32, 111, 117, 116, 32, 111, 102, 32, 114, 97, 110, 103, 101, 58, 32]
def kx_dg1 : List Int32 := [48, 49, 50, 51, 52, 53, 54, 55, 56, 57, 48, 49, 50, 51, 52, 53, 54, 55, 56, 57, 48, 49, 50, 51, 52, 53, 54, 55, 56, 57, 48, 49, 50, 51, 52, 53, 54, 55, 56, 57, 48, 49, 50, 51, 52, 53, 54, 55, 56, 57, 48, 49, 50, 51, 52, 53, 54, 55, 56, 57, 48, 49, 50, 51, 52, 53, 54, 55, 56, 57, 48, 49, 50, 51, 52, 53, 54, 55, 56, 57, 48, 49, 50, 51, 52, 53, 54, 55, 56, 57, 48, 49, 50, 51, 52, 53, 54, 55, 56, 57]
def kx_dg10 : List Int32 := [48, 48, 48, 48, 48, 48, 48, 48, 48, 48, 49, 49, 49, 49, 49, 49, 49, 49, 49, 49, 50, 50, 50, 50, 50, 50, 50, 50, 50, 50, 51, 51, 51, 51, 51, 51, 51, 51, 51, 51, 52, 52, 52, 52, 52, 52, 52, 52, 52, 52, 53, 53, 53, 53, 53, 53, 53, 53, 53, 53, 54, 54, 54, 54, 54, 54, 54, 54, 54, 54, 55, 55, 55, 55, 55, 55, 55, 55, 55, 55, 56, 56, 56, 56, 56, 56, 56, 56, 56, 56, 57, 57, 57, 57, 57, 57, 57, 57, 57, 57]
def kx_con : List (Nat × ((Nat → Nat) → (FieldType × vp_A) ⊕ (Nat × List Value))) := [(0, fun _ => .inl (.object "java/lang/Object", 0, .inr (.inr (.inr (.inr (fun _ => none)))))), (1, fun _ => .inl (.object "java/lang/Object", 0, .inr (.inr (.inr (.inr (fun _ => none)))))), (2, fun _ => .inl (.byte, 100, .inl (fun j => kx_dg1.getD j 0))), (3, fun _ => .inl (.byte, 100, .inl (fun j => kx_dg10.getD j 0))), (4, fun K => .inl (.object "ArcRecorder$Feature", 6, .inr (.inr (.inr (.inr (fun j => if j < 6 then some (K (11 + j)) else none)))))), (5, fun _ => .inr (107, [])), (7, fun _ => .inr (100, [.int 0])), (8, fun _ => .inr (100, [.int 1])), (9, fun _ => .inr (100, [.int 2])), (10, fun _ => .inr (100, [.int 3])), (11, fun _ => .inr (101, [.int 0])), (12, fun _ => .inr (102, [.int 1])), (13, fun _ => .inr (103, [.int 2])), (14, fun _ => .inr (104, [.int 3])), (15, fun _ => .inr (105, [.int 4])), (16, fun _ => .inr (106, [.int 5])), (20, fun K => .inr (20, [.ref (K 120), .int 0, .int (396102794), .int 0])), (120, fun _ => .inl (.byte, 18, .inl (fun j => kx_tx0.getD j 0))), (21, fun K => .inr (20, [.ref (K 121), .int 0, .int (32706), .int 0])), (121, fun _ => .inl (.byte, 3, .inl (fun j => kx_tx1.getD j 0))), (22, fun K => .inr (20, [.ref (K 122), .int 0, .int (0), .int 1])), (122, fun _ => .inl (.byte, 0, .inl (fun j => kx_tx2.getD j 0))), (23, fun K => .inr (20, [.ref (K 123), .int 0, .int (-799233858), .int 0])), (123, fun _ => .inl (.byte, 8, .inl (fun j => kx_tx3.getD j 0))), (24, fun K => .inr (20, [.ref (K 124), .int 0, .int (1864843273), .int 0])), (124, fun _ => .inl (.byte, 7, .inl (fun j => kx_tx4.getD j 0))), (25, fun K => .inr (20, [.ref (K 125), .int 0, .int (-787751952), .int 0])), (125, fun _ => .inl (.byte, 6, .inl (fun j => kx_tx5.getD j 0))), (26, fun K => .inr (20, [.ref (K 126), .int 0, .int (94851343), .int 0])), (126, fun _ => .inl (.byte, 5, .inl (fun j => kx_tx6.getD j 0))), (27, fun K => .inr (20, [.ref (K 127), .int 0, .int (-414256221), .int 0])), (127, fun _ => .inl (.byte, 25, .inl (fun j => kx_tx7.getD j 0))), (28, fun K => .inr (20, [.ref (K 128), .int 0, .int (-1381030494), .int 0])), (128, fun _ => .inl (.byte, 6, .inl (fun j => kx_tx8.getD j 0))), (29, fun K => .inr (20, [.ref (K 129), .int 0, .int (-1221255523), .int 0])), (129, fun _ => .inl (.byte, 6, .inl (fun j => kx_tx9.getD j 0))), (30, fun K => .inr (20, [.ref (K 130), .int 0, .int (104085621), .int 0])), (130, fun _ => .inl (.byte, 5, .inl (fun j => kx_tx10.getD j 0))), (31, fun K => .inr (20, [.ref (K 131), .int 0, .int (-1331727278), .int 0])), (131, fun _ => .inl (.byte, 6, .inl (fun j => kx_tx11.getD j 0))), (32, fun K => .inr (20, [.ref (K 132), .int 0, .int (96850), .int 0])), (132, fun _ => .inl (.byte, 3, .inl (fun j => kx_tx12.getD j 0))), (33, fun K => .inr (20, [.ref (K 133), .int 0, .int (3526257), .int 0])), (133, fun _ => .inl (.byte, 4, .inl (fun j => kx_tx13.getD j 0))), (34, fun K => .inr (20, [.ref (K 134), .int 0, .int (1073584312), .int 0])), (134, fun _ => .inl (.byte, 9, .inl (fun j => kx_tx14.getD j 0))), (35, fun K => .inr (20, [.ref (K 135), .int 0, .int (-1985378816), .int 0])), (135, fun _ => .inl (.byte, 8, .inl (fun j => kx_tx15.getD j 0))), (36, fun K => .inr (20, [.ref (K 136), .int 0, .int (3123), .int 0])), (136, fun _ => .inl (.byte, 2, .inl (fun j => kx_tx16.getD j 0))), (37, fun K => .inr (20, [.ref (K 137), .int 0, .int (108285828), .int 0])), (137, fun _ => .inl (.byte, 5, .inl (fun j => kx_tx17.getD j 0))), (38, fun K => .inr (20, [.ref (K 138), .int 0, .int (3543), .int 0])), (138, fun _ => .inl (.byte, 2, .inl (fun j => kx_tx18.getD j 0))), (39, fun K => .inr (20, [.ref (K 139), .int 0, .int (2998063), .int 0])), (139, fun _ => .inl (.byte, 4, .inl (fun j => kx_tx19.getD j 0))), (40, fun K => .inr (20, [.ref (K 140), .int 0, .int (106898), .int 0])), (140, fun _ => .inl (.byte, 3, .inl (fun j => kx_tx20.getD j 0))), (41, fun K => .inr (20, [.ref (K 141), .int 0, .int (98882), .int 0])), (141, fun _ => .inl (.byte, 3, .inl (fun j => kx_tx21.getD j 0))), (42, fun K => .inr (20, [.ref (K 142), .int 0, .int (102102), .int 0])), (142, fun _ => .inl (.byte, 3, .inl (fun j => kx_tx22.getD j 0))), (43, fun K => .inr (20, [.ref (K 143), .int 0, .int (110414), .int 0])), (143, fun _ => .inl (.byte, 3, .inl (fun j => kx_tx23.getD j 0))), (44, fun K => .inr (20, [.ref (K 144), .int 0, .int (-1414557169), .int 0])), (144, fun _ => .inl (.byte, 6, .inl (fun j => kx_tx24.getD j 0))), (45, fun K => .inr (20, [.ref (K 145), .int 0, .int (96727), .int 0])), (145, fun _ => .inl (.byte, 3, .inl (fun j => kx_tx25.getD j 0))), (46, fun K => .inr (20, [.ref (K 146), .int 0, .int (3551), .int 0])), (146, fun _ => .inl (.byte, 2, .inl (fun j => kx_tx26.getD j 0))), (47, fun K => .inr (20, [.ref (K 147), .int 0, .int (109935), .int 0])), (147, fun _ => .inl (.byte, 3, .inl (fun j => kx_tx27.getD j 0))), (48, fun K => .inr (20, [.ref (K 148), .int 0, .int (3436767), .int 0])), (148, fun _ => .inl (.byte, 4, .inl (fun j => kx_tx28.getD j 0))), (49, fun K => .inr (20, [.ref (K 149), .int 0, .int (3347397), .int 0])), (149, fun _ => .inl (.byte, 4, .inl (fun j => kx_tx29.getD j 0))), (50, fun K => .inr (20, [.ref (K 150), .int 0, .int (3145593), .int 0])), (150, fun _ => .inl (.byte, 4, .inl (fun j => kx_tx30.getD j 0))), (51, fun K => .inr (20, [.ref (K 151), .int 0, .int (109760975), .int 0])), (151, fun _ => .inl (.byte, 5, .inl (fun j => kx_tx31.getD j 0))), (52, fun K => .inr (20, [.ref (K 152), .int 0, .int (-1361636432), .int 0])), (152, fun _ => .inl (.byte, 6, .inl (fun j => kx_tx32.getD j 0))), (53, fun K => .inr (20, [.ref (K 153), .int 0, .int (-1298713976), .int 0])), (153, fun _ => .inl (.byte, 6, .inl (fun j => kx_tx33.getD j 0))), (54, fun K => .inr (20, [.ref (K 154), .int 0, .int (-802385437), .int 0])), (154, fun _ => .inl (.byte, 20, .inl (fun j => kx_tx34.getD j 0))), (55, fun K => .inr (20, [.ref (K 155), .int 0, .int (-687023272), .int 0])), (155, fun _ => .inl (.byte, 7, .inl (fun j => kx_tx35.getD j 0))), (56, fun K => .inr (20, [.ref (K 156), .int 0, .int (186512763), .int 0])), (156, fun _ => .inl (.byte, 8, .inl (fun j => kx_tx36.getD j 0))), (57, fun K => .inr (20, [.ref (K 157), .int 0, .int (1830), .int 0])), (157, fun _ => .inl (.byte, 2, .inl (fun j => kx_tx37.getD j 0))), (58, fun K => .inr (20, [.ref (K 158), .int 0, .int (1849176457), .int 0])), (158, fun _ => .inl (.byte, 27, .inl (fun j => kx_tx38.getD j 0))), (59, fun K => .inr (20, [.ref (K 159), .int 0, .int (1865747936), .int 0])), (159, fun _ => .inl (.byte, 10, .inl (fun j => kx_tx39.getD j 0))), (60, fun K => .inr (20, [.ref (K 160), .int 0, .int (252444138), .int 0])), (160, fun _ => .inl (.byte, 12, .inl (fun j => kx_tx40.getD j 0))), (61, fun K => .inr (20, [.ref (K 161), .int 0, .int (41), .int 0])), (161, fun _ => .inl (.byte, 1, .inl (fun j => kx_tx41.getD j 0))), (62, fun K => .inr (20, [.ref (K 162), .int 0, .int (127176833), .int 0])), (162, fun _ => .inl (.byte, 26, .inl (fun j => kx_tx42.getD j 0)))]
def kx_mir : List (String × Nat) := [("[Ljava/lang/Object;", 300), ("ArcRecorder$ParseError", 301), ("java/lang/ArrayIndexOutOfBoundsException", 302), ("java/lang/IllegalArgumentException", 303), ("java/lang/IllegalStateException", 304), ("java/lang/IndexOutOfBoundsException", 305), ("java/lang/StringIndexOutOfBoundsException", 306), ("java/lang/Throwable", 307), ("java/util/NoSuchElementException", 308)]
def kx_ne : List (Nat × Nat) := [(0, 1), (7, 8), (7, 9), (8, 9), (7, 10), (8, 10), (9, 10), (7, 11), (8, 11), (9, 11), (10, 11), (7, 12), (8, 12), (9, 12), (10, 12), (11, 12), (7, 13), (8, 13), (9, 13), (10, 13), (11, 13), (12, 13), (7, 14), (8, 14), (9, 14), (10, 14), (11, 14), (12, 14), (13, 14), (7, 15), (8, 15), (9, 15), (10, 15), (11, 15), (12, 15), (13, 15), (14, 15), (7, 16), (8, 16), (9, 16), (10, 16), (11, 16), (12, 16), (13, 16), (14, 16), (15, 16), (300, 301), (300, 302), (300, 303), (300, 304), (300, 305), (300, 306), (300, 307), (300, 308)]
theorem kk_0 : (0, fun _ => .inl (.object "java/lang/Object", 0, .inr (.inr (.inr (.inr (fun _ => none)))))) ∈ kx_con := List.mem_of_getElem? (i := 0) rfl
theorem kk_1 : (1, fun _ => .inl (.object "java/lang/Object", 0, .inr (.inr (.inr (.inr (fun _ => none)))))) ∈ kx_con := List.mem_of_getElem? (i := 1) rfl
theorem kk_2 : (2, fun _ => .inl (.byte, 100, .inl (fun j => kx_dg1.getD j 0))) ∈ kx_con := List.mem_of_getElem? (i := 2) rfl
theorem kk_3 : (3, fun _ => .inl (.byte, 100, .inl (fun j => kx_dg10.getD j 0))) ∈ kx_con := List.mem_of_getElem? (i := 3) rfl
theorem kk_4 : (4, fun K => .inl (.object "ArcRecorder$Feature", 6, .inr (.inr (.inr (.inr (fun j => if j < 6 then some (K (11 + j)) else none)))))) ∈ kx_con := List.mem_of_getElem? (i := 4) rfl
theorem kk_5 : (5, fun _ => .inr (107, [])) ∈ kx_con := List.mem_of_getElem? (i := 5) rfl
theorem kk_7 : (7, fun _ => .inr (100, [.int 0])) ∈ kx_con := List.mem_of_getElem? (i := 6) rfl
theorem kk_8 : (8, fun _ => .inr (100, [.int 1])) ∈ kx_con := List.mem_of_getElem? (i := 7) rfl
theorem kk_9 : (9, fun _ => .inr (100, [.int 2])) ∈ kx_con := List.mem_of_getElem? (i := 8) rfl
theorem kk_10 : (10, fun _ => .inr (100, [.int 3])) ∈ kx_con := List.mem_of_getElem? (i := 9) rfl
theorem kk_11 : (11, fun _ => .inr (101, [.int 0])) ∈ kx_con := List.mem_of_getElem? (i := 10) rfl
theorem kk_12 : (12, fun _ => .inr (102, [.int 1])) ∈ kx_con := List.mem_of_getElem? (i := 11) rfl
theorem kk_13 : (13, fun _ => .inr (103, [.int 2])) ∈ kx_con := List.mem_of_getElem? (i := 12) rfl
theorem kk_14 : (14, fun _ => .inr (104, [.int 3])) ∈ kx_con := List.mem_of_getElem? (i := 13) rfl
theorem kk_15 : (15, fun _ => .inr (105, [.int 4])) ∈ kx_con := List.mem_of_getElem? (i := 14) rfl
theorem kk_16 : (16, fun _ => .inr (106, [.int 5])) ∈ kx_con := List.mem_of_getElem? (i := 15) rfl
theorem kk_20 : (20, fun K => .inr (20, [.ref (K 120), .int 0, .int (396102794), .int 0])) ∈ kx_con := List.mem_of_getElem? (i := 16) rfl
theorem kk_120 : (120, fun _ => .inl (.byte, 18, .inl (fun j => kx_tx0.getD j 0))) ∈ kx_con := List.mem_of_getElem? (i := 17) rfl
theorem kk_21 : (21, fun K => .inr (20, [.ref (K 121), .int 0, .int (32706), .int 0])) ∈ kx_con := List.mem_of_getElem? (i := 18) rfl
theorem kk_121 : (121, fun _ => .inl (.byte, 3, .inl (fun j => kx_tx1.getD j 0))) ∈ kx_con := List.mem_of_getElem? (i := 19) rfl
theorem kk_22 : (22, fun K => .inr (20, [.ref (K 122), .int 0, .int (0), .int 1])) ∈ kx_con := List.mem_of_getElem? (i := 20) rfl
theorem kk_122 : (122, fun _ => .inl (.byte, 0, .inl (fun j => kx_tx2.getD j 0))) ∈ kx_con := List.mem_of_getElem? (i := 21) rfl
theorem kk_23 : (23, fun K => .inr (20, [.ref (K 123), .int 0, .int (-799233858), .int 0])) ∈ kx_con := List.mem_of_getElem? (i := 22) rfl
theorem kk_123 : (123, fun _ => .inl (.byte, 8, .inl (fun j => kx_tx3.getD j 0))) ∈ kx_con := List.mem_of_getElem? (i := 23) rfl
theorem kk_24 : (24, fun K => .inr (20, [.ref (K 124), .int 0, .int (1864843273), .int 0])) ∈ kx_con := List.mem_of_getElem? (i := 24) rfl
theorem kk_124 : (124, fun _ => .inl (.byte, 7, .inl (fun j => kx_tx4.getD j 0))) ∈ kx_con := List.mem_of_getElem? (i := 25) rfl
theorem kk_25 : (25, fun K => .inr (20, [.ref (K 125), .int 0, .int (-787751952), .int 0])) ∈ kx_con := List.mem_of_getElem? (i := 26) rfl
theorem kk_125 : (125, fun _ => .inl (.byte, 6, .inl (fun j => kx_tx5.getD j 0))) ∈ kx_con := List.mem_of_getElem? (i := 27) rfl
theorem kk_26 : (26, fun K => .inr (20, [.ref (K 126), .int 0, .int (94851343), .int 0])) ∈ kx_con := List.mem_of_getElem? (i := 28) rfl
theorem kk_126 : (126, fun _ => .inl (.byte, 5, .inl (fun j => kx_tx6.getD j 0))) ∈ kx_con := List.mem_of_getElem? (i := 29) rfl
theorem kk_27 : (27, fun K => .inr (20, [.ref (K 127), .int 0, .int (-414256221), .int 0])) ∈ kx_con := List.mem_of_getElem? (i := 30) rfl
theorem kk_127 : (127, fun _ => .inl (.byte, 25, .inl (fun j => kx_tx7.getD j 0))) ∈ kx_con := List.mem_of_getElem? (i := 31) rfl
theorem kk_28 : (28, fun K => .inr (20, [.ref (K 128), .int 0, .int (-1381030494), .int 0])) ∈ kx_con := List.mem_of_getElem? (i := 32) rfl
theorem kk_128 : (128, fun _ => .inl (.byte, 6, .inl (fun j => kx_tx8.getD j 0))) ∈ kx_con := List.mem_of_getElem? (i := 33) rfl
theorem kk_29 : (29, fun K => .inr (20, [.ref (K 129), .int 0, .int (-1221255523), .int 0])) ∈ kx_con := List.mem_of_getElem? (i := 34) rfl
theorem kk_129 : (129, fun _ => .inl (.byte, 6, .inl (fun j => kx_tx9.getD j 0))) ∈ kx_con := List.mem_of_getElem? (i := 35) rfl
theorem kk_30 : (30, fun K => .inr (20, [.ref (K 130), .int 0, .int (104085621), .int 0])) ∈ kx_con := List.mem_of_getElem? (i := 36) rfl
theorem kk_130 : (130, fun _ => .inl (.byte, 5, .inl (fun j => kx_tx10.getD j 0))) ∈ kx_con := List.mem_of_getElem? (i := 37) rfl
theorem kk_31 : (31, fun K => .inr (20, [.ref (K 131), .int 0, .int (-1331727278), .int 0])) ∈ kx_con := List.mem_of_getElem? (i := 38) rfl
theorem kk_131 : (131, fun _ => .inl (.byte, 6, .inl (fun j => kx_tx11.getD j 0))) ∈ kx_con := List.mem_of_getElem? (i := 39) rfl
theorem kk_32 : (32, fun K => .inr (20, [.ref (K 132), .int 0, .int (96850), .int 0])) ∈ kx_con := List.mem_of_getElem? (i := 40) rfl
theorem kk_132 : (132, fun _ => .inl (.byte, 3, .inl (fun j => kx_tx12.getD j 0))) ∈ kx_con := List.mem_of_getElem? (i := 41) rfl
theorem kk_33 : (33, fun K => .inr (20, [.ref (K 133), .int 0, .int (3526257), .int 0])) ∈ kx_con := List.mem_of_getElem? (i := 42) rfl
theorem kk_133 : (133, fun _ => .inl (.byte, 4, .inl (fun j => kx_tx13.getD j 0))) ∈ kx_con := List.mem_of_getElem? (i := 43) rfl
theorem kk_34 : (34, fun K => .inr (20, [.ref (K 134), .int 0, .int (1073584312), .int 0])) ∈ kx_con := List.mem_of_getElem? (i := 44) rfl
theorem kk_134 : (134, fun _ => .inl (.byte, 9, .inl (fun j => kx_tx14.getD j 0))) ∈ kx_con := List.mem_of_getElem? (i := 45) rfl
theorem kk_35 : (35, fun K => .inr (20, [.ref (K 135), .int 0, .int (-1985378816), .int 0])) ∈ kx_con := List.mem_of_getElem? (i := 46) rfl
theorem kk_135 : (135, fun _ => .inl (.byte, 8, .inl (fun j => kx_tx15.getD j 0))) ∈ kx_con := List.mem_of_getElem? (i := 47) rfl
theorem kk_36 : (36, fun K => .inr (20, [.ref (K 136), .int 0, .int (3123), .int 0])) ∈ kx_con := List.mem_of_getElem? (i := 48) rfl
theorem kk_136 : (136, fun _ => .inl (.byte, 2, .inl (fun j => kx_tx16.getD j 0))) ∈ kx_con := List.mem_of_getElem? (i := 49) rfl
theorem kk_37 : (37, fun K => .inr (20, [.ref (K 137), .int 0, .int (108285828), .int 0])) ∈ kx_con := List.mem_of_getElem? (i := 50) rfl
theorem kk_137 : (137, fun _ => .inl (.byte, 5, .inl (fun j => kx_tx17.getD j 0))) ∈ kx_con := List.mem_of_getElem? (i := 51) rfl
theorem kk_38 : (38, fun K => .inr (20, [.ref (K 138), .int 0, .int (3543), .int 0])) ∈ kx_con := List.mem_of_getElem? (i := 52) rfl
theorem kk_138 : (138, fun _ => .inl (.byte, 2, .inl (fun j => kx_tx18.getD j 0))) ∈ kx_con := List.mem_of_getElem? (i := 53) rfl
theorem kk_39 : (39, fun K => .inr (20, [.ref (K 139), .int 0, .int (2998063), .int 0])) ∈ kx_con := List.mem_of_getElem? (i := 54) rfl
theorem kk_139 : (139, fun _ => .inl (.byte, 4, .inl (fun j => kx_tx19.getD j 0))) ∈ kx_con := List.mem_of_getElem? (i := 55) rfl
theorem kk_40 : (40, fun K => .inr (20, [.ref (K 140), .int 0, .int (106898), .int 0])) ∈ kx_con := List.mem_of_getElem? (i := 56) rfl
theorem kk_140 : (140, fun _ => .inl (.byte, 3, .inl (fun j => kx_tx20.getD j 0))) ∈ kx_con := List.mem_of_getElem? (i := 57) rfl
theorem kk_41 : (41, fun K => .inr (20, [.ref (K 141), .int 0, .int (98882), .int 0])) ∈ kx_con := List.mem_of_getElem? (i := 58) rfl
theorem kk_141 : (141, fun _ => .inl (.byte, 3, .inl (fun j => kx_tx21.getD j 0))) ∈ kx_con := List.mem_of_getElem? (i := 59) rfl
theorem kk_42 : (42, fun K => .inr (20, [.ref (K 142), .int 0, .int (102102), .int 0])) ∈ kx_con := List.mem_of_getElem? (i := 60) rfl
theorem kk_142 : (142, fun _ => .inl (.byte, 3, .inl (fun j => kx_tx22.getD j 0))) ∈ kx_con := List.mem_of_getElem? (i := 61) rfl
theorem kk_43 : (43, fun K => .inr (20, [.ref (K 143), .int 0, .int (110414), .int 0])) ∈ kx_con := List.mem_of_getElem? (i := 62) rfl
theorem kk_143 : (143, fun _ => .inl (.byte, 3, .inl (fun j => kx_tx23.getD j 0))) ∈ kx_con := List.mem_of_getElem? (i := 63) rfl
theorem kk_44 : (44, fun K => .inr (20, [.ref (K 144), .int 0, .int (-1414557169), .int 0])) ∈ kx_con := List.mem_of_getElem? (i := 64) rfl
theorem kk_144 : (144, fun _ => .inl (.byte, 6, .inl (fun j => kx_tx24.getD j 0))) ∈ kx_con := List.mem_of_getElem? (i := 65) rfl
theorem kk_45 : (45, fun K => .inr (20, [.ref (K 145), .int 0, .int (96727), .int 0])) ∈ kx_con := List.mem_of_getElem? (i := 66) rfl
theorem kk_145 : (145, fun _ => .inl (.byte, 3, .inl (fun j => kx_tx25.getD j 0))) ∈ kx_con := List.mem_of_getElem? (i := 67) rfl
theorem kk_46 : (46, fun K => .inr (20, [.ref (K 146), .int 0, .int (3551), .int 0])) ∈ kx_con := List.mem_of_getElem? (i := 68) rfl
theorem kk_146 : (146, fun _ => .inl (.byte, 2, .inl (fun j => kx_tx26.getD j 0))) ∈ kx_con := List.mem_of_getElem? (i := 69) rfl
theorem kk_47 : (47, fun K => .inr (20, [.ref (K 147), .int 0, .int (109935), .int 0])) ∈ kx_con := List.mem_of_getElem? (i := 70) rfl
theorem kk_147 : (147, fun _ => .inl (.byte, 3, .inl (fun j => kx_tx27.getD j 0))) ∈ kx_con := List.mem_of_getElem? (i := 71) rfl
theorem kk_48 : (48, fun K => .inr (20, [.ref (K 148), .int 0, .int (3436767), .int 0])) ∈ kx_con := List.mem_of_getElem? (i := 72) rfl
theorem kk_148 : (148, fun _ => .inl (.byte, 4, .inl (fun j => kx_tx28.getD j 0))) ∈ kx_con := List.mem_of_getElem? (i := 73) rfl
theorem kk_49 : (49, fun K => .inr (20, [.ref (K 149), .int 0, .int (3347397), .int 0])) ∈ kx_con := List.mem_of_getElem? (i := 74) rfl
theorem kk_149 : (149, fun _ => .inl (.byte, 4, .inl (fun j => kx_tx29.getD j 0))) ∈ kx_con := List.mem_of_getElem? (i := 75) rfl
theorem kk_50 : (50, fun K => .inr (20, [.ref (K 150), .int 0, .int (3145593), .int 0])) ∈ kx_con := List.mem_of_getElem? (i := 76) rfl
theorem kk_150 : (150, fun _ => .inl (.byte, 4, .inl (fun j => kx_tx30.getD j 0))) ∈ kx_con := List.mem_of_getElem? (i := 77) rfl
theorem kk_51 : (51, fun K => .inr (20, [.ref (K 151), .int 0, .int (109760975), .int 0])) ∈ kx_con := List.mem_of_getElem? (i := 78) rfl
theorem kk_151 : (151, fun _ => .inl (.byte, 5, .inl (fun j => kx_tx31.getD j 0))) ∈ kx_con := List.mem_of_getElem? (i := 79) rfl
theorem kk_52 : (52, fun K => .inr (20, [.ref (K 152), .int 0, .int (-1361636432), .int 0])) ∈ kx_con := List.mem_of_getElem? (i := 80) rfl
theorem kk_152 : (152, fun _ => .inl (.byte, 6, .inl (fun j => kx_tx32.getD j 0))) ∈ kx_con := List.mem_of_getElem? (i := 81) rfl
theorem kk_53 : (53, fun K => .inr (20, [.ref (K 153), .int 0, .int (-1298713976), .int 0])) ∈ kx_con := List.mem_of_getElem? (i := 82) rfl
theorem kk_153 : (153, fun _ => .inl (.byte, 6, .inl (fun j => kx_tx33.getD j 0))) ∈ kx_con := List.mem_of_getElem? (i := 83) rfl
theorem kk_54 : (54, fun K => .inr (20, [.ref (K 154), .int 0, .int (-802385437), .int 0])) ∈ kx_con := List.mem_of_getElem? (i := 84) rfl
theorem kk_154 : (154, fun _ => .inl (.byte, 20, .inl (fun j => kx_tx34.getD j 0))) ∈ kx_con := List.mem_of_getElem? (i := 85) rfl
theorem kk_55 : (55, fun K => .inr (20, [.ref (K 155), .int 0, .int (-687023272), .int 0])) ∈ kx_con := List.mem_of_getElem? (i := 86) rfl
theorem kk_155 : (155, fun _ => .inl (.byte, 7, .inl (fun j => kx_tx35.getD j 0))) ∈ kx_con := List.mem_of_getElem? (i := 87) rfl
theorem kk_56 : (56, fun K => .inr (20, [.ref (K 156), .int 0, .int (186512763), .int 0])) ∈ kx_con := List.mem_of_getElem? (i := 88) rfl
theorem kk_156 : (156, fun _ => .inl (.byte, 8, .inl (fun j => kx_tx36.getD j 0))) ∈ kx_con := List.mem_of_getElem? (i := 89) rfl
theorem kk_57 : (57, fun K => .inr (20, [.ref (K 157), .int 0, .int (1830), .int 0])) ∈ kx_con := List.mem_of_getElem? (i := 90) rfl
theorem kk_157 : (157, fun _ => .inl (.byte, 2, .inl (fun j => kx_tx37.getD j 0))) ∈ kx_con := List.mem_of_getElem? (i := 91) rfl
theorem kk_58 : (58, fun K => .inr (20, [.ref (K 158), .int 0, .int (1849176457), .int 0])) ∈ kx_con := List.mem_of_getElem? (i := 92) rfl
theorem kk_158 : (158, fun _ => .inl (.byte, 27, .inl (fun j => kx_tx38.getD j 0))) ∈ kx_con := List.mem_of_getElem? (i := 93) rfl
theorem kk_59 : (59, fun K => .inr (20, [.ref (K 159), .int 0, .int (1865747936), .int 0])) ∈ kx_con := List.mem_of_getElem? (i := 94) rfl
theorem kk_159 : (159, fun _ => .inl (.byte, 10, .inl (fun j => kx_tx39.getD j 0))) ∈ kx_con := List.mem_of_getElem? (i := 95) rfl
theorem kk_60 : (60, fun K => .inr (20, [.ref (K 160), .int 0, .int (252444138), .int 0])) ∈ kx_con := List.mem_of_getElem? (i := 96) rfl
theorem kk_160 : (160, fun _ => .inl (.byte, 12, .inl (fun j => kx_tx40.getD j 0))) ∈ kx_con := List.mem_of_getElem? (i := 97) rfl
theorem kk_61 : (61, fun K => .inr (20, [.ref (K 161), .int 0, .int (41), .int 0])) ∈ kx_con := List.mem_of_getElem? (i := 98) rfl
theorem kk_161 : (161, fun _ => .inl (.byte, 1, .inl (fun j => kx_tx41.getD j 0))) ∈ kx_con := List.mem_of_getElem? (i := 99) rfl
theorem kk_62 : (62, fun K => .inr (20, [.ref (K 162), .int 0, .int (127176833), .int 0])) ∈ kx_con := List.mem_of_getElem? (i := 100) rfl
theorem kk_162 : (162, fun _ => .inl (.byte, 26, .inl (fun j => kx_tx42.getD j 0))) ∈ kx_con := List.mem_of_getElem? (i := 101) rfl
theorem ks_java_util_ArrayList_23 : ("java/util/ArrayList", 23, "Illegal Capacity: ", 20) ∈ kx_str := List.mem_of_getElem? (i := 0) rfl
theorem ks_java_util_Arrays_337 : ("java/util/Arrays", 337, " > ", 21) ∈ kx_str := List.mem_of_getElem? (i := 1) rfl
theorem ks_ArcRecorder_Parser_40 : ("ArcRecorder$Parser", 40, "", 22) ∈ kx_str := List.mem_of_getElem? (i := 2) rfl
theorem ks_ArcRecorder_Parser_178 : ("ArcRecorder$Parser", 178, "recorder", 23) ∈ kx_str := List.mem_of_getElem? (i := 3) rfl
theorem ks_ArcRecorder_Parser_180 : ("ArcRecorder$Parser", 180, "samples", 24) ∈ kx_str := List.mem_of_getElem? (i := 4) rfl
theorem ks_ArcRecorder_Parser_184 : ("ArcRecorder$Parser", 184, "window", 25) ∈ kx_str := List.mem_of_getElem? (i := 5) rfl
theorem ks_ArcRecorder_Parser_191 : ("ArcRecorder$Parser", 191, "count", 26) ∈ kx_str := List.mem_of_getElem? (i := 6) rfl
theorem ks_jdk_internal_util_ArraysSupport_92 : ("jdk/internal/util/ArraysSupport", 92, "unrecognized basic type: ", 27) ∈ kx_str := List.mem_of_getElem? (i := 7) rfl
theorem ks_ArcRecorder_Parser_304 : ("ArcRecorder$Parser", 304, "branch", 28) ∈ kx_str := List.mem_of_getElem? (i := 8) rfl
theorem ks_ArcRecorder_Parser_223 : ("ArcRecorder$Parser", 223, "heater", 29) ∈ kx_str := List.mem_of_getElem? (i := 9) rfl
theorem ks_ArcRecorder_Parser_225 : ("ArcRecorder$Parser", 225, "motor", 30) ∈ kx_str := List.mem_of_getElem? (i := 10) rfl
theorem ks_ArcRecorder_Parser_227 : ("ArcRecorder$Parser", 227, "dimmer", 31) ∈ kx_str := List.mem_of_getElem? (i := 11) rfl
theorem ks_ArcRecorder_Parser_306 : ("ArcRecorder$Parser", 306, "arc", 32) ∈ kx_str := List.mem_of_getElem? (i := 12) rfl
theorem ks_ArcRecorder_Parser_308 : ("ArcRecorder$Parser", 308, "seed", 33) ∈ kx_str := List.mem_of_getElem? (i := 13) rfl
theorem ks_ArcRecorder_Parser_309 : ("ArcRecorder$Parser", 309, "signature", 34) ∈ kx_str := List.mem_of_getElem? (i := 14) rfl
theorem ks_ArcRecorder_Parser_311 : ("ArcRecorder$Parser", 311, "nuisance", 35) ∈ kx_str := List.mem_of_getElem? (i := 15) rfl
theorem ks_ArcRecorder_Parser_313 : ("ArcRecorder$Parser", 313, "at", 36) ∈ kx_str := List.mem_of_getElem? (i := 16) rfl
theorem ks_ArcRecorder_40 : ("ArcRecorder", 40, "recorder", 23) ∈ kx_str := List.mem_of_getElem? (i := 17) rfl
theorem ks_ArcRecorder_42 : ("ArcRecorder", 42, "samples", 24) ∈ kx_str := List.mem_of_getElem? (i := 18) rfl
theorem ks_ArcRecorder_44 : ("ArcRecorder", 44, "window", 25) ∈ kx_str := List.mem_of_getElem? (i := 19) rfl
theorem ks_ArcRecorder_46 : ("ArcRecorder", 46, "count", 26) ∈ kx_str := List.mem_of_getElem? (i := 20) rfl
theorem ks_ArcRecorder_48 : ("ArcRecorder", 48, "branch", 28) ∈ kx_str := List.mem_of_getElem? (i := 21) rfl
theorem ks_ArcRecorder_50 : ("ArcRecorder", 50, "rated", 37) ∈ kx_str := List.mem_of_getElem? (i := 22) rfl
theorem ks_ArcRecorder_52 : ("ArcRecorder", 52, "heater", 29) ∈ kx_str := List.mem_of_getElem? (i := 23) rfl
theorem ks_ArcRecorder_54 : ("ArcRecorder", 54, "motor", 30) ∈ kx_str := List.mem_of_getElem? (i := 24) rfl
theorem ks_ArcRecorder_56 : ("ArcRecorder", 56, "dimmer", 31) ∈ kx_str := List.mem_of_getElem? (i := 25) rfl
theorem ks_ArcRecorder_58 : ("ArcRecorder", 58, "arc", 32) ∈ kx_str := List.mem_of_getElem? (i := 26) rfl
theorem ks_ArcRecorder_60 : ("ArcRecorder", 60, "of", 38) ∈ kx_str := List.mem_of_getElem? (i := 27) rfl
theorem ks_ArcRecorder_62 : ("ArcRecorder", 62, "amps", 39) ∈ kx_str := List.mem_of_getElem? (i := 28) rfl
theorem ks_ArcRecorder_64 : ("ArcRecorder", 64, "lag", 40) ∈ kx_str := List.mem_of_getElem? (i := 29) rfl
theorem ks_ArcRecorder_66 : ("ArcRecorder", 66, "cut", 41) ∈ kx_str := List.mem_of_getElem? (i := 30) rfl
theorem ks_ArcRecorder_68 : ("ArcRecorder", 68, "gap", 42) ∈ kx_str := List.mem_of_getElem? (i := 31) rfl
theorem ks_ArcRecorder_70 : ("ArcRecorder", 70, "out", 43) ∈ kx_str := List.mem_of_getElem? (i := 32) rfl
theorem ks_ArcRecorder_72 : ("ArcRecorder", 72, "seed", 33) ∈ kx_str := List.mem_of_getElem? (i := 33) rfl
theorem ks_ArcRecorder_74 : ("ArcRecorder", 74, "signature", 34) ∈ kx_str := List.mem_of_getElem? (i := 34) rfl
theorem ks_ArcRecorder_76 : ("ArcRecorder", 76, "always", 44) ∈ kx_str := List.mem_of_getElem? (i := 35) rfl
theorem ks_ArcRecorder_78 : ("ArcRecorder", 78, "and", 45) ∈ kx_str := List.mem_of_getElem? (i := 36) rfl
theorem ks_ArcRecorder_80 : ("ArcRecorder", 80, "nuisance", 35) ∈ kx_str := List.mem_of_getElem? (i := 37) rfl
theorem ks_ArcRecorder_82 : ("ArcRecorder", 82, "at", 36) ∈ kx_str := List.mem_of_getElem? (i := 38) rfl
theorem ks_ArcRecorder_84 : ("ArcRecorder", 84, "on", 46) ∈ kx_str := List.mem_of_getElem? (i := 39) rfl
theorem ks_ArcRecorder_86 : ("ArcRecorder", 86, "off", 47) ∈ kx_str := List.mem_of_getElem? (i := 40) rfl
theorem ks_ArcRecorder_22 : ("ArcRecorder", 22, "peak", 48) ∈ kx_str := List.mem_of_getElem? (i := 41) rfl
theorem ks_ArcRecorder_28 : ("ArcRecorder", 28, "mean", 49) ∈ kx_str := List.mem_of_getElem? (i := 42) rfl
theorem ks_ArcRecorder_30 : ("ArcRecorder", 30, "flat", 50) ∈ kx_str := List.mem_of_getElem? (i := 43) rfl
theorem ks_ArcRecorder_32 : ("ArcRecorder", 32, "steep", 51) ∈ kx_str := List.mem_of_getElem? (i := 44) rfl
theorem ks_ArcRecorder_34 : ("ArcRecorder", 34, "change", 52) ∈ kx_str := List.mem_of_getElem? (i := 45) rfl
theorem ks_ArcRecorder_36 : ("ArcRecorder", 36, "energy", 53) ∈ kx_str := List.mem_of_getElem? (i := 46) rfl
theorem ks_ArcRecorder_Parser_202 : ("ArcRecorder$Parser", 202, "rated", 37) ∈ kx_str := List.mem_of_getElem? (i := 47) rfl
theorem ks_ArcRecorder_Parser_206 : ("ArcRecorder$Parser", 206, "of", 38) ∈ kx_str := List.mem_of_getElem? (i := 48) rfl
theorem ks_ArcRecorder_Parser_218 : ("ArcRecorder$Parser", 218, "amps", 39) ∈ kx_str := List.mem_of_getElem? (i := 49) rfl
theorem ks_ArcRecorder_Parser_236 : ("ArcRecorder$Parser", 236, "lag", 40) ∈ kx_str := List.mem_of_getElem? (i := 50) rfl
theorem ks_ArcRecorder_Parser_243 : ("ArcRecorder$Parser", 243, "cut", 41) ∈ kx_str := List.mem_of_getElem? (i := 51) rfl
theorem ks_ArcRecorder_Parser_246 : ("ArcRecorder$Parser", 246, "gap", 42) ∈ kx_str := List.mem_of_getElem? (i := 52) rfl
theorem ks_ArcRecorder_Parser_250 : ("ArcRecorder$Parser", 250, "out", 43) ∈ kx_str := List.mem_of_getElem? (i := 53) rfl
theorem ks_ArcRecorder_Parser_283 : ("ArcRecorder$Parser", 283, "always", 44) ∈ kx_str := List.mem_of_getElem? (i := 54) rfl
theorem ks_ArcRecorder_Parser_275 : ("ArcRecorder$Parser", 275, "and", 45) ∈ kx_str := List.mem_of_getElem? (i := 55) rfl
theorem ks_ArcRecorder_Parser_295 : ("ArcRecorder$Parser", 295, "on", 46) ∈ kx_str := List.mem_of_getElem? (i := 56) rfl
theorem ks_ArcRecorder_Parser_297 : ("ArcRecorder$Parser", 297, "off", 47) ∈ kx_str := List.mem_of_getElem? (i := 57) rfl
theorem ks_java_util_ArrayDeque_35 : ("java/util/ArrayDeque", 35, "Sorry, deque too big", 54) ∈ kx_str := List.mem_of_getElem? (i := 58) rfl
theorem ks_java_util_ArrayList_201 : ("java/util/ArrayList", 201, "Index: ", 55) ∈ kx_str := List.mem_of_getElem? (i := 59) rfl
theorem ks_java_util_ArrayList_203 : ("java/util/ArrayList", 203, ", Size: ", 56) ∈ kx_str := List.mem_of_getElem? (i := 60) rfl
theorem ks_java_util_LinkedList_100 : ("java/util/LinkedList", 100, "Index: ", 55) ∈ kx_str := List.mem_of_getElem? (i := 61) rfl
theorem ks_java_util_LinkedList_109 : ("java/util/LinkedList", 109, ", Size: ", 56) ∈ kx_str := List.mem_of_getElem? (i := 62) rfl
theorem ks_java_lang_Throwable_81 : ("java/lang/Throwable", 81, ": ", 57) ∈ kx_str := List.mem_of_getElem? (i := 63) rfl
theorem ks_java_lang_StringIndexOutOfBoundsException_13 : ("java/lang/StringIndexOutOfBoundsException", 13, "String index out of range: ", 58) ∈ kx_str := List.mem_of_getElem? (i := 64) rfl
theorem ks_java_util_Arrays_48 : ("java/util/Arrays", 48, "fromIndex(", 59) ∈ kx_str := List.mem_of_getElem? (i := 65) rfl
theorem ks_java_util_Arrays_57 : ("java/util/Arrays", 57, ") > toIndex(", 60) ∈ kx_str := List.mem_of_getElem? (i := 66) rfl
theorem ks_java_util_Arrays_59 : ("java/util/Arrays", 59, ")", 61) ∈ kx_str := List.mem_of_getElem? (i := 67) rfl
theorem ks_java_lang_ArrayIndexOutOfBoundsException_13 : ("java/lang/ArrayIndexOutOfBoundsException", 13, "Array index out of range: ", 62) ∈ kx_str := List.mem_of_getElem? (i := 68) rfl
theorem ks_ArcRecorderModel_162 : ("ArcRecorderModel", 162, "recorder", 23) ∈ kx_str := List.mem_of_getElem? (i := 69) rfl
theorem ks_ArcRecorderModel_164 : ("ArcRecorderModel", 164, "samples", 24) ∈ kx_str := List.mem_of_getElem? (i := 70) rfl
theorem ks_ArcRecorderModel_166 : ("ArcRecorderModel", 166, "window", 25) ∈ kx_str := List.mem_of_getElem? (i := 71) rfl
theorem ks_ArcRecorderModel_168 : ("ArcRecorderModel", 168, "count", 26) ∈ kx_str := List.mem_of_getElem? (i := 72) rfl
theorem ks_ArcRecorderModel_154 : ("ArcRecorderModel", 154, "heater", 29) ∈ kx_str := List.mem_of_getElem? (i := 73) rfl
theorem ks_ArcRecorderModel_156 : ("ArcRecorderModel", 156, "motor", 30) ∈ kx_str := List.mem_of_getElem? (i := 74) rfl
theorem ks_ArcRecorderModel_158 : ("ArcRecorderModel", 158, "dimmer", 31) ∈ kx_str := List.mem_of_getElem? (i := 75) rfl
theorem ks_ArcRecorderModel_160 : ("ArcRecorderModel", 160, "arc", 32) ∈ kx_str := List.mem_of_getElem? (i := 76) rfl
theorem ks_ArcRecorderModel_170 : ("ArcRecorderModel", 170, "branch", 28) ∈ kx_str := List.mem_of_getElem? (i := 77) rfl
theorem ks_ArcRecorderModel_172 : ("ArcRecorderModel", 172, "rated", 37) ∈ kx_str := List.mem_of_getElem? (i := 78) rfl
theorem ks_ArcRecorderModel_174 : ("ArcRecorderModel", 174, "of", 38) ∈ kx_str := List.mem_of_getElem? (i := 79) rfl
theorem ks_ArcRecorderModel_176 : ("ArcRecorderModel", 176, "amps", 39) ∈ kx_str := List.mem_of_getElem? (i := 80) rfl
theorem ks_ArcRecorderModel_178 : ("ArcRecorderModel", 178, "lag", 40) ∈ kx_str := List.mem_of_getElem? (i := 81) rfl
theorem ks_ArcRecorderModel_180 : ("ArcRecorderModel", 180, "cut", 41) ∈ kx_str := List.mem_of_getElem? (i := 82) rfl
theorem ks_ArcRecorderModel_182 : ("ArcRecorderModel", 182, "gap", 42) ∈ kx_str := List.mem_of_getElem? (i := 83) rfl
theorem ks_ArcRecorderModel_184 : ("ArcRecorderModel", 184, "out", 43) ∈ kx_str := List.mem_of_getElem? (i := 84) rfl
theorem ks_ArcRecorderModel_186 : ("ArcRecorderModel", 186, "seed", 33) ∈ kx_str := List.mem_of_getElem? (i := 85) rfl
theorem ks_ArcRecorderModel_188 : ("ArcRecorderModel", 188, "signature", 34) ∈ kx_str := List.mem_of_getElem? (i := 86) rfl
theorem ks_ArcRecorderModel_190 : ("ArcRecorderModel", 190, "always", 44) ∈ kx_str := List.mem_of_getElem? (i := 87) rfl
theorem ks_ArcRecorderModel_192 : ("ArcRecorderModel", 192, "and", 45) ∈ kx_str := List.mem_of_getElem? (i := 88) rfl
theorem ks_ArcRecorderModel_194 : ("ArcRecorderModel", 194, "nuisance", 35) ∈ kx_str := List.mem_of_getElem? (i := 89) rfl
theorem ks_ArcRecorderModel_196 : ("ArcRecorderModel", 196, "at", 36) ∈ kx_str := List.mem_of_getElem? (i := 90) rfl
theorem ks_ArcRecorderModel_198 : ("ArcRecorderModel", 198, "on", 46) ∈ kx_str := List.mem_of_getElem? (i := 91) rfl
theorem ks_ArcRecorderModel_200 : ("ArcRecorderModel", 200, "off", 47) ∈ kx_str := List.mem_of_getElem? (i := 92) rfl
theorem ks_ArcRecorderModel_142 : ("ArcRecorderModel", 142, "peak", 48) ∈ kx_str := List.mem_of_getElem? (i := 93) rfl
theorem ks_ArcRecorderModel_144 : ("ArcRecorderModel", 144, "mean", 49) ∈ kx_str := List.mem_of_getElem? (i := 94) rfl
theorem ks_ArcRecorderModel_146 : ("ArcRecorderModel", 146, "flat", 50) ∈ kx_str := List.mem_of_getElem? (i := 95) rfl
theorem ks_ArcRecorderModel_148 : ("ArcRecorderModel", 148, "steep", 51) ∈ kx_str := List.mem_of_getElem? (i := 96) rfl
theorem ks_ArcRecorderModel_150 : ("ArcRecorderModel", 150, "change", 52) ∈ kx_str := List.mem_of_getElem? (i := 97) rfl
theorem ks_ArcRecorderModel_152 : ("ArcRecorderModel", 152, "energy", 53) ∈ kx_str := List.mem_of_getElem? (i := 98) rfl
theorem kt_java_util_ArrayList_EMPTY_ELEMENTDATA : ("java/util/ArrayList", "EMPTY_ELEMENTDATA", "[Ljava/lang/Object;", .inr (0, true)) ∈ kx_sta := List.mem_of_getElem? (i := 0) rfl
theorem kt_java_util_ArrayList_DEFAULTCAPACITY_EMPTY_ELEMENTDATA : ("java/util/ArrayList", "DEFAULTCAPACITY_EMPTY_ELEMENTDATA", "[Ljava/lang/Object;", .inr (1, true)) ∈ kx_sta := List.mem_of_getElem? (i := 1) rfl
theorem kt_java_lang_Integer_DigitOnes : ("java/lang/Integer", "DigitOnes", "[B", .inr (2, true)) ∈ kx_sta := List.mem_of_getElem? (i := 2) rfl
theorem kt_java_lang_Integer_DigitTens : ("java/lang/Integer", "DigitTens", "[B", .inr (3, true)) ∈ kx_sta := List.mem_of_getElem? (i := 3) rfl
theorem kt_ArcRecorder_Feature__VALUES : ("ArcRecorder$Feature", "$VALUES", "[LArcRecorder$Feature;", .inr (4, true)) ∈ kx_sta := List.mem_of_getElem? (i := 4) rfl
theorem kt_jdk_internal_util_ArraysSupport_JLA : ("jdk/internal/util/ArraysSupport", "JLA", "Ljdk/internal/access/JavaLangAccess;", .inr (5, true)) ∈ kx_sta := List.mem_of_getElem? (i := 5) rfl
theorem kt_ArcRecorder_Token_END : ("ArcRecorder$Token", "END", "LArcRecorder$Token;", .inr (7, true)) ∈ kx_sta := List.mem_of_getElem? (i := 6) rfl
theorem kt_ArcRecorder_Token_WORD : ("ArcRecorder$Token", "WORD", "LArcRecorder$Token;", .inr (8, true)) ∈ kx_sta := List.mem_of_getElem? (i := 7) rfl
theorem kt_ArcRecorder_Token_NUMBER : ("ArcRecorder$Token", "NUMBER", "LArcRecorder$Token;", .inr (9, true)) ∈ kx_sta := List.mem_of_getElem? (i := 8) rfl
theorem kt_ArcRecorder_Token_SYMBOL : ("ArcRecorder$Token", "SYMBOL", "LArcRecorder$Token;", .inr (10, true)) ∈ kx_sta := List.mem_of_getElem? (i := 9) rfl
theorem kt_ArcRecorder_Feature_PEAK : ("ArcRecorder$Feature", "PEAK", "LArcRecorder$Feature;", .inr (11, true)) ∈ kx_sta := List.mem_of_getElem? (i := 10) rfl
theorem kt_ArcRecorder_Feature_MEAN : ("ArcRecorder$Feature", "MEAN", "LArcRecorder$Feature;", .inr (12, true)) ∈ kx_sta := List.mem_of_getElem? (i := 11) rfl
theorem kt_ArcRecorder_Feature_FLAT : ("ArcRecorder$Feature", "FLAT", "LArcRecorder$Feature;", .inr (13, true)) ∈ kx_sta := List.mem_of_getElem? (i := 12) rfl
theorem kt_ArcRecorder_Feature_STEEP : ("ArcRecorder$Feature", "STEEP", "LArcRecorder$Feature;", .inr (14, true)) ∈ kx_sta := List.mem_of_getElem? (i := 13) rfl
theorem kt_ArcRecorder_Feature_CHANGE : ("ArcRecorder$Feature", "CHANGE", "LArcRecorder$Feature;", .inr (15, true)) ∈ kx_sta := List.mem_of_getElem? (i := 14) rfl
theorem kt_ArcRecorder_Feature_ENERGY : ("ArcRecorder$Feature", "ENERGY", "LArcRecorder$Feature;", .inr (16, true)) ∈ kx_sta := List.mem_of_getElem? (i := 15) rfl
theorem kt_java_lang_String_COMPACT_STRINGS : ("java/lang/String", "COMPACT_STRINGS", "Z", .inl 1) ∈ kx_sta := List.mem_of_getElem? (i := 16) rfl
theorem kt_java_lang_StringUTF16__assertionsDisabled : ("java/lang/StringUTF16", "$assertionsDisabled", "Z", .inl 1) ∈ kx_sta := List.mem_of_getElem? (i := 17) rfl
theorem kt_java_lang_StringUTF16_HI_BYTE_SHIFT : ("java/lang/StringUTF16", "HI_BYTE_SHIFT", "I", .inl 0) ∈ kx_sta := List.mem_of_getElem? (i := 18) rfl
theorem kt_java_lang_StringUTF16_LO_BYTE_SHIFT : ("java/lang/StringUTF16", "LO_BYTE_SHIFT", "I", .inl 8) ∈ kx_sta := List.mem_of_getElem? (i := 19) rfl
theorem kt_jdk_internal_util_Preconditions_SIOOBE_FORMATTER : ("jdk/internal/util/Preconditions", "SIOOBE_FORMATTER", "Ljava/util/function/BiFunction;", .inr (400, false)) ∈ kx_sta := List.mem_of_getElem? (i := 20) rfl
theorem kt_java_lang_Throwable_UNASSIGNED_STACK : ("java/lang/Throwable", "UNASSIGNED_STACK", "[Ljava/lang/StackTraceElement;", .inr (401, false)) ∈ kx_sta := List.mem_of_getElem? (i := 21) rfl
theorem kt_java_lang_Throwable_SUPPRESSED_SENTINEL : ("java/lang/Throwable", "SUPPRESSED_SENTINEL", "Ljava/util/List;", .inr (402, false)) ∈ kx_sta := List.mem_of_getElem? (i := 22) rfl
theorem kn_0_1 : (0, 1) ∈ kx_ne := List.mem_of_getElem? (i := 0) rfl
theorem kn_7_8 : (7, 8) ∈ kx_ne := List.mem_of_getElem? (i := 1) rfl
theorem kn_7_9 : (7, 9) ∈ kx_ne := List.mem_of_getElem? (i := 2) rfl
theorem kn_8_9 : (8, 9) ∈ kx_ne := List.mem_of_getElem? (i := 3) rfl
theorem kn_7_10 : (7, 10) ∈ kx_ne := List.mem_of_getElem? (i := 4) rfl
theorem kn_8_10 : (8, 10) ∈ kx_ne := List.mem_of_getElem? (i := 5) rfl
theorem kn_9_10 : (9, 10) ∈ kx_ne := List.mem_of_getElem? (i := 6) rfl
theorem kn_7_11 : (7, 11) ∈ kx_ne := List.mem_of_getElem? (i := 7) rfl
theorem kn_8_11 : (8, 11) ∈ kx_ne := List.mem_of_getElem? (i := 8) rfl
theorem kn_9_11 : (9, 11) ∈ kx_ne := List.mem_of_getElem? (i := 9) rfl
theorem kn_10_11 : (10, 11) ∈ kx_ne := List.mem_of_getElem? (i := 10) rfl
theorem kn_7_12 : (7, 12) ∈ kx_ne := List.mem_of_getElem? (i := 11) rfl
theorem kn_8_12 : (8, 12) ∈ kx_ne := List.mem_of_getElem? (i := 12) rfl
theorem kn_9_12 : (9, 12) ∈ kx_ne := List.mem_of_getElem? (i := 13) rfl
theorem kn_10_12 : (10, 12) ∈ kx_ne := List.mem_of_getElem? (i := 14) rfl
theorem kn_11_12 : (11, 12) ∈ kx_ne := List.mem_of_getElem? (i := 15) rfl
theorem kn_7_13 : (7, 13) ∈ kx_ne := List.mem_of_getElem? (i := 16) rfl
theorem kn_8_13 : (8, 13) ∈ kx_ne := List.mem_of_getElem? (i := 17) rfl
theorem kn_9_13 : (9, 13) ∈ kx_ne := List.mem_of_getElem? (i := 18) rfl
theorem kn_10_13 : (10, 13) ∈ kx_ne := List.mem_of_getElem? (i := 19) rfl
theorem kn_11_13 : (11, 13) ∈ kx_ne := List.mem_of_getElem? (i := 20) rfl
theorem kn_12_13 : (12, 13) ∈ kx_ne := List.mem_of_getElem? (i := 21) rfl
theorem kn_7_14 : (7, 14) ∈ kx_ne := List.mem_of_getElem? (i := 22) rfl
theorem kn_8_14 : (8, 14) ∈ kx_ne := List.mem_of_getElem? (i := 23) rfl
theorem kn_9_14 : (9, 14) ∈ kx_ne := List.mem_of_getElem? (i := 24) rfl
theorem kn_10_14 : (10, 14) ∈ kx_ne := List.mem_of_getElem? (i := 25) rfl
theorem kn_11_14 : (11, 14) ∈ kx_ne := List.mem_of_getElem? (i := 26) rfl
theorem kn_12_14 : (12, 14) ∈ kx_ne := List.mem_of_getElem? (i := 27) rfl
theorem kn_13_14 : (13, 14) ∈ kx_ne := List.mem_of_getElem? (i := 28) rfl
theorem kn_7_15 : (7, 15) ∈ kx_ne := List.mem_of_getElem? (i := 29) rfl
theorem kn_8_15 : (8, 15) ∈ kx_ne := List.mem_of_getElem? (i := 30) rfl
theorem kn_9_15 : (9, 15) ∈ kx_ne := List.mem_of_getElem? (i := 31) rfl
theorem kn_10_15 : (10, 15) ∈ kx_ne := List.mem_of_getElem? (i := 32) rfl
theorem kn_11_15 : (11, 15) ∈ kx_ne := List.mem_of_getElem? (i := 33) rfl
theorem kn_12_15 : (12, 15) ∈ kx_ne := List.mem_of_getElem? (i := 34) rfl
theorem kn_13_15 : (13, 15) ∈ kx_ne := List.mem_of_getElem? (i := 35) rfl
theorem kn_14_15 : (14, 15) ∈ kx_ne := List.mem_of_getElem? (i := 36) rfl
theorem kn_7_16 : (7, 16) ∈ kx_ne := List.mem_of_getElem? (i := 37) rfl
theorem kn_8_16 : (8, 16) ∈ kx_ne := List.mem_of_getElem? (i := 38) rfl
theorem kn_9_16 : (9, 16) ∈ kx_ne := List.mem_of_getElem? (i := 39) rfl
theorem kn_10_16 : (10, 16) ∈ kx_ne := List.mem_of_getElem? (i := 40) rfl
theorem kn_11_16 : (11, 16) ∈ kx_ne := List.mem_of_getElem? (i := 41) rfl
theorem kn_12_16 : (12, 16) ∈ kx_ne := List.mem_of_getElem? (i := 42) rfl
theorem kn_13_16 : (13, 16) ∈ kx_ne := List.mem_of_getElem? (i := 43) rfl
theorem kn_14_16 : (14, 16) ∈ kx_ne := List.mem_of_getElem? (i := 44) rfl
theorem kn_15_16 : (15, 16) ∈ kx_ne := List.mem_of_getElem? (i := 45) rfl
theorem kn_300_301 : (300, 301) ∈ kx_ne := List.mem_of_getElem? (i := 46) rfl
theorem kn_300_302 : (300, 302) ∈ kx_ne := List.mem_of_getElem? (i := 47) rfl
theorem kn_300_303 : (300, 303) ∈ kx_ne := List.mem_of_getElem? (i := 48) rfl
theorem kn_300_304 : (300, 304) ∈ kx_ne := List.mem_of_getElem? (i := 49) rfl
theorem kn_300_305 : (300, 305) ∈ kx_ne := List.mem_of_getElem? (i := 50) rfl
theorem kn_300_306 : (300, 306) ∈ kx_ne := List.mem_of_getElem? (i := 51) rfl
theorem kn_300_307 : (300, 307) ∈ kx_ne := List.mem_of_getElem? (i := 52) rfl
theorem kn_300_308 : (300, 308) ∈ kx_ne := List.mem_of_getElem? (i := 53) rfl
theorem km__Ljava_lang_Object_ : ("[Ljava/lang/Object;", 300) ∈ kx_mir := List.mem_of_getElem? (i := 0) rfl
theorem km_ArcRecorder_ParseError : ("ArcRecorder$ParseError", 301) ∈ kx_mir := List.mem_of_getElem? (i := 1) rfl
theorem km_java_lang_ArrayIndexOutOfBoundsException : ("java/lang/ArrayIndexOutOfBoundsException", 302) ∈ kx_mir := List.mem_of_getElem? (i := 2) rfl
theorem km_java_lang_IllegalArgumentException : ("java/lang/IllegalArgumentException", 303) ∈ kx_mir := List.mem_of_getElem? (i := 3) rfl
theorem km_java_lang_IllegalStateException : ("java/lang/IllegalStateException", 304) ∈ kx_mir := List.mem_of_getElem? (i := 4) rfl
theorem km_java_lang_IndexOutOfBoundsException : ("java/lang/IndexOutOfBoundsException", 305) ∈ kx_mir := List.mem_of_getElem? (i := 5) rfl
theorem km_java_lang_StringIndexOutOfBoundsException : ("java/lang/StringIndexOutOfBoundsException", 306) ∈ kx_mir := List.mem_of_getElem? (i := 6) rfl
theorem km_java_lang_Throwable : ("java/lang/Throwable", 307) ∈ kx_mir := List.mem_of_getElem? (i := 7) rfl
theorem km_java_util_NoSuchElementException : ("java/util/NoSuchElementException", 308) ∈ kx_mir := List.mem_of_getElem? (i := 8) rfl
set_option maxRecDepth 100000
/-! K: a method's frame over a heap that is a function of addresses -/
abbrev KOb : Type := Nat × ((FieldType × vp_A) ⊕ (Nat × List Value))
abbrev KHp : Type := Nat → Option KOb
/-- launch, the classes' numbers and slots, the law's first state, the constants' addresses, their cells -/
abbrev KG : Type := Launch × va_G × State × (Nat → Nat) × KHp
abbrev KQ : Type := Option Value → KHp → Prop
abbrev KX : Type := String → Addr → KHp → Prop
/-- a frame: class, code, locals, answer, constructor, handlers -/
abbrev KF : Type := String × ByteArray × Nat × Option FieldType × Bool × List (Nat × Nat × Nat × Nat)
/-- what is owed: depth, cells, slots, the two ends -/
abbrev KB : Type := Nat × Nat × Nat × KQ × KX
abbrev kx_s (G : KG) : State := G.2.2.1
def kx_z (G : KG) : Nat := G.2.2.1.heap.size
abbrev kx_K (G : KG) : Nat → Nat := G.2.2.2.1
abbrev kx_k (G : KG) : KHp := G.2.2.2.2
def kx_el : List String := ["ArcRecorder$Token", "ArcRecorder$Feature$1", "ArcRecorder$Feature$2", "ArcRecorder$Feature$3", "ArcRecorder$Feature$4", "ArcRecorder$Feature$5", "ArcRecorder$Feature$6", "java/lang/System$2"]
def kx_at (G : KG) (a : Nat) (o : KOb) (H : Heap) : Prop := match o.2 with
  | .inl x => ∃ cA : ClassId, H[a]? = some (vp_cell cA x.2) ∧ ArrOfT (kx_s G) cA x.1 ∧ va_RA (kx_s G) cA x.1
  | .inr x => (∃ r : vw_C, kx_cl[x.1]? = some r ∧ x.2.length = r.2.2 ∧ t_OB a (G.2.1.1 x.1) r.2.2 (G.2.1.2 x.1) H (vp_V x.2)) ∨
    (∃ E : String, 100 ≤ x.1 ∧ kx_el[x.1 - 100]? = some E ∧ va_O E a (fun _ => False) (kx_s G) H ∧ ∀ v, x.2 = [v] → va_OF "java/lang/Enum" "ordinal" "I" v a (fun _ => False) (kx_s G) H)
def kx_h (G : KG) (σ : KHp) (H : Heap) : Prop := kx_z G ≤ H.size ∧ (∀ q, q < kx_z G → H[q]? = (kx_s G).heap[q]?) ∧ (∀ a o, σ a = some o → kx_at G a o H ∧ (o.1 = 0 ∨ kx_z G ≤ a)) ∧ ∀ a o, kx_k G a = some o → σ a = some o
def kx_sv (G : KG) (v : Int32 ⊕ (Nat × Bool)) : Value := match v with
  | .inl x => .int x
  | .inr (i, true) => .ref (kx_K G i)
  | .inr (i, false) => va_rf (if kx_K G i = 0 then none else some (kx_K G i - 1))
def kx_g (G : KG) : Prop := G.1.stackTraces = false ∧ (∃ A0 : Array Value, ∀ w ∈ lw_tbl, w.before A0 (kx_s G) = true) ∧
  (∀ (c : Nat) (q : vw_C), kx_cl[c]? = some q → u_Kn (kx_s G) q.1 q.2.1 q.2.2 (G.2.1.1 c) (G.2.1.2 c)) ∧
  vx_Zq Bundle.tN "UNASSIGNED_STACK" Bundle.steD (fun q => kx_z G ≤ q) (kx_s G) (kx_s G).heap ∧ vx_Zq Bundle.tN "SUPPRESSED_SENTINEL" Bundle.listD (fun q => kx_z G ≤ q) (kx_s G) (kx_s G).heap ∧
  (∀ a o, kx_k G a = some o → a < kx_z G ∧ o.1 = 0) ∧
  (∀ r ∈ kx_str, vk_R r.1 r.2.1 r.2.2.1 (kx_K G r.2.2.2) (kx_s G)) ∧
  (∀ r ∈ kx_sta, va_Z r.1 r.2.1 r.2.2.1 (kx_sv G r.2.2.2) (fun q => kx_z G ≤ q) (kx_s G) (kx_s G).heap) ∧
  (∀ r ∈ kx_nc, va_Nc r.1 r.2 (kx_s G)) ∧
  (∀ r ∈ kx_con, kx_k G (kx_K G r.1) = some (0, r.2 (kx_K G))) ∧
  (∀ r ∈ kx_mir, va_Mi r.1 (kx_K G r.2) (kx_s G)) ∧
  ∀ r ∈ kx_ne, kx_K G r.1 ≠ kx_K G r.2
def kx_u (G : KG) (U : State) : Prop := kx_g G ∧ (kx_s G).WarmedH U.vm
def kx_R (B : KB) (R : Room) : Prop := B.1 ≤ R.frames ∧ 64 * B.1 ≤ R.locals ∧ R.cells = B.2.1 ∧ R.slots = B.2.2.1
def kx_fr (G : KG) (F : KF) (p : Program) (s : State) (m : MethodId) (meth : Method) (c : Code) : Prop :=
  p.tables.exec = Jvm.exec ∧ c.code = F.2.1 ∧ c.maxLocals = F.2.2.1 ∧ meth.sig.returnType = F.2.2.2.1 ∧ meth.locks = false ∧ s.vm.findClass F.1 = some m.cls ∧ (F.2.2.2.2.1 = true → meth.name = "<init>") ∧ c.exceptionTable.toList = tableOf F.2.2.2.2.2 ∧ kx_u G s ∧ kx_z G ≤ s.heap.size
def kx_Qc (G : KG) (Q : KQ) : Array Value → State → Outcome → State → Prop := fun _ _ o t => ∃ (v : Option Value) (σ : KHp), o = .returned v ∧ kx_h G σ t.heap ∧ Q v σ
def kx_XC (G : KG) (X : KX) : String → Addr → State → State → Prop := fun E q _ t => ∃ σ : KHp, kx_h G σ t.heap ∧ X E q σ
def kx_l (lsA : Array Slot) (nL : Nat) (ls : Nat → Option Value) : Prop := lsA.size = nL ∧ lv_wf lsA ∧ ∀ (i : Nat) (v : Value), ls i = some v → lsA[i]? = some (.val v)
def kx_L (nL : Nat) (ls : Nat → Option Value) : List (Nat × Value) := (List.range nL).filterMap (fun i => (ls i).map (fun v => (i, v)))
/-- the frame at pc, with locals ls, operands st, the heap σ, bc cells and bs slots left: it comes to an end that is owed -/
def kx (G : KG) (F : KF) (B : KB) (bc bs : Nat) (σ : KHp) (pc : Nat) (ls : Nat → Option Value) (st : List Value) : Prop :=
  ∀ (p : Program) (e : Env) (R : Room) (s : State) (m : MethodId) (args : Array Value) (below : List Frame) (meth : Method) (c : Code) (H : Heap) (locs : List Loc) (cells slots : Nat) (lsA : Array Slot),
    kx_R B R → kx_fr G F p s m meth c → kx_h G σ H → (∀ q ∈ locs, kx_z G ≤ q.base) → kx_l lsA F.2.2.1 ls → cells + bc ≤ B.2.1 → slots + bs ≤ B.2.2.1 →
    W p G.1 e R s m args below meth c H locs cells slots (vx_MQ below (kx_Qc G B.2.2.2.1) (kx_XC G B.2.2.2.2) args s B.2.1 B.2.2.1 (fun q => kx_z G ≤ q)) (F0 m pc lsA st)
/-- the frame at pc with q, of class E, thrown over it -/
def kx_t (G : KG) (F : KF) (B : KB) (bc bs : Nat) (σ : KHp) (pc : Nat) (ls : Nat → Option Value) (E : String) (q : Addr) : Prop :=
  ∀ (p : Program) (e : Env) (R : Room) (s : State) (m : MethodId) (args : Array Value) (below : List Frame) (meth : Method) (c : Code) (H : Heap) (locs : List Loc) (cells slots : Nat) (lsA : Array Slot) (rest : List Value) (ce : Cell),
    kx_R B R → kx_fr G F p s m meth c → kx_h G σ H → (∀ q ∈ locs, kx_z G ≤ q.base) → kx_l lsA F.2.2.1 ls → cells + bc ≤ B.2.1 → slots + bs ≤ B.2.2.1 →
    H[q]? = some ce → ce.vm = .none → s.vm.findClass E = some ce.cls →
    vx_W p G.1 e R s m args below meth c H locs cells slots (vx_MQ below (kx_Qc G B.2.2.2.1) (kx_XC G B.2.2.2.2) args s B.2.1 B.2.2.1 (fun q => kx_z G ≤ q)) (F0 m pc lsA rest) q
/-- a method's contract -/
def kx_c (G : KG) (y : MethodName) (ws : List Cond) (d mc ms : Nat) (As : List Value) (σ : KHp) (Q : KQ) (X : KX) : Prop :=
  vx_Met G.1 y ws ({ frames := d, cells := mc, slots := ms, locals := 64 * d } : Room) (va_Pc As (fun U => kx_u G U ∧ kx_h G σ U.heap)) (kx_Qc G Q) (kx_XC G X) mc ms (fun q => kx_z G ≤ q)
def kx_n : KX := fun _ _ _ => False
/-- locals -/
def kx_a (As : List Value) : Nat → Option Value := fun i => (lv_args 0 As).lookup i
def kL (ls : Nat → Option Value) (i : Nat) (v : Value) : Nat → Option Value := fun j =>
  bif Nat.beq j i then some v else bif Nat.beq (j + 1) i then (match ls j with | some w => bif Nat.beq w.category 2 then none else some w | none => none) else ls j
def kL2 (ls : Nat → Option Value) (i : Nat) (v : Value) : Nat → Option Value := fun j =>
  bif Nat.beq j i then some v else bif Nat.beq j (i + 1) then none else bif Nat.beq (j + 1) i then (match ls j with | some w => bif Nat.beq w.category 2 then none else some w | none => none) else ls j
def kU (σ : KHp) (a : Nat) (o : KOb) : KHp := fun b => if b = a then some o else σ b
theorem kU_s {σ : KHp} {a : Nat} {o : KOb} : kU σ a o a = some o := if_pos rfl
theorem kU_n {σ : KHp} {a b : Nat} {o : KOb} (h : b ≠ a) : kU σ a o b = σ b := if_neg h
theorem kx_L_mem {nL : Nat} {ls : Nat → Option Value} {q : Nat × Value} : q ∈ kx_L nL ls ↔ q.1 < nL ∧ ls q.1 = some q.2 := by
  obtain ⟨i, v⟩ := q
  unfold kx_L
  rw [List.mem_filterMap]
  constructor
  · rintro ⟨j, hj, h⟩
    cases hl : ls j with
    | none => rw [hl] at h; cases h
    | some w =>
      rw [hl] at h
      cases h
      exact ⟨List.mem_range.mp hj, hl⟩
  · rintro ⟨h1, h2⟩
    exact ⟨i, List.mem_range.mpr h1, by rw [show ls i = some v from h2]; rfl⟩
theorem kx_lh {lsA : Array Slot} {nL : Nat} {ls : Nat → Option Value} (h : kx_l lsA nL ls) : lv_has lsA nL (kx_L nL ls) := ⟨h.1, h.2.1, fun q hq => h.2.2 q.1 q.2 (kx_L_mem.mp hq).2⟩
theorem kx_lt {lsA : Array Slot} {nL : Nat} {ls : Nat → Option Value} (h : kx_l lsA nL ls) {i : Nat} {v : Value} (hv : ls i = some v) : i < nL := by
  rw [← h.1]
  exact (Array.getElem?_eq_some_iff.mp (h.2.2 i v hv)).1
theorem kx_bf {a b : Nat} (h : ¬ a = b) : Nat.beq a b = false := by
  cases e : Nat.beq a b with
  | false => rfl
  | true => exact absurd (Nat.eq_of_beq_eq_true e) h
theorem kx_bt {a b : Nat} (h : a = b) : Nat.beq a b = true := by
  subst h
  exact Nat.beq_refl a
theorem kL_ne {ls : Nat → Option Value} {i j : Nat} {v w : Value} (h : kL ls i v j = some w) (hj : j ≠ i) : ls j = some w ∧ ¬ (j + 1 = i ∧ w.category = 2) := by
  unfold kL at h
  rw [show Nat.beq j i = false from kx_bf hj] at h
  by_cases h2 : j + 1 = i
  · rw [show Nat.beq (j + 1) i = true from kx_bt h2] at h
    simp only [cond_false, cond_true] at h
    cases hl : ls j with
    | none => rw [hl] at h; cases h
    | some x =>
      rw [hl] at h
      by_cases hc : x.category = 2
      · dsimp only at h; rw [kx_bt hc] at h
        cases h
      · dsimp only at h; rw [kx_bf hc] at h
        cases h
        exact ⟨rfl, fun z => hc z.2⟩
  · rw [show Nat.beq (j + 1) i = false from kx_bf h2] at h
    exact ⟨h, fun z => h2 z.1⟩
theorem kL2_ne {ls : Nat → Option Value} {i j : Nat} {v w : Value} (h : kL2 ls i v j = some w) (hj : j ≠ i) : ls j = some w ∧ j ≠ i + 1 ∧ ¬ (j + 1 = i ∧ w.category = 2) := by
  unfold kL2 at h
  rw [show Nat.beq j i = false from kx_bf hj] at h
  by_cases h1 : j = i + 1
  · rw [show Nat.beq j (i + 1) = true from kx_bt h1] at h
    cases h
  · rw [show Nat.beq j (i + 1) = false from kx_bf h1] at h
    by_cases h2 : j + 1 = i
    · rw [show Nat.beq (j + 1) i = true from kx_bt h2] at h
      simp only [cond_false, cond_true] at h
      cases hl : ls j with
      | none => rw [hl] at h; cases h
      | some x =>
        rw [hl] at h
        by_cases hc : x.category = 2
        · dsimp only at h; rw [kx_bt hc] at h
          cases h
        · dsimp only at h; rw [kx_bf hc] at h
          cases h
          exact ⟨rfl, h1, fun z => hc z.2⟩
    · rw [show Nat.beq (j + 1) i = false from kx_bf h2] at h
      exact ⟨h, h1, fun z => h2 z.1⟩
theorem kx_st1 {lsA lsB : Array Slot} {nL : Nat} {ls : Nat → Option Value} {i : Nat} {v : Value} {lv' : List (Nat × Value)} (h0 : kx_l lsA nL ls) (hl : (i, v) :: (kx_L nL ls).filter (fun q => !(q.1 == i) && !(q.1 + 1 == i && q.2.category == 2)) = lv') (h : lv_has lsB nL lv') : kx_l lsB nL (kL ls i v) := by
  subst hl
  refine ⟨h.1, h.2.1, fun q1 q2 h2 => h.2.2 (q1, q2) ?_⟩
  obtain ⟨q, hq⟩ : ∃ q : Nat × Value, q = (q1, q2) := ⟨_, rfl⟩
  rw [show q1 = q.1 from by rw [hq], show q2 = q.2 from by rw [hq]] at h2
  rw [← hq]
  by_cases hj : q.1 = i
  · have : kL ls i v q.1 = some v := by unfold kL; rw [show Nat.beq q.1 i = true from kx_bt hj]; rfl
    have e := Option.some.inj (this.symm.trans h2)
    refine List.mem_cons.mpr (Or.inl ?_)
    obtain ⟨a, b⟩ := q
    simp only at hj e
    rw [hj, ← e]
  · obtain ⟨h3, h4⟩ := kL_ne h2 hj
    refine List.mem_cons.mpr (Or.inr (List.mem_filter.mpr ⟨kx_L_mem.mpr ⟨kx_lt h0 h3, h3⟩, ?_⟩))
    simp only [Bool.and_eq_true, Bool.not_eq_true', beq_eq_false_iff_ne, Bool.and_eq_false_iff]
    refine ⟨hj, ?_⟩
    by_cases h5 : q.1 + 1 = i
    · exact Or.inr (fun z => h4 ⟨h5, z⟩)
    · exact Or.inl h5
theorem kx_st2 {lsA lsB : Array Slot} {nL : Nat} {ls : Nat → Option Value} {i : Nat} {v : Value} {lv' : List (Nat × Value)} (h0 : kx_l lsA nL ls) (hl : (i, v) :: (kx_L nL ls).filter (fun q => !(q.1 == i) && (!(q.1 == i + 1) && !(q.1 + 1 == i && q.2.category == 2))) = lv') (h : lv_has lsB nL lv') : kx_l lsB nL (kL2 ls i v) := by
  subst hl
  refine ⟨h.1, h.2.1, fun q1 q2 h2 => h.2.2 (q1, q2) ?_⟩
  obtain ⟨q, hq⟩ : ∃ q : Nat × Value, q = (q1, q2) := ⟨_, rfl⟩
  rw [show q1 = q.1 from by rw [hq], show q2 = q.2 from by rw [hq]] at h2
  rw [← hq]
  by_cases hj : q.1 = i
  · have : kL2 ls i v q.1 = some v := by unfold kL2; rw [show Nat.beq q.1 i = true from kx_bt hj]; rfl
    have e := Option.some.inj (this.symm.trans h2)
    refine List.mem_cons.mpr (Or.inl ?_)
    obtain ⟨a, b⟩ := q
    simp only at hj e
    rw [hj, ← e]
  · obtain ⟨h3, h6, h4⟩ := kL2_ne h2 hj
    refine List.mem_cons.mpr (Or.inr (List.mem_filter.mpr ⟨kx_L_mem.mpr ⟨kx_lt h0 h3, h3⟩, ?_⟩))
    simp only [Bool.and_eq_true, Bool.not_eq_true', beq_eq_false_iff_ne, Bool.and_eq_false_iff]
    refine ⟨hj, h6, ?_⟩
    by_cases h5 : q.1 + 1 = i
    · exact Or.inr (fun z => h4 ⟨h5, z⟩)
    · exact Or.inl h5
section KXR
variable {G : KG} {F : KF} {B : KB} {bc bs : Nat} {σ : KHp} {pc : Nat} {ls : Nat → Option Value} {rest : List Value}
theorem kx_aload_n {k : Fin 4} {i : Nat} {x : Nat} (hdg : decode F.2.1 pc = .ok (.aload_n k, 1)) (hi : (k : Nat) = i) (hl : ls i = some (.ref x)) (k : kx G F B bc bs σ (pc + 1) ls (.ref x :: rest)) : kx G F B bc bs σ pc ls rest := by
  intro p e R s m args below meth c H locs cells slots lsA hR hF hH hS hL hc hs
  exact lv_aload_n hF.1 hF.2.1 hdg hi (hL.2.2 _ _ hl) (k p e R s m args below meth c H locs cells slots lsA hR hF hH hS hL hc hs)
theorem kx_aload {i : Nat} {x : Nat} (hdg : decode F.2.1 pc = .ok (.aload i, 2)) (hl : ls i = some (.ref x)) (k : kx G F B bc bs σ (pc + 2) ls (.ref x :: rest)) : kx G F B bc bs σ pc ls rest := by
  intro p e R s m args below meth c H locs cells slots lsA hR hF hH hS hL hc hs
  exact lv_aload hF.1 hF.2.1 hdg (hL.2.2 _ _ hl) (k p e R s m args below meth c H locs cells slots lsA hR hF hH hS hL hc hs)
theorem kx_iload_n {k : Fin 4} {i : Nat} {x : Int32} (hdg : decode F.2.1 pc = .ok (.iload_n k, 1)) (hi : (k : Nat) = i) (hl : ls i = some (.int x)) (k : kx G F B bc bs σ (pc + 1) ls (.int x :: rest)) : kx G F B bc bs σ pc ls rest := by
  intro p e R s m args below meth c H locs cells slots lsA hR hF hH hS hL hc hs
  exact lv_iload_n hF.1 hF.2.1 hdg hi (hL.2.2 _ _ hl) (k p e R s m args below meth c H locs cells slots lsA hR hF hH hS hL hc hs)
theorem kx_iload {i : Nat} {x : Int32} (hdg : decode F.2.1 pc = .ok (.iload i, 2)) (hl : ls i = some (.int x)) (k : kx G F B bc bs σ (pc + 2) ls (.int x :: rest)) : kx G F B bc bs σ pc ls rest := by
  intro p e R s m args below meth c H locs cells slots lsA hR hF hH hS hL hc hs
  exact lv_iload hF.1 hF.2.1 hdg (hL.2.2 _ _ hl) (k p e R s m args below meth c H locs cells slots lsA hR hF hH hS hL hc hs)
theorem kx_lload_n {k : Fin 4} {i : Nat} {x : Int64} (hdg : decode F.2.1 pc = .ok (.lload_n k, 1)) (hi : (k : Nat) = i) (hl : ls i = some (.long x)) (k : kx G F B bc bs σ (pc + 1) ls (.long x :: rest)) : kx G F B bc bs σ pc ls rest := by
  intro p e R s m args below meth c H locs cells slots lsA hR hF hH hS hL hc hs
  exact lv_lload_n hF.1 hF.2.1 hdg hi (hL.2.2 _ _ hl) (k p e R s m args below meth c H locs cells slots lsA hR hF hH hS hL hc hs)
theorem kx_lload {i : Nat} {x : Int64} (hdg : decode F.2.1 pc = .ok (.lload i, 2)) (hl : ls i = some (.long x)) (k : kx G F B bc bs σ (pc + 2) ls (.long x :: rest)) : kx G F B bc bs σ pc ls rest := by
  intro p e R s m args below meth c H locs cells slots lsA hR hF hH hS hL hc hs
  exact lv_lload hF.1 hF.2.1 hdg (hL.2.2 _ _ hl) (k p e R s m args below meth c H locs cells slots lsA hR hF hH hS hL hc hs)
theorem kx_fload_n {k : Fin 4} {i : Nat} {x : UInt32} (hdg : decode F.2.1 pc = .ok (.fload_n k, 1)) (hi : (k : Nat) = i) (hl : ls i = some (.float x)) (k : kx G F B bc bs σ (pc + 1) ls (.float x :: rest)) : kx G F B bc bs σ pc ls rest := by
  intro p e R s m args below meth c H locs cells slots lsA hR hF hH hS hL hc hs
  exact lv_fload_n hF.1 hF.2.1 hdg hi (hL.2.2 _ _ hl) (k p e R s m args below meth c H locs cells slots lsA hR hF hH hS hL hc hs)
theorem kx_fload {i : Nat} {x : UInt32} (hdg : decode F.2.1 pc = .ok (.fload i, 2)) (hl : ls i = some (.float x)) (k : kx G F B bc bs σ (pc + 2) ls (.float x :: rest)) : kx G F B bc bs σ pc ls rest := by
  intro p e R s m args below meth c H locs cells slots lsA hR hF hH hS hL hc hs
  exact lv_fload hF.1 hF.2.1 hdg (hL.2.2 _ _ hl) (k p e R s m args below meth c H locs cells slots lsA hR hF hH hS hL hc hs)
theorem kx_dload {i : Nat} {x : UInt64} (hdg : decode F.2.1 pc = .ok (.dload i, 2)) (hl : ls i = some (.double x)) (k : kx G F B bc bs σ (pc + 2) ls (.double x :: rest)) : kx G F B bc bs σ pc ls rest := by
  intro p e R s m args below meth c H locs cells slots lsA hR hF hH hS hL hc hs
  exact lv_dload hF.1 hF.2.1 hdg (hL.2.2 _ _ hl) (k p e R s m args below meth c H locs cells slots lsA hR hF hH hS hL hc hs)
theorem kx_dload_n {k : Fin 4} {i : Nat} {x : UInt64} (hdg : decode F.2.1 pc = .ok (.dload_n k, 1)) (hi : (k : Nat) = i) (hl : ls i = some (.double x)) (k : kx G F B bc bs σ (pc + 1) ls (.double x :: rest)) : kx G F B bc bs σ pc ls rest := by
  intro p e R s m args below meth c H locs cells slots lsA hR hF hH hS hL hc hs
  exact lv_dload_n hF.1 hF.2.1 hdg hi (hL.2.2 _ _ hl) (k p e R s m args below meth c H locs cells slots lsA hR hF hH hS hL hc hs)
theorem kx_astore_n {k : Fin 4} {i : Nat} {x : Nat} (hdg : decode F.2.1 pc = .ok (.astore_n k, 1)) (hi : (k : Nat) = i) (hn : i < F.2.2.1) (kk : kx G F B bc bs σ (pc + 1) (kL ls i (Value.ref x)) rest) : kx G F B bc bs σ pc ls (.ref x :: rest) := by
  intro p e R s m args below meth c H locs cells slots lsA hR hF hH hS hL hc hs
  exact lv_astore_n hF.1 hF.2.1 hdg hi (kx_lh hL) hn rfl (fun ls' h' => kk p e R s m args below meth c H locs cells slots ls' hR hF hH hS (kx_st1 hL rfl h') hc hs)
theorem kx_astore {i : Nat} {x : Nat} (hdg : decode F.2.1 pc = .ok (.astore i, 2)) (hn : i < F.2.2.1) (kk : kx G F B bc bs σ (pc + 2) (kL ls i (Value.ref x)) rest) : kx G F B bc bs σ pc ls (.ref x :: rest) := by
  intro p e R s m args below meth c H locs cells slots lsA hR hF hH hS hL hc hs
  exact lv_astore hF.1 hF.2.1 hdg (kx_lh hL) hn rfl (fun ls' h' => kk p e R s m args below meth c H locs cells slots ls' hR hF hH hS (kx_st1 hL rfl h') hc hs)
theorem kx_istore_n {k : Fin 4} {i : Nat} {x : Int32} (hdg : decode F.2.1 pc = .ok (.istore_n k, 1)) (hi : (k : Nat) = i) (hn : i < F.2.2.1) (kk : kx G F B bc bs σ (pc + 1) (kL ls i (Value.int x)) rest) : kx G F B bc bs σ pc ls (.int x :: rest) := by
  intro p e R s m args below meth c H locs cells slots lsA hR hF hH hS hL hc hs
  exact lv_istore_n hF.1 hF.2.1 hdg hi (kx_lh hL) hn rfl (fun ls' h' => kk p e R s m args below meth c H locs cells slots ls' hR hF hH hS (kx_st1 hL rfl h') hc hs)
theorem kx_istore {i : Nat} {x : Int32} (hdg : decode F.2.1 pc = .ok (.istore i, 2)) (hn : i < F.2.2.1) (kk : kx G F B bc bs σ (pc + 2) (kL ls i (Value.int x)) rest) : kx G F B bc bs σ pc ls (.int x :: rest) := by
  intro p e R s m args below meth c H locs cells slots lsA hR hF hH hS hL hc hs
  exact lv_istore hF.1 hF.2.1 hdg (kx_lh hL) hn rfl (fun ls' h' => kk p e R s m args below meth c H locs cells slots ls' hR hF hH hS (kx_st1 hL rfl h') hc hs)
theorem kx_lstore_n {k : Fin 4} {i : Nat} {x : Int64} (hdg : decode F.2.1 pc = .ok (.lstore_n k, 1)) (hi : (k : Nat) = i) (hn : i + 1 < F.2.2.1) (kk : kx G F B bc bs σ (pc + 1) (kL2 ls i (Value.long x)) rest) : kx G F B bc bs σ pc ls (.long x :: rest) := by
  intro p e R s m args below meth c H locs cells slots lsA hR hF hH hS hL hc hs
  exact lv_lstore_n hF.1 hF.2.1 hdg hi (kx_lh hL) hn rfl (fun ls' h' => kk p e R s m args below meth c H locs cells slots ls' hR hF hH hS (kx_st2 hL rfl h') hc hs)
theorem kx_lstore {i : Nat} {x : Int64} (hdg : decode F.2.1 pc = .ok (.lstore i, 2)) (hn : i + 1 < F.2.2.1) (kk : kx G F B bc bs σ (pc + 2) (kL2 ls i (Value.long x)) rest) : kx G F B bc bs σ pc ls (.long x :: rest) := by
  intro p e R s m args below meth c H locs cells slots lsA hR hF hH hS hL hc hs
  exact lv_lstore hF.1 hF.2.1 hdg (kx_lh hL) hn rfl (fun ls' h' => kk p e R s m args below meth c H locs cells slots ls' hR hF hH hS (kx_st2 hL rfl h') hc hs)
theorem kx_fstore_n {k : Fin 4} {i : Nat} {x : UInt32} (hdg : decode F.2.1 pc = .ok (.fstore_n k, 1)) (hi : (k : Nat) = i) (hn : i < F.2.2.1) (kk : kx G F B bc bs σ (pc + 1) (kL ls i (Value.float x)) rest) : kx G F B bc bs σ pc ls (.float x :: rest) := by
  intro p e R s m args below meth c H locs cells slots lsA hR hF hH hS hL hc hs
  exact lv_fstore_n hF.1 hF.2.1 hdg hi (kx_lh hL) hn rfl (fun ls' h' => kk p e R s m args below meth c H locs cells slots ls' hR hF hH hS (kx_st1 hL rfl h') hc hs)
theorem kx_fstore {i : Nat} {x : UInt32} (hdg : decode F.2.1 pc = .ok (.fstore i, 2)) (hn : i < F.2.2.1) (kk : kx G F B bc bs σ (pc + 2) (kL ls i (Value.float x)) rest) : kx G F B bc bs σ pc ls (.float x :: rest) := by
  intro p e R s m args below meth c H locs cells slots lsA hR hF hH hS hL hc hs
  exact lv_fstore hF.1 hF.2.1 hdg (kx_lh hL) hn rfl (fun ls' h' => kk p e R s m args below meth c H locs cells slots ls' hR hF hH hS (kx_st1 hL rfl h') hc hs)
theorem kx_dstore {i : Nat} {x : UInt64} (hdg : decode F.2.1 pc = .ok (.dstore i, 2)) (hn : i + 1 < F.2.2.1) (kk : kx G F B bc bs σ (pc + 2) (kL2 ls i (Value.double x)) rest) : kx G F B bc bs σ pc ls (.double x :: rest) := by
  intro p e R s m args below meth c H locs cells slots lsA hR hF hH hS hL hc hs
  exact lv_dstore hF.1 hF.2.1 hdg (kx_lh hL) hn rfl (fun ls' h' => kk p e R s m args below meth c H locs cells slots ls' hR hF hH hS (kx_st2 hL rfl h') hc hs)
theorem kx_dstore_n {k : Fin 4} {i : Nat} {x : UInt64} (hdg : decode F.2.1 pc = .ok (.dstore_n k, 1)) (hi : (k : Nat) = i) (hn : i + 1 < F.2.2.1) (kk : kx G F B bc bs σ (pc + 1) (kL2 ls i (Value.double x)) rest) : kx G F B bc bs σ pc ls (.double x :: rest) := by
  intro p e R s m args below meth c H locs cells slots lsA hR hF hH hS hL hc hs
  exact lv_dstore_n hF.1 hF.2.1 hdg hi (kx_lh hL) hn rfl (fun ls' h' => kk p e R s m args below meth c H locs cells slots ls' hR hF hH hS (kx_st2 hL rfl h') hc hs)
theorem kx_null (hdg : decode F.2.1 pc = .ok (.aconst_null, 1)) (k : kx G F B bc bs σ (pc + 1) ls (.null :: rest)) : kx G F B bc bs σ pc ls rest := by
  intro p e R s m args below meth c H locs cells slots lsA hR hF hH hS hL hc hs
  exact lv_null hF.1 hF.2.1 hdg (k p e R s m args below meth c H locs cells slots lsA hR hF hH hS hL hc hs)
theorem kx_pop {va : Value} (hdg : decode F.2.1 pc = .ok (.pop, 1)) (hva : va.category = 1) (k : kx G F B bc bs σ (pc + 1) ls rest) : kx G F B bc bs σ pc ls (va :: rest) := by
  intro p e R s m args below meth c H locs cells slots lsA hR hF hH hS hL hc hs
  exact lv_pop hF.1 hF.2.1 hdg hva (k p e R s m args below meth c H locs cells slots lsA hR hF hH hS hL hc hs)
theorem kx_pop2_11 {va vb : Value} (hdg : decode F.2.1 pc = .ok (.pop2, 1)) (hva : va.category = 1) (hvb : vb.category = 1) (k : kx G F B bc bs σ (pc + 1) ls rest) : kx G F B bc bs σ pc ls (va :: vb :: rest) := by
  intro p e R s m args below meth c H locs cells slots lsA hR hF hH hS hL hc hs
  exact lv_pop2_11 hF.1 hF.2.1 hdg hva hvb (k p e R s m args below meth c H locs cells slots lsA hR hF hH hS hL hc hs)
theorem kx_pop2_2 {va : Value} (hdg : decode F.2.1 pc = .ok (.pop2, 1)) (hva : va.category = 2) (k : kx G F B bc bs σ (pc + 1) ls rest) : kx G F B bc bs σ pc ls (va :: rest) := by
  intro p e R s m args below meth c H locs cells slots lsA hR hF hH hS hL hc hs
  exact lv_pop2_2 hF.1 hF.2.1 hdg hva (k p e R s m args below meth c H locs cells slots lsA hR hF hH hS hL hc hs)
theorem kx_dup {va : Value} (hdg : decode F.2.1 pc = .ok (.dup, 1)) (hva : va.category = 1) (k : kx G F B bc bs σ (pc + 1) ls (va :: va :: rest)) : kx G F B bc bs σ pc ls (va :: rest) := by
  intro p e R s m args below meth c H locs cells slots lsA hR hF hH hS hL hc hs
  exact lv_dup hF.1 hF.2.1 hdg hva (k p e R s m args below meth c H locs cells slots lsA hR hF hH hS hL hc hs)
theorem kx_dup_x1 {va vb : Value} (hdg : decode F.2.1 pc = .ok (.dup_x1, 1)) (hva : va.category = 1) (hvb : vb.category = 1) (k : kx G F B bc bs σ (pc + 1) ls (va :: vb :: va :: rest)) : kx G F B bc bs σ pc ls (va :: vb :: rest) := by
  intro p e R s m args below meth c H locs cells slots lsA hR hF hH hS hL hc hs
  exact lv_dup_x1 hF.1 hF.2.1 hdg hva hvb (k p e R s m args below meth c H locs cells slots lsA hR hF hH hS hL hc hs)
theorem kx_dup_x2 {va vb vd : Value} (hdg : decode F.2.1 pc = .ok (.dup_x2, 1)) (hva : va.category = 1) (hvb : vb.category = 1) (hvd : vd.category = 1) (k : kx G F B bc bs σ (pc + 1) ls (va :: vb :: vd :: va :: rest)) : kx G F B bc bs σ pc ls (va :: vb :: vd :: rest) := by
  intro p e R s m args below meth c H locs cells slots lsA hR hF hH hS hL hc hs
  exact lv_dup_x2 hF.1 hF.2.1 hdg hva hvb hvd (k p e R s m args below meth c H locs cells slots lsA hR hF hH hS hL hc hs)
theorem kx_dup2_11 {va vb : Value} (hdg : decode F.2.1 pc = .ok (.dup2, 1)) (hva : va.category = 1) (hvb : vb.category = 1) (k : kx G F B bc bs σ (pc + 1) ls (va :: vb :: va :: vb :: rest)) : kx G F B bc bs σ pc ls (va :: vb :: rest) := by
  intro p e R s m args below meth c H locs cells slots lsA hR hF hH hS hL hc hs
  exact lv_dup2_11 hF.1 hF.2.1 hdg hva hvb (k p e R s m args below meth c H locs cells slots lsA hR hF hH hS hL hc hs)
theorem kx_dup2_2 {va : Value} (hdg : decode F.2.1 pc = .ok (.dup2, 1)) (hva : va.category = 2) (k : kx G F B bc bs σ (pc + 1) ls (va :: va :: rest)) : kx G F B bc bs σ pc ls (va :: rest) := by
  intro p e R s m args below meth c H locs cells slots lsA hR hF hH hS hL hc hs
  exact lv_dup2_2 hF.1 hF.2.1 hdg hva (k p e R s m args below meth c H locs cells slots lsA hR hF hH hS hL hc hs)
theorem kx_iconst {n : Int} {v : Int32} (hdg : decode F.2.1 pc = .ok (.iconst n, 1)) (hv : Int32.ofInt n = v) (k : kx G F B bc bs σ (pc + 1) ls (.int v :: rest)) : kx G F B bc bs σ pc ls rest := by
  intro p e R s m args below meth c H locs cells slots lsA hR hF hH hS hL hc hs
  exact lv_iconst hF.1 hF.2.1 hdg hv (k p e R s m args below meth c H locs cells slots lsA hR hF hH hS hL hc hs)
theorem kx_bipush {n : Int} {v : Int32} (hdg : decode F.2.1 pc = .ok (.bipush n, 2)) (hv : (Int8.ofInt n).toInt32 = v) (k : kx G F B bc bs σ (pc + 2) ls (.int v :: rest)) : kx G F B bc bs σ pc ls rest := by
  intro p e R s m args below meth c H locs cells slots lsA hR hF hH hS hL hc hs
  exact lv_bipush hF.1 hF.2.1 hdg hv (k p e R s m args below meth c H locs cells slots lsA hR hF hH hS hL hc hs)
theorem kx_sipush {n : Int} {v : Int32} (hdg : decode F.2.1 pc = .ok (.sipush n, 3)) (hv : (Int16.ofInt n).toInt32 = v) (k : kx G F B bc bs σ (pc + 3) ls (.int v :: rest)) : kx G F B bc bs σ pc ls rest := by
  intro p e R s m args below meth c H locs cells slots lsA hR hF hH hS hL hc hs
  exact lv_sipush hF.1 hF.2.1 hdg hv (k p e R s m args below meth c H locs cells slots lsA hR hF hH hS hL hc hs)
theorem kx_lconst {n : Fin 2} {v : Int64} (hdg : decode F.2.1 pc = .ok (.lconst n, 1)) (hv : Int64.ofNat (n : Nat) = v) (k : kx G F B bc bs σ (pc + 1) ls (.long v :: rest)) : kx G F B bc bs σ pc ls rest := by
  intro p e R s m args below meth c H locs cells slots lsA hR hF hH hS hL hc hs
  exact lv_lconst hF.1 hF.2.1 hdg hv (k p e R s m args below meth c H locs cells slots lsA hR hF hH hS hL hc hs)
theorem kx_fconst0 (hdg : decode F.2.1 pc = .ok (.fconst 0, 1)) (k : kx G F B bc bs σ (pc + 1) ls (.float FP.fconst0 :: rest)) : kx G F B bc bs σ pc ls rest := by
  intro p e R s m args below meth c H locs cells slots lsA hR hF hH hS hL hc hs
  exact lv_fconst0 hF.1 hF.2.1 hdg (k p e R s m args below meth c H locs cells slots lsA hR hF hH hS hL hc hs)
theorem kx_fconst1 (hdg : decode F.2.1 pc = .ok (.fconst 1, 1)) (k : kx G F B bc bs σ (pc + 1) ls (.float FP.fconst1 :: rest)) : kx G F B bc bs σ pc ls rest := by
  intro p e R s m args below meth c H locs cells slots lsA hR hF hH hS hL hc hs
  exact lv_fconst1 hF.1 hF.2.1 hdg (k p e R s m args below meth c H locs cells slots lsA hR hF hH hS hL hc hs)
theorem kx_fconst2 (hdg : decode F.2.1 pc = .ok (.fconst 2, 1)) (k : kx G F B bc bs σ (pc + 1) ls (.float FP.fconst2 :: rest)) : kx G F B bc bs σ pc ls rest := by
  intro p e R s m args below meth c H locs cells slots lsA hR hF hH hS hL hc hs
  exact lv_fconst2 hF.1 hF.2.1 hdg (k p e R s m args below meth c H locs cells slots lsA hR hF hH hS hL hc hs)
theorem kx_iadd {x y : Int32} (hdg : decode F.2.1 pc = .ok (.iadd, 1)) (k : kx G F B bc bs σ (pc + 1) ls (.int (x + y) :: rest)) : kx G F B bc bs σ pc ls (.int y :: .int x :: rest) := by
  intro p e R s m args below meth c H locs cells slots lsA hR hF hH hS hL hc hs
  exact lv_iadd hF.1 hF.2.1 hdg (k p e R s m args below meth c H locs cells slots lsA hR hF hH hS hL hc hs)
theorem kx_isub {x y : Int32} (hdg : decode F.2.1 pc = .ok (.isub, 1)) (k : kx G F B bc bs σ (pc + 1) ls (.int (x - y) :: rest)) : kx G F B bc bs σ pc ls (.int y :: .int x :: rest) := by
  intro p e R s m args below meth c H locs cells slots lsA hR hF hH hS hL hc hs
  exact lv_isub hF.1 hF.2.1 hdg (k p e R s m args below meth c H locs cells slots lsA hR hF hH hS hL hc hs)
theorem kx_imul {x y : Int32} (hdg : decode F.2.1 pc = .ok (.imul, 1)) (k : kx G F B bc bs σ (pc + 1) ls (.int (x * y) :: rest)) : kx G F B bc bs σ pc ls (.int y :: .int x :: rest) := by
  intro p e R s m args below meth c H locs cells slots lsA hR hF hH hS hL hc hs
  exact lv_imul hF.1 hF.2.1 hdg (k p e R s m args below meth c H locs cells slots lsA hR hF hH hS hL hc hs)
theorem kx_idiv {x y : Int32} (hdg : decode F.2.1 pc = .ok (.idiv, 1)) (hne : ¬ y = 0) (k : kx G F B bc bs σ (pc + 1) ls (.int (x / y) :: rest)) : kx G F B bc bs σ pc ls (.int y :: .int x :: rest) := by
  intro p e R s m args below meth c H locs cells slots lsA hR hF hH hS hL hc hs
  exact lv_idiv hF.1 hF.2.1 hdg hne (k p e R s m args below meth c H locs cells slots lsA hR hF hH hS hL hc hs)
theorem kx_irem {x y : Int32} (hdg : decode F.2.1 pc = .ok (.irem, 1)) (hne : ¬ y = 0) (k : kx G F B bc bs σ (pc + 1) ls (.int (x - x / y * y) :: rest)) : kx G F B bc bs σ pc ls (.int y :: .int x :: rest) := by
  intro p e R s m args below meth c H locs cells slots lsA hR hF hH hS hL hc hs
  exact lv_irem hF.1 hF.2.1 hdg hne (k p e R s m args below meth c H locs cells slots lsA hR hF hH hS hL hc hs)
theorem kx_ineg {x : Int32} (hdg : decode F.2.1 pc = .ok (.ineg, 1)) (k : kx G F B bc bs σ (pc + 1) ls (.int (-x) :: rest)) : kx G F B bc bs σ pc ls (.int x :: rest) := by
  intro p e R s m args below meth c H locs cells slots lsA hR hF hH hS hL hc hs
  exact lv_ineg hF.1 hF.2.1 hdg (k p e R s m args below meth c H locs cells slots lsA hR hF hH hS hL hc hs)
theorem kx_iand {x y : Int32} (hdg : decode F.2.1 pc = .ok (.iand, 1)) (k : kx G F B bc bs σ (pc + 1) ls (.int (x &&& y) :: rest)) : kx G F B bc bs σ pc ls (.int y :: .int x :: rest) := by
  intro p e R s m args below meth c H locs cells slots lsA hR hF hH hS hL hc hs
  exact lv_iand hF.1 hF.2.1 hdg (k p e R s m args below meth c H locs cells slots lsA hR hF hH hS hL hc hs)
theorem kx_ior {x y : Int32} (hdg : decode F.2.1 pc = .ok (.ior, 1)) (k : kx G F B bc bs σ (pc + 1) ls (.int (x ||| y) :: rest)) : kx G F B bc bs σ pc ls (.int y :: .int x :: rest) := by
  intro p e R s m args below meth c H locs cells slots lsA hR hF hH hS hL hc hs
  exact lv_ior hF.1 hF.2.1 hdg (k p e R s m args below meth c H locs cells slots lsA hR hF hH hS hL hc hs)
theorem kx_ixor {x y : Int32} (hdg : decode F.2.1 pc = .ok (.ixor, 1)) (k : kx G F B bc bs σ (pc + 1) ls (.int (x ^^^ y) :: rest)) : kx G F B bc bs σ pc ls (.int y :: .int x :: rest) := by
  intro p e R s m args below meth c H locs cells slots lsA hR hF hH hS hL hc hs
  exact lv_ixor hF.1 hF.2.1 hdg (k p e R s m args below meth c H locs cells slots lsA hR hF hH hS hL hc hs)
theorem kx_ishl {x y : Int32} (hdg : decode F.2.1 pc = .ok (.ishl, 1)) (k : kx G F B bc bs σ (pc + 1) ls (.int (x <<< (y &&& 31)) :: rest)) : kx G F B bc bs σ pc ls (.int y :: .int x :: rest) := by
  intro p e R s m args below meth c H locs cells slots lsA hR hF hH hS hL hc hs
  exact lv_ishl hF.1 hF.2.1 hdg (k p e R s m args below meth c H locs cells slots lsA hR hF hH hS hL hc hs)
theorem kx_ishr {x y : Int32} (hdg : decode F.2.1 pc = .ok (.ishr, 1)) (k : kx G F B bc bs σ (pc + 1) ls (.int (x >>> (y &&& 31)) :: rest)) : kx G F B bc bs σ pc ls (.int y :: .int x :: rest) := by
  intro p e R s m args below meth c H locs cells slots lsA hR hF hH hS hL hc hs
  exact lv_ishr hF.1 hF.2.1 hdg (k p e R s m args below meth c H locs cells slots lsA hR hF hH hS hL hc hs)
theorem kx_iushr {x y v : Int32} (hdg : decode F.2.1 pc = .ok (.iushr, 1)) (hv : (x.toUInt32 >>> (y.toUInt32 &&& Int32.toUInt32 31)).toInt32 = v) (k : kx G F B bc bs σ (pc + 1) ls (.int v :: rest)) : kx G F B bc bs σ pc ls (.int y :: .int x :: rest) := by
  intro p e R s m args below meth c H locs cells slots lsA hR hF hH hS hL hc hs
  exact lv_iushr hF.1 hF.2.1 hdg hv (k p e R s m args below meth c H locs cells slots lsA hR hF hH hS hL hc hs)
theorem kx_ladd {x y : Int64} (hdg : decode F.2.1 pc = .ok (.ladd, 1)) (k : kx G F B bc bs σ (pc + 1) ls (.long (x + y) :: rest)) : kx G F B bc bs σ pc ls (.long y :: .long x :: rest) := by
  intro p e R s m args below meth c H locs cells slots lsA hR hF hH hS hL hc hs
  exact lv_ladd hF.1 hF.2.1 hdg (k p e R s m args below meth c H locs cells slots lsA hR hF hH hS hL hc hs)
theorem kx_lsub {x y : Int64} (hdg : decode F.2.1 pc = .ok (.lsub, 1)) (k : kx G F B bc bs σ (pc + 1) ls (.long (x - y) :: rest)) : kx G F B bc bs σ pc ls (.long y :: .long x :: rest) := by
  intro p e R s m args below meth c H locs cells slots lsA hR hF hH hS hL hc hs
  exact lv_lsub hF.1 hF.2.1 hdg (k p e R s m args below meth c H locs cells slots lsA hR hF hH hS hL hc hs)
theorem kx_lmul {x y : Int64} (hdg : decode F.2.1 pc = .ok (.lmul, 1)) (k : kx G F B bc bs σ (pc + 1) ls (.long (x * y) :: rest)) : kx G F B bc bs σ pc ls (.long y :: .long x :: rest) := by
  intro p e R s m args below meth c H locs cells slots lsA hR hF hH hS hL hc hs
  exact lv_lmul hF.1 hF.2.1 hdg (k p e R s m args below meth c H locs cells slots lsA hR hF hH hS hL hc hs)
theorem kx_ldiv {x y : Int64} (hdg : decode F.2.1 pc = .ok (.ldiv, 1)) (hne : ¬ y = 0) (k : kx G F B bc bs σ (pc + 1) ls (.long (x / y) :: rest)) : kx G F B bc bs σ pc ls (.long y :: .long x :: rest) := by
  intro p e R s m args below meth c H locs cells slots lsA hR hF hH hS hL hc hs
  exact lv_ldiv hF.1 hF.2.1 hdg hne (k p e R s m args below meth c H locs cells slots lsA hR hF hH hS hL hc hs)
theorem kx_lrem {x y : Int64} (hdg : decode F.2.1 pc = .ok (.lrem, 1)) (hne : ¬ y = 0) (k : kx G F B bc bs σ (pc + 1) ls (.long (x - x / y * y) :: rest)) : kx G F B bc bs σ pc ls (.long y :: .long x :: rest) := by
  intro p e R s m args below meth c H locs cells slots lsA hR hF hH hS hL hc hs
  exact lv_lrem hF.1 hF.2.1 hdg hne (k p e R s m args below meth c H locs cells slots lsA hR hF hH hS hL hc hs)
theorem kx_land {x y : Int64} (hdg : decode F.2.1 pc = .ok (.land, 1)) (k : kx G F B bc bs σ (pc + 1) ls (.long (x &&& y) :: rest)) : kx G F B bc bs σ pc ls (.long y :: .long x :: rest) := by
  intro p e R s m args below meth c H locs cells slots lsA hR hF hH hS hL hc hs
  exact lv_land hF.1 hF.2.1 hdg (k p e R s m args below meth c H locs cells slots lsA hR hF hH hS hL hc hs)
theorem kx_lor {x y : Int64} (hdg : decode F.2.1 pc = .ok (.lor, 1)) (k : kx G F B bc bs σ (pc + 1) ls (.long (x ||| y) :: rest)) : kx G F B bc bs σ pc ls (.long y :: .long x :: rest) := by
  intro p e R s m args below meth c H locs cells slots lsA hR hF hH hS hL hc hs
  exact lv_lor hF.1 hF.2.1 hdg (k p e R s m args below meth c H locs cells slots lsA hR hF hH hS hL hc hs)
theorem kx_lxor {x y : Int64} (hdg : decode F.2.1 pc = .ok (.lxor, 1)) (k : kx G F B bc bs σ (pc + 1) ls (.long (x ^^^ y) :: rest)) : kx G F B bc bs σ pc ls (.long y :: .long x :: rest) := by
  intro p e R s m args below meth c H locs cells slots lsA hR hF hH hS hL hc hs
  exact lv_lxor hF.1 hF.2.1 hdg (k p e R s m args below meth c H locs cells slots lsA hR hF hH hS hL hc hs)
theorem kx_lshl {x v : Int64} {y : Int32} (hdg : decode F.2.1 pc = .ok (.lshl, 1)) (hv : x <<< (y.toInt64 &&& 63) = v) (k : kx G F B bc bs σ (pc + 1) ls (.long v :: rest)) : kx G F B bc bs σ pc ls (.int y :: .long x :: rest) := by
  intro p e R s m args below meth c H locs cells slots lsA hR hF hH hS hL hc hs
  exact lv_lshl hF.1 hF.2.1 hdg hv (k p e R s m args below meth c H locs cells slots lsA hR hF hH hS hL hc hs)
theorem kx_lshr {x v : Int64} {y : Int32} (hdg : decode F.2.1 pc = .ok (.lshr, 1)) (hv : x >>> (y.toInt64 &&& 63) = v) (k : kx G F B bc bs σ (pc + 1) ls (.long v :: rest)) : kx G F B bc bs σ pc ls (.int y :: .long x :: rest) := by
  intro p e R s m args below meth c H locs cells slots lsA hR hF hH hS hL hc hs
  exact lv_lshr hF.1 hF.2.1 hdg hv (k p e R s m args below meth c H locs cells slots lsA hR hF hH hS hL hc hs)
theorem kx_lushr {x v : Int64} {y : Int32} (hdg : decode F.2.1 pc = .ok (.lushr, 1)) (hv : (x.toUInt64 >>> (y.toInt64.toUInt64 &&& Int64.toUInt64 63)).toInt64 = v) (k : kx G F B bc bs σ (pc + 1) ls (.long v :: rest)) : kx G F B bc bs σ pc ls (.int y :: .long x :: rest) := by
  intro p e R s m args below meth c H locs cells slots lsA hR hF hH hS hL hc hs
  exact lv_lushr hF.1 hF.2.1 hdg hv (k p e R s m args below meth c H locs cells slots lsA hR hF hH hS hL hc hs)
theorem kx_fadd {x y : UInt32} (hdg : decode F.2.1 pc = .ok (.fadd, 1)) (hne : vf_n32 (FP.fadd x y)) (k : kx G F B bc bs σ (pc + 1) ls (.float (FP.fadd x y) :: rest)) : kx G F B bc bs σ pc ls (.float y :: .float x :: rest) := by
  intro p e R s m args below meth c H locs cells slots lsA hR hF hH hS hL hc hs
  exact lv_fadd hF.1 hF.2.1 hdg hne (k p e R s m args below meth c H locs cells slots lsA hR hF hH hS hL hc hs)
theorem kx_fsub {x y : UInt32} (hdg : decode F.2.1 pc = .ok (.fsub, 1)) (hne : vf_n32 (FP.fsub x y)) (k : kx G F B bc bs σ (pc + 1) ls (.float (FP.fsub x y) :: rest)) : kx G F B bc bs σ pc ls (.float y :: .float x :: rest) := by
  intro p e R s m args below meth c H locs cells slots lsA hR hF hH hS hL hc hs
  exact lv_fsub hF.1 hF.2.1 hdg hne (k p e R s m args below meth c H locs cells slots lsA hR hF hH hS hL hc hs)
theorem kx_fmul {x y : UInt32} (hdg : decode F.2.1 pc = .ok (.fmul, 1)) (hne : vf_n32 (FP.fmul x y)) (k : kx G F B bc bs σ (pc + 1) ls (.float (FP.fmul x y) :: rest)) : kx G F B bc bs σ pc ls (.float y :: .float x :: rest) := by
  intro p e R s m args below meth c H locs cells slots lsA hR hF hH hS hL hc hs
  exact lv_fmul hF.1 hF.2.1 hdg hne (k p e R s m args below meth c H locs cells slots lsA hR hF hH hS hL hc hs)
theorem kx_fdiv {x y : UInt32} (hdg : decode F.2.1 pc = .ok (.fdiv, 1)) (hne : vf_n32 (FP.fdiv x y)) (k : kx G F B bc bs σ (pc + 1) ls (.float (FP.fdiv x y) :: rest)) : kx G F B bc bs σ pc ls (.float y :: .float x :: rest) := by
  intro p e R s m args below meth c H locs cells slots lsA hR hF hH hS hL hc hs
  exact lv_fdiv hF.1 hF.2.1 hdg hne (k p e R s m args below meth c H locs cells slots lsA hR hF hH hS hL hc hs)
theorem kx_i2l {x : Int32} {v : Int64} (hdg : decode F.2.1 pc = .ok (.i2l, 1)) (hv : x.toInt64 = v) (k : kx G F B bc bs σ (pc + 1) ls (.long v :: rest)) : kx G F B bc bs σ pc ls (.int x :: rest) := by
  intro p e R s m args below meth c H locs cells slots lsA hR hF hH hS hL hc hs
  exact lv_i2l hF.1 hF.2.1 hdg hv (k p e R s m args below meth c H locs cells slots lsA hR hF hH hS hL hc hs)
theorem kx_i2f {x : Int32} (hdg : decode F.2.1 pc = .ok (.i2f, 1)) (k : kx G F B bc bs σ (pc + 1) ls (.float (FP.i2f x) :: rest)) : kx G F B bc bs σ pc ls (.int x :: rest) := by
  intro p e R s m args below meth c H locs cells slots lsA hR hF hH hS hL hc hs
  exact lv_i2f hF.1 hF.2.1 hdg (k p e R s m args below meth c H locs cells slots lsA hR hF hH hS hL hc hs)
theorem kx_i2b {x : Int32} {v : Int32} (hdg : decode F.2.1 pc = .ok (.i2b, 1)) (hv : x.toInt8.toInt32 = v) (k : kx G F B bc bs σ (pc + 1) ls (.int v :: rest)) : kx G F B bc bs σ pc ls (.int x :: rest) := by
  intro p e R s m args below meth c H locs cells slots lsA hR hF hH hS hL hc hs
  exact lv_i2b hF.1 hF.2.1 hdg hv (k p e R s m args below meth c H locs cells slots lsA hR hF hH hS hL hc hs)
theorem kx_i2c {x : Int32} {v : Int32} (hdg : decode F.2.1 pc = .ok (.i2c, 1)) (hv : (x.toUInt32 % 65536).toInt32 = v) (k : kx G F B bc bs σ (pc + 1) ls (.int v :: rest)) : kx G F B bc bs σ pc ls (.int x :: rest) := by
  intro p e R s m args below meth c H locs cells slots lsA hR hF hH hS hL hc hs
  exact lv_i2c hF.1 hF.2.1 hdg hv (k p e R s m args below meth c H locs cells slots lsA hR hF hH hS hL hc hs)
theorem kx_l2i {x : Int64} {v : Int32} (hdg : decode F.2.1 pc = .ok (.l2i, 1)) (hv : x.toInt32 = v) (k : kx G F B bc bs σ (pc + 1) ls (.int v :: rest)) : kx G F B bc bs σ pc ls (.long x :: rest) := by
  intro p e R s m args below meth c H locs cells slots lsA hR hF hH hS hL hc hs
  exact lv_l2i hF.1 hF.2.1 hdg hv (k p e R s m args below meth c H locs cells slots lsA hR hF hH hS hL hc hs)
theorem kx_l2f {x : Int64} (hdg : decode F.2.1 pc = .ok (.l2f, 1)) (k : kx G F B bc bs σ (pc + 1) ls (.float (FP.l2f x) :: rest)) : kx G F B bc bs σ pc ls (.long x :: rest) := by
  intro p e R s m args below meth c H locs cells slots lsA hR hF hH hS hL hc hs
  exact lv_l2f hF.1 hF.2.1 hdg (k p e R s m args below meth c H locs cells slots lsA hR hF hH hS hL hc hs)
theorem kx_f2i {x : UInt32} (hdg : decode F.2.1 pc = .ok (.f2i, 1)) (k : kx G F B bc bs σ (pc + 1) ls (.int (FP.f2i x) :: rest)) : kx G F B bc bs σ pc ls (.float x :: rest) := by
  intro p e R s m args below meth c H locs cells slots lsA hR hF hH hS hL hc hs
  exact lv_f2i hF.1 hF.2.1 hdg (k p e R s m args below meth c H locs cells slots lsA hR hF hH hS hL hc hs)
theorem kx_f2d {x : UInt32} (hdg : decode F.2.1 pc = .ok (.f2d, 1)) (hne : vf_n64 (FP.f2d x)) (k : kx G F B bc bs σ (pc + 1) ls (.double (FP.f2d x) :: rest)) : kx G F B bc bs σ pc ls (.float x :: rest) := by
  intro p e R s m args below meth c H locs cells slots lsA hR hF hH hS hL hc hs
  exact lv_f2d hF.1 hF.2.1 hdg hne (k p e R s m args below meth c H locs cells slots lsA hR hF hH hS hL hc hs)
theorem kx_fcmp {x y : UInt32} {op : CmpOp} (hdg : decode F.2.1 pc = .ok (.fcmp op, 1)) (k : kx G F B bc bs σ (pc + 1) ls (.int (Op.cmpValue (FP.fcmp x y) op) :: rest)) : kx G F B bc bs σ pc ls (.float y :: .float x :: rest) := by
  intro p e R s m args below meth c H locs cells slots lsA hR hF hH hS hL hc hs
  exact lv_fcmp hF.1 hF.2.1 hdg (k p e R s m args below meth c H locs cells slots lsA hR hF hH hS hL hc hs)
theorem kx_dcmp {x y : UInt64} {op : CmpOp} (hdg : decode F.2.1 pc = .ok (.dcmp op, 1)) (k : kx G F B bc bs σ (pc + 1) ls (.int (Op.cmpValue (FP.dcmp x y) op) :: rest)) : kx G F B bc bs σ pc ls (.double y :: .double x :: rest) := by
  intro p e R s m args below meth c H locs cells slots lsA hR hF hH hS hL hc hs
  exact lv_dcmp hF.1 hF.2.1 hdg (k p e R s m args below meth c H locs cells slots lsA hR hF hH hS hL hc hs)
theorem kx_if_eq {x : Int32} {off : Int} {tgt : Nat} (hdg : decode F.2.1 pc = .ok (.ifCond .eq off, 3)) (ht : (pc : Int) + off = (tgt : Int)) (kt : x = 0 → kx G F B bc bs σ tgt ls rest) (kf : ¬ x = 0 → kx G F B bc bs σ (pc + 3) ls rest) : kx G F B bc bs σ pc ls (.int x :: rest) := by
  intro p e R s m args below meth c H locs cells slots lsA hR hF hH hS hL hc hs
  exact lv_if_eq hF.1 hF.2.1 hdg ht (fun h9 => kt h9 p e R s m args below meth c H locs cells slots lsA hR hF hH hS hL hc hs) (fun h9 => kf h9 p e R s m args below meth c H locs cells slots lsA hR hF hH hS hL hc hs)
theorem kx_if_ne {x : Int32} {off : Int} {tgt : Nat} (hdg : decode F.2.1 pc = .ok (.ifCond .ne off, 3)) (ht : (pc : Int) + off = (tgt : Int)) (kt : ¬ x = 0 → kx G F B bc bs σ tgt ls rest) (kf : x = 0 → kx G F B bc bs σ (pc + 3) ls rest) : kx G F B bc bs σ pc ls (.int x :: rest) := by
  intro p e R s m args below meth c H locs cells slots lsA hR hF hH hS hL hc hs
  exact lv_if_ne hF.1 hF.2.1 hdg ht (fun h9 => kt h9 p e R s m args below meth c H locs cells slots lsA hR hF hH hS hL hc hs) (fun h9 => kf h9 p e R s m args below meth c H locs cells slots lsA hR hF hH hS hL hc hs)
theorem kx_if_lt {x : Int32} {off : Int} {tgt : Nat} (hdg : decode F.2.1 pc = .ok (.ifCond .lt off, 3)) (ht : (pc : Int) + off = (tgt : Int)) (kt : x < 0 → kx G F B bc bs σ tgt ls rest) (kf : ¬ x < 0 → kx G F B bc bs σ (pc + 3) ls rest) : kx G F B bc bs σ pc ls (.int x :: rest) := by
  intro p e R s m args below meth c H locs cells slots lsA hR hF hH hS hL hc hs
  exact lv_if_lt hF.1 hF.2.1 hdg ht (fun h9 => kt h9 p e R s m args below meth c H locs cells slots lsA hR hF hH hS hL hc hs) (fun h9 => kf h9 p e R s m args below meth c H locs cells slots lsA hR hF hH hS hL hc hs)
theorem kx_if_ge {x : Int32} {off : Int} {tgt : Nat} (hdg : decode F.2.1 pc = .ok (.ifCond .ge off, 3)) (ht : (pc : Int) + off = (tgt : Int)) (kt : 0 ≤ x → kx G F B bc bs σ tgt ls rest) (kf : ¬ 0 ≤ x → kx G F B bc bs σ (pc + 3) ls rest) : kx G F B bc bs σ pc ls (.int x :: rest) := by
  intro p e R s m args below meth c H locs cells slots lsA hR hF hH hS hL hc hs
  exact lv_if_ge hF.1 hF.2.1 hdg ht (fun h9 => kt h9 p e R s m args below meth c H locs cells slots lsA hR hF hH hS hL hc hs) (fun h9 => kf h9 p e R s m args below meth c H locs cells slots lsA hR hF hH hS hL hc hs)
theorem kx_if_gt {x : Int32} {off : Int} {tgt : Nat} (hdg : decode F.2.1 pc = .ok (.ifCond .gt off, 3)) (ht : (pc : Int) + off = (tgt : Int)) (kt : 0 < x → kx G F B bc bs σ tgt ls rest) (kf : ¬ 0 < x → kx G F B bc bs σ (pc + 3) ls rest) : kx G F B bc bs σ pc ls (.int x :: rest) := by
  intro p e R s m args below meth c H locs cells slots lsA hR hF hH hS hL hc hs
  exact lv_if_gt hF.1 hF.2.1 hdg ht (fun h9 => kt h9 p e R s m args below meth c H locs cells slots lsA hR hF hH hS hL hc hs) (fun h9 => kf h9 p e R s m args below meth c H locs cells slots lsA hR hF hH hS hL hc hs)
theorem kx_if_le {x : Int32} {off : Int} {tgt : Nat} (hdg : decode F.2.1 pc = .ok (.ifCond .le off, 3)) (ht : (pc : Int) + off = (tgt : Int)) (kt : x ≤ 0 → kx G F B bc bs σ tgt ls rest) (kf : ¬ x ≤ 0 → kx G F B bc bs σ (pc + 3) ls rest) : kx G F B bc bs σ pc ls (.int x :: rest) := by
  intro p e R s m args below meth c H locs cells slots lsA hR hF hH hS hL hc hs
  exact lv_if_le hF.1 hF.2.1 hdg ht (fun h9 => kt h9 p e R s m args below meth c H locs cells slots lsA hR hF hH hS hL hc hs) (fun h9 => kf h9 p e R s m args below meth c H locs cells slots lsA hR hF hH hS hL hc hs)
theorem kx_icmp_eq {x y : Int32} {off : Int} {tgt : Nat} (hdg : decode F.2.1 pc = .ok (.if_icmp .eq off, 3)) (ht : (pc : Int) + off = (tgt : Int)) (kt : x = y → kx G F B bc bs σ tgt ls rest) (kf : ¬ x = y → kx G F B bc bs σ (pc + 3) ls rest) : kx G F B bc bs σ pc ls (.int y :: .int x :: rest) := by
  intro p e R s m args below meth c H locs cells slots lsA hR hF hH hS hL hc hs
  exact lv_icmp_eq hF.1 hF.2.1 hdg ht (fun h9 => kt h9 p e R s m args below meth c H locs cells slots lsA hR hF hH hS hL hc hs) (fun h9 => kf h9 p e R s m args below meth c H locs cells slots lsA hR hF hH hS hL hc hs)
theorem kx_icmp_ne {x y : Int32} {off : Int} {tgt : Nat} (hdg : decode F.2.1 pc = .ok (.if_icmp .ne off, 3)) (ht : (pc : Int) + off = (tgt : Int)) (kt : ¬ x = y → kx G F B bc bs σ tgt ls rest) (kf : x = y → kx G F B bc bs σ (pc + 3) ls rest) : kx G F B bc bs σ pc ls (.int y :: .int x :: rest) := by
  intro p e R s m args below meth c H locs cells slots lsA hR hF hH hS hL hc hs
  exact lv_icmp_ne hF.1 hF.2.1 hdg ht (fun h9 => kt h9 p e R s m args below meth c H locs cells slots lsA hR hF hH hS hL hc hs) (fun h9 => kf h9 p e R s m args below meth c H locs cells slots lsA hR hF hH hS hL hc hs)
theorem kx_icmp_lt {x y : Int32} {off : Int} {tgt : Nat} (hdg : decode F.2.1 pc = .ok (.if_icmp .lt off, 3)) (ht : (pc : Int) + off = (tgt : Int)) (kt : x < y → kx G F B bc bs σ tgt ls rest) (kf : ¬ x < y → kx G F B bc bs σ (pc + 3) ls rest) : kx G F B bc bs σ pc ls (.int y :: .int x :: rest) := by
  intro p e R s m args below meth c H locs cells slots lsA hR hF hH hS hL hc hs
  exact lv_icmp_lt hF.1 hF.2.1 hdg ht (fun h9 => kt h9 p e R s m args below meth c H locs cells slots lsA hR hF hH hS hL hc hs) (fun h9 => kf h9 p e R s m args below meth c H locs cells slots lsA hR hF hH hS hL hc hs)
theorem kx_icmp_ge {x y : Int32} {off : Int} {tgt : Nat} (hdg : decode F.2.1 pc = .ok (.if_icmp .ge off, 3)) (ht : (pc : Int) + off = (tgt : Int)) (kt : y ≤ x → kx G F B bc bs σ tgt ls rest) (kf : ¬ y ≤ x → kx G F B bc bs σ (pc + 3) ls rest) : kx G F B bc bs σ pc ls (.int y :: .int x :: rest) := by
  intro p e R s m args below meth c H locs cells slots lsA hR hF hH hS hL hc hs
  exact lv_icmp_ge hF.1 hF.2.1 hdg ht (fun h9 => kt h9 p e R s m args below meth c H locs cells slots lsA hR hF hH hS hL hc hs) (fun h9 => kf h9 p e R s m args below meth c H locs cells slots lsA hR hF hH hS hL hc hs)
theorem kx_icmp_gt {x y : Int32} {off : Int} {tgt : Nat} (hdg : decode F.2.1 pc = .ok (.if_icmp .gt off, 3)) (ht : (pc : Int) + off = (tgt : Int)) (kt : y < x → kx G F B bc bs σ tgt ls rest) (kf : ¬ y < x → kx G F B bc bs σ (pc + 3) ls rest) : kx G F B bc bs σ pc ls (.int y :: .int x :: rest) := by
  intro p e R s m args below meth c H locs cells slots lsA hR hF hH hS hL hc hs
  exact lv_icmp_gt hF.1 hF.2.1 hdg ht (fun h9 => kt h9 p e R s m args below meth c H locs cells slots lsA hR hF hH hS hL hc hs) (fun h9 => kf h9 p e R s m args below meth c H locs cells slots lsA hR hF hH hS hL hc hs)
theorem kx_icmp_le {x y : Int32} {off : Int} {tgt : Nat} (hdg : decode F.2.1 pc = .ok (.if_icmp .le off, 3)) (ht : (pc : Int) + off = (tgt : Int)) (kt : x ≤ y → kx G F B bc bs σ tgt ls rest) (kf : ¬ x ≤ y → kx G F B bc bs σ (pc + 3) ls rest) : kx G F B bc bs σ pc ls (.int y :: .int x :: rest) := by
  intro p e R s m args below meth c H locs cells slots lsA hR hF hH hS hL hc hs
  exact lv_icmp_le hF.1 hF.2.1 hdg ht (fun h9 => kt h9 p e R s m args below meth c H locs cells slots lsA hR hF hH hS hL hc hs) (fun h9 => kf h9 p e R s m args below meth c H locs cells slots lsA hR hF hH hS hL hc hs)
theorem kx_acmp_eq {rx ry : Option Nat} {off : Int} {tgt : Nat} (hdg : decode F.2.1 pc = .ok (.if_acmp .eq off, 3)) (ht : (pc : Int) + off = (tgt : Int)) (kt : rx = ry → kx G F B bc bs σ tgt ls rest) (kf : ¬ rx = ry → kx G F B bc bs σ (pc + 3) ls rest) : kx G F B bc bs σ pc ls (va_rf ry :: va_rf rx :: rest) := by
  intro p e R s m args below meth c H locs cells slots lsA hR hF hH hS hL hc hs
  exact lv_acmp_eq hF.1 hF.2.1 hdg ht (fun h9 => kt h9 p e R s m args below meth c H locs cells slots lsA hR hF hH hS hL hc hs) (fun h9 => kf h9 p e R s m args below meth c H locs cells slots lsA hR hF hH hS hL hc hs)
theorem kx_acmp_ne {rx ry : Option Nat} {off : Int} {tgt : Nat} (hdg : decode F.2.1 pc = .ok (.if_acmp .ne off, 3)) (ht : (pc : Int) + off = (tgt : Int)) (kt : ¬ rx = ry → kx G F B bc bs σ tgt ls rest) (kf : rx = ry → kx G F B bc bs σ (pc + 3) ls rest) : kx G F B bc bs σ pc ls (va_rf ry :: va_rf rx :: rest) := by
  intro p e R s m args below meth c H locs cells slots lsA hR hF hH hS hL hc hs
  exact lv_acmp_ne hF.1 hF.2.1 hdg ht (fun h9 => kt h9 p e R s m args below meth c H locs cells slots lsA hR hF hH hS hL hc hs) (fun h9 => kf h9 p e R s m args below meth c H locs cells slots lsA hR hF hH hS hL hc hs)
theorem kx_ifnull {x : Nat} {off : Int} (hdg : decode F.2.1 pc = .ok (.ifnull off, 3)) (k : kx G F B bc bs σ (pc + 3) ls rest) : kx G F B bc bs σ pc ls (.ref x :: rest) := by
  intro p e R s m args below meth c H locs cells slots lsA hR hF hH hS hL hc hs
  exact lv_ifnull hF.1 hF.2.1 hdg (k p e R s m args below meth c H locs cells slots lsA hR hF hH hS hL hc hs)
theorem kx_ifnonnull {x : Nat} {off : Int} {tgt : Nat} (hdg : decode F.2.1 pc = .ok (.ifnonnull off, 3)) (ht : (pc : Int) + off = (tgt : Int)) (k : kx G F B bc bs σ tgt ls rest) : kx G F B bc bs σ pc ls (.ref x :: rest) := by
  intro p e R s m args below meth c H locs cells slots lsA hR hF hH hS hL hc hs
  exact lv_ifnonnull hF.1 hF.2.1 hdg ht (k p e R s m args below meth c H locs cells slots lsA hR hF hH hS hL hc hs)
theorem kx_ifnullN {off : Int} {tgt : Nat} (hdg : decode F.2.1 pc = .ok (.ifnull off, 3)) (ht : (pc : Int) + off = (tgt : Int)) (k : kx G F B bc bs σ tgt ls rest) : kx G F B bc bs σ pc ls (.null :: rest) := by
  intro p e R s m args below meth c H locs cells slots lsA hR hF hH hS hL hc hs
  exact lv_ifnullN hF.1 hF.2.1 hdg ht (k p e R s m args below meth c H locs cells slots lsA hR hF hH hS hL hc hs)
theorem kx_ifnonnullN {off : Int} (hdg : decode F.2.1 pc = .ok (.ifnonnull off, 3)) (k : kx G F B bc bs σ (pc + 3) ls rest) : kx G F B bc bs σ pc ls (.null :: rest) := by
  intro p e R s m args below meth c H locs cells slots lsA hR hF hH hS hL hc hs
  exact lv_ifnonnullN hF.1 hF.2.1 hdg (k p e R s m args below meth c H locs cells slots lsA hR hF hH hS hL hc hs)
theorem kx_goto {off : Int} {tgt : Nat} (hdg : decode F.2.1 pc = .ok (.goto off, 3)) (ht : (pc : Int) + off = (tgt : Int)) (k : kx G F B bc bs σ tgt ls rest) : kx G F B bc bs σ pc ls rest := by
  intro p e R s m args below meth c H locs cells slots lsA hR hF hH hS hL hc hs
  exact lv_goto hF.1 hF.2.1 hdg ht (k p e R s m args below meth c H locs cells slots lsA hR hF hH hS hL hc hs)
theorem kx_tableIn {dflt lo hi : Int} {offs : Array Int} {len : Nat} {x : Int32} {off : Int} {tgt : Nat} (hdg : decode F.2.1 pc = .ok (.tableswitch dflt lo hi offs, len)) (h1 : ¬ x.toInt < lo) (h2 : ¬ hi < x.toInt) (ho : offs[(x.toInt - lo).toNat]? = some off) (ht : (pc : Int) + off = (tgt : Int)) (k : kx G F B bc bs σ tgt ls rest) : kx G F B bc bs σ pc ls (.int x :: rest) := by
  intro p e R s m args below meth c H locs cells slots lsA hR hF hH hS hL hc hs
  exact lv_tableIn hF.1 hF.2.1 hdg h1 h2 ho ht (k p e R s m args below meth c H locs cells slots lsA hR hF hH hS hL hc hs)
theorem kx_tableOut {dflt lo hi : Int} {offs : Array Int} {len : Nat} {x : Int32} {tgt : Nat} (hdg : decode F.2.1 pc = .ok (.tableswitch dflt lo hi offs, len)) (h : x.toInt < lo ∨ hi < x.toInt) (ht : (pc : Int) + dflt = (tgt : Int)) (k : kx G F B bc bs σ tgt ls rest) : kx G F B bc bs σ pc ls (.int x :: rest) := by
  intro p e R s m args below meth c H locs cells slots lsA hR hF hH hS hL hc hs
  exact lv_tableOut hF.1 hF.2.1 hdg h ht (k p e R s m args below meth c H locs cells slots lsA hR hF hH hS hL hc hs)
theorem kx_lookup {dflt : Int} {ps : Array (Int × Int)} {len : Nat} {x : Int32} {off : Int} {tgt : Nat} (hdg : decode F.2.1 pc = .ok (.lookupswitch dflt ps, len)) (hp : (ps.toList.zip (ps.toList.drop 1)).all (fun (a, next) => a.1 < next.1) = true) (ho : Op.lookupswitch.offset ps.toList dflt x.toInt = off) (ht : (pc : Int) + off = (tgt : Int)) (k : kx G F B bc bs σ tgt ls rest) : kx G F B bc bs σ pc ls (.int x :: rest) := by
  intro p e R s m args below meth c H locs cells slots lsA hR hF hH hS hL hc hs
  exact lv_lookup hF.1 hF.2.1 hdg hp ho ht (k p e R s m args below meth c H locs cells slots lsA hR hF hH hS hL hc hs)
theorem kx_aloadN {i : Nat} (hdg : decode F.2.1 pc = .ok (.aload i, 2)) (hl : ls i = some (.null)) (k : kx G F B bc bs σ (pc + 2) ls (.null :: rest)) : kx G F B bc bs σ pc ls rest := by
  intro p e R s m args below meth c H locs cells slots lsA hR hF hH hS hL hc hs
  exact lv_aloadN hF.1 hF.2.1 hdg (hL.2.2 _ _ hl) (k p e R s m args below meth c H locs cells slots lsA hR hF hH hS hL hc hs)
theorem kx_aload_nN {k : Fin 4} {i : Nat} (hdg : decode F.2.1 pc = .ok (.aload_n k, 1)) (hi : (k : Nat) = i) (hl : ls i = some (.null)) (k : kx G F B bc bs σ (pc + 1) ls (.null :: rest)) : kx G F B bc bs σ pc ls rest := by
  intro p e R s m args below meth c H locs cells slots lsA hR hF hH hS hL hc hs
  exact lv_aload_nN hF.1 hF.2.1 hdg hi (hL.2.2 _ _ hl) (k p e R s m args below meth c H locs cells slots lsA hR hF hH hS hL hc hs)
theorem kx_castN {index : Nat} (hdg : decode F.2.1 pc = .ok (.checkcast index, 3)) (k : kx G F B bc bs σ (pc + 3) ls (.null :: rest)) : kx G F B bc bs σ pc ls (.null :: rest) := by
  intro p e R s m args below meth c H locs cells slots lsA hR hF hH hS hL hc hs
  exact lv_castN hF.1 hF.2.1 hdg (k p e R s m args below meth c H locs cells slots lsA hR hF hH hS hL hc hs)
theorem kx_instN {index : Nat} (hdg : decode F.2.1 pc = .ok (.instanceof index, 3)) (k : kx G F B bc bs σ (pc + 3) ls (.int 0 :: rest)) : kx G F B bc bs σ pc ls (.null :: rest) := by
  intro p e R s m args below meth c H locs cells slots lsA hR hF hH hS hL hc hs
  exact lv_instN hF.1 hF.2.1 hdg (k p e R s m args below meth c H locs cells slots lsA hR hF hH hS hL hc hs)
theorem kx_astore_nN {k : Fin 4} {i : Nat} (hdg : decode F.2.1 pc = .ok (.astore_n k, 1)) (hi : (k : Nat) = i) (hn : i < F.2.2.1) (kk : kx G F B bc bs σ (pc + 1) (kL ls i (Value.null)) rest) : kx G F B bc bs σ pc ls (.null :: rest) := by
  intro p e R s m args below meth c H locs cells slots lsA hR hF hH hS hL hc hs
  exact lv_astore_nN hF.1 hF.2.1 hdg hi (kx_lh hL) hn rfl (fun ls' h' => kk p e R s m args below meth c H locs cells slots ls' hR hF hH hS (kx_st1 hL rfl h') hc hs)
theorem kx_astoreN {i : Nat} (hdg : decode F.2.1 pc = .ok (.astore i, 2)) (hn : i < F.2.2.1) (kk : kx G F B bc bs σ (pc + 2) (kL ls i (Value.null)) rest) : kx G F B bc bs σ pc ls (.null :: rest) := by
  intro p e R s m args below meth c H locs cells slots lsA hR hF hH hS hL hc hs
  exact lv_astoreN hF.1 hF.2.1 hdg (kx_lh hL) hn rfl (fun ls' h' => kk p e R s m args below meth c H locs cells slots ls' hR hF hH hS (kx_st1 hL rfl h') hc hs)
end KXR
section KXH
variable {G : KG} {F : KF} {B : KB} {bc bs : Nat} {σ : KHp} {pc : Nat} {ls : Nat → Option Value} {rest : List Value}
variable {p : Program} {e : Env} {R : Room} {s : State} {m : MethodId} {args : Array Value} {below : List Frame} {meth : Method} {c : Code} {H : Heap} {locs : List Loc} {cells slots : Nat}
theorem kx_w (hu : kx_u G s) {w : Cond} (h : w ∈ lw_all) : w.before args s = true := by
  obtain ⟨⟨-, ⟨A0, h1⟩, -⟩, h2⟩ := hu
  exact word_at h2 (good_of_word (List.mem_filter.mp h).2) (h1 _ (lw_all_tbl h))
theorem kx_ws (hu : kx_u G s) : ∀ w ∈ lw_all, w.before args s = true := fun _ h => kx_w hu h
theorem kx_t0 (hu : kx_u G s) {w : Cond} (h : w ∈ lw_tbl) (hw : w.onTables = true) : va_Nw w (kx_s G) := by
  obtain ⟨⟨-, ⟨A0, h1⟩, -⟩, h2⟩ := hu
  exact va_Nw.of hw (h1 _ h)
theorem kx_al (hu : kx_u G s) : (kx_s G).vm.Alike s.vm := hu.2.alike
theorem kx_Kn (hu : kx_u G s) : va_K G.2.1 kx_cl [] s := ⟨fun c q hq => u_Kn_moved (kx_al hu) (hu.1.2.2.1 c q hq), fun k q hk => by simp at hk⟩
theorem kx_K1 (hu : kx_u G s) {cA : ClassId} {ty : FieldType} (h1 : ArrOfT (kx_s G) cA ty) (h2 : va_RA (kx_s G) cA ty) : va_K G.2.1 kx_cl [(cA, ty)] s :=
  ⟨(kx_Kn hu).1, fun k q hk => by
    have hz : k < 1 := (List.getElem?_eq_some_iff.mp hk).1
    rw [show k = 0 by omega] at hk
    cases hk
    exact ⟨arrOfT_moved (kx_al hu) h1, va_RA.moved (kx_al hu) h2⟩⟩
theorem kx_P1 {D : va_G} {a : Nat} {x : va_E} (h : va_at D kx_cl (a, x) H) : va_P D kx_cl [(a, x)] H := fun k q hk => by
  have hz : k < 1 := (List.getElem?_eq_some_iff.mp hk).1
  rw [show k = 0 by omega] at hk
  cases hk
  exact h
theorem kx_o (hH : kx_h G σ H) {a t ci : Nat} {fs : List Value} (ho : σ a = some (t, .inr (ci, fs))) {r : vw_C} (hc : kx_cl[ci]? = some r) : va_at G.2.1 kx_cl (a, .inr (ci, fs)) H ∧ fs.length = r.2.2 := by
  rcases (hH.2.2.1 a _ ho).1 with ⟨r', h1, h2, h3⟩ | ⟨E, h1, -⟩
  · have : r' = r := Option.some.inj (h1.symm.trans hc)
    subst this
    exact ⟨⟨r', h1, h3⟩, h2⟩
  · have h5 : ci < kx_cl.length := (List.getElem?_eq_some_iff.mp hc).1
    have h6 : kx_cl.length < 100 := by decide +kernel
    have h7 : 100 ≤ ci := h1
    omega
theorem kx_el_o (hH : kx_h G σ H) {a t ci : Nat} {fs : List Value} (ho : σ a = some (t, .inr (ci, fs))) {E : String} (hc : 100 ≤ ci ∧ kx_el[ci - 100]? = some E) : va_O E a (fun _ => False) (kx_s G) H ∧ ∀ v, fs = [v] → va_OF "java/lang/Enum" "ordinal" "I" v a (fun _ => False) (kx_s G) H := by
  rcases (hH.2.2.1 a _ ho).1 with ⟨r, h1, -⟩ | ⟨E', h1, h2, h3, h4⟩
  · have h5 : ci < kx_cl.length := (List.getElem?_eq_some_iff.mp h1).1
    have h6 : kx_cl.length < 100 := by decide +kernel
    omega
  · cases h2.symm.trans hc.2
    exact ⟨h3, h4⟩
theorem kx_lt_h (hH : kx_h G σ H) {a : Nat} {o : KOb} (ho : σ a = some o) : a < H.size := by
  obtain ⟨t, o⟩ := o
  cases o with
  | inl x =>
    obtain ⟨cA, h1, -⟩ := (hH.2.2.1 a _ ho).1
    exact (Array.getElem?_eq_some_iff.mp h1).1
  | inr x =>
    rcases (hH.2.2.1 a _ ho).1 with ⟨r, -, -, cell, h1, -⟩ | ⟨E, -, -, ⟨cell, h1, -⟩, -⟩
    · exact (Array.getElem?_eq_some_iff.mp h1).1
    · exact (Array.getElem?_eq_some_iff.mp h1).1
theorem kx_fresh (hH : kx_h G σ H) : σ H.size = none := by
  cases h : σ H.size with
  | none => rfl
  | some o => exact absurd (kx_lt_h hH h) (Nat.lt_irrefl _)
theorem kx_at_kept {a : Nat} {o : KOb} {H1 : Heap} (h : kx_at G a o H) (hq : H1[a]? = H[a]?) : kx_at G a o H1 := by
  obtain ⟨t, o⟩ := o
  cases o with
  | inl x =>
    obtain ⟨cA, h1, h2⟩ := h
    exact ⟨cA, hq.trans h1, h2⟩
  | inr x =>
    rcases h with ⟨r, h1, h2, h3⟩ | ⟨E, h1, h2, ⟨cell, g1, g2⟩, h4⟩
    · exact Or.inl ⟨r, h1, h2, h3.kept hq⟩
    · refine Or.inr ⟨E, h1, h2, ⟨cell, hq.trans g1, g2⟩, fun v hv => ?_⟩
      obtain ⟨cf, k, i, f, cell', e1, e2, e3, e4⟩ := h4 v hv
      exact ⟨cf, k, i, f, cell', e1, e2, hq.trans e3, e4⟩
theorem kx_h_set (hg : kx_g G) (hH : kx_h G σ H) {a : Nat} {t t' : Nat} {o0 o : (FieldType × vp_A) ⊕ (Nat × List Value)} (ho : σ a = some (t, o0)) (ht : t ≠ 0) {H1 : Heap} (e : kx_at G a (t', o) H1) (z : H1.size = H.size) (oq : ∀ q : Nat, q ≠ a → H1[q]? = H[q]?) : kx_h G (kU σ a (t', o)) H1 := by
  have ha : kx_z G ≤ a := by
    rcases (hH.2.2.1 a _ ho).2 with h | h
    · exact absurd h ht
    · exact h
  refine ⟨by rw [z]; exact hH.1, fun q hq => by rw [oq q (by omega)]; exact hH.2.1 q hq, fun b o1 hb => ?_, fun b o1 hb => ?_⟩
  · by_cases h : b = a
    · subst h
      rw [kU_s] at hb
      cases hb
      exact ⟨e, Or.inr ha⟩
    · rw [kU_n h] at hb
      exact ⟨kx_at_kept (hH.2.2.1 b o1 hb).1 (oq b h), (hH.2.2.1 b o1 hb).2⟩
  · have h1 := hg.2.2.2.2.2.1 b o1 hb
    rw [kU_n (by omega)]
    exact hH.2.2.2 b o1 hb
theorem kx_h_new (hg : kx_g G) (hH : kx_h G σ H) {t : Nat} {o : (FieldType × vp_A) ⊕ (Nat × List Value)} {H1 : Heap} (e : kx_at G H.size (t, o) H1) (z : H1.size = H.size + 1) (oq : ∀ q : Nat, q < H.size → H1[q]? = H[q]?) : kx_h G (kU σ H.size (t, o)) H1 := by
  refine ⟨by have := hH.1; omega, fun q hq => by rw [oq q (Nat.lt_of_lt_of_le hq hH.1)]; exact hH.2.1 q hq, fun b o1 hb => ?_, fun b o1 hb => ?_⟩
  · by_cases h : b = H.size
    · subst h
      rw [kU_s] at hb
      cases hb
      exact ⟨e, Or.inr hH.1⟩
    · rw [kU_n h] at hb
      exact ⟨kx_at_kept (hH.2.2.1 b o1 hb).1 (oq b (kx_lt_h hH hb)), (hH.2.2.1 b o1 hb).2⟩
  · have h1 := hg.2.2.2.2.2.1 b o1 hb
    have h2 := hH.1
    rw [kU_n (by omega)]
    exact hH.2.2.2 b o1 hb
theorem kx_S {T : State} (X : Stand p G.1 e R s m args below meth c T locs cells slots) (hT : T.heap = H) (hl : ∀ q ∈ locs, kx_z G ≤ q.base) : va_S (fun q => kx_z G ≤ q) s.heap H locs := by
  obtain ⟨f1, f2⟩ := vx_frame (U := T) X.same
  rw [hT] at f1 f2
  exact ⟨f1, fun q h1 h2 => f2 q h1 (fun z hz h3 => h2 (by rw [← h3]; exact hl z hz)), hl⟩
theorem kx_ap {ls1 : List Loc} {a k : Nat} (h : ∀ q ∈ ls1, kx_z G ≤ q.base) (ha : kx_z G ≤ a) : ∀ q ∈ ls1 ++ [(⟨a, k⟩ : Loc)], kx_z G ≤ q.base := by
  intro q hq
  rcases List.mem_append.mp hq with h1 | h1
  · exact h q h1
  · rcases List.mem_singleton.mp h1 with rfl
    exact ha
theorem kx_new_z (hH : kx_h G σ H) {a t : Nat} {o : (FieldType × vp_A) ⊕ (Nat × List Value)} (ho : σ a = some (t, o)) (ht : t ≠ 0) : kx_z G ≤ a := by
  rcases (hH.2.2.1 a _ ho).2 with h | h
  · exact absurd h ht
  · exact h
/-- a field's link: class own's entry idx is field k of class ci -/
def kx_fl (own : String) (idx ci k : Nat) : Prop := ∃ (C : String) (T : u_T) (N : Nat) (ty : Nat → FieldType) (ref : String), kx_ci ci C T N ty ∧ k < N ∧
  (Cond.fieldLink own idx ref (T k).2.1 (T k).2.2.1 ∈ lw_all ∨ ∃ h, Cond.fieldLinkNest own idx ref (T k).2.1 (T k).2.2.1 h ∈ lw_tbl) ∧ (ref = (T k).1 ∨ Cond.sameField ref (T k).1 (T k).2.1 (T k).2.2.1 ∈ lw_all)
theorem kx_same (hu : kx_u G s) {ref owner name desc : String} (h : ref = owner ∨ Cond.sameField ref owner name desc ∈ lw_all) : ∀ x, s.fieldFound? owner name desc = some x → s.fieldFound? ref name desc = some x := by
  intro x hx
  rcases h with rfl | h
  · exact hx
  · exact u_same (args := #[]) (kx_w hu h) x hx
theorem kx_nF (hu : kx_u G s) {a : String} {i : Nat} {b n d h : String} (hw : Cond.fieldLinkNest a i b n d h ∈ lw_tbl) : (Cond.fieldLinkNest a i b n d h).before args s = true :=
  va_Nw.use rfl (va_Nw.warmF hu.2 (kx_t0 hu hw rfl))
theorem kx_nM (hu : kx_u G s) {a : String} {i : Nat} {x : MethodName} {h : String} (hw : Cond.methodLinkNest a i x h ∈ lw_tbl) : va_Nw (Cond.methodLinkNest a i x h) s :=
  va_Nw.warmM hu.2 (kx_t0 hu hw rfl)
theorem kx_nC (hu : kx_u G s) {C T : String} (hw : Cond.castable C T ∈ lw_tbl) : va_Nw (Cond.castable C T) s :=
  va_Nw.warmC hu.2 (kx_t0 hu hw rfl)
theorem kx_nD (hu : kx_u G s) {x : MethodName} (hw : Cond.declares x ∈ lw_tbl) : va_Nw (Cond.declares x) s :=
  va_Nw.warmD hu.2 (kx_t0 hu hw rfl)
theorem kx_getf {idx ci k a t : Nat} {fs : List Value} {v : Value} (hdg : decode F.2.1 pc = .ok (.getfield idx, 3)) (hf : kx_fl F.1 idx ci k) (ho : σ a = some (t, .inr (ci, fs))) (hv : fs[k]? = some v) (kk : kx G F B bc bs σ (pc + 3) ls (v :: rest)) : kx G F B bc bs σ pc ls (.ref a :: rest) := by
  intro p e R s m args below meth c H locs cells slots lsA hR hF hH hS hL hc hs
  have hF' := hF
  obtain ⟨hx, hb, hml, hr, hlk, hown, hin, htb, hu, hz⟩ := hF
  obtain ⟨C, T, N, ty, ref, ⟨h1, h2, h3, h4⟩, h5, h6, h7⟩ := hf
  obtain ⟨hat, hlen⟩ := kx_o hH ho h1
  rcases h6 with h6 | ⟨hst, h6⟩
  · exact va_get hx hb (kx_ws hu) h2 hown (kx_Kn hu) (kx_P1 hat) 0 rfl h1 k h5 (kx_w hu h6) (kx_same hu h7) hv hdg (kk p e R s m args below meth c H locs cells slots lsA hR hF' hH hS hL hc hs)
  · exact va_getN hx hb (kx_ws hu) h2 hown (kx_Kn hu) (kx_P1 hat) 0 rfl h1 k h5 (kx_nF hu h6) (kx_same hu h7) hv hdg (kk p e R s m args below meth c H locs cells slots lsA hR hF' hH hS hL hc hs)
/-- a field's link for a store: final or not as T says -/
theorem kx_putf {idx ci k a t : Nat} {fs : List Value} {v : Value} {C : String} {T : u_T} {N : Nat} {ty : Nat → FieldType} (hdg : decode F.2.1 pc = .ok (.putfield idx, 3)) (hci : kx_ci ci C T N ty) (hf : kx_fl F.1 idx ci k) (ho : σ a = some (t, .inr (ci, fs))) (ht : t ≠ 0)
    (hfin : (T k).2.2.2 = false ∨ (F.2.2.2.2.1 = true ∧ (T k).1 = F.1 ∧ Cond.fieldLink F.1 idx (T k).1 (T k).2.1 (T k).2.2.1 ∈ lw_all)) (hn : narrow (ty k) v = v) (hfit : fits (ty k) v = true)
    (kk : kx G F B bc bs (kU σ a (t, .inr (ci, fs.set k v))) (pc + 3) ls rest) : kx G F B bc bs σ pc ls (v :: .ref a :: rest) := by
  intro p e R s m args below meth c H locs cells slots lsA hR hF hH hS hL hc hs
  have hF' := hF
  obtain ⟨hx, hb, hml, hr, hlk, hown, hin, htb, hu, hz⟩ := hF
  obtain ⟨C', T', N', ty', ref, ⟨h1, -, -, -⟩, h5, h6, h7⟩ := hf
  have h1' := hci.1
  cases h1.symm.trans h1'
  obtain ⟨-, h2, h3, h4⟩ := hci
  obtain ⟨hat, hlen⟩ := kx_o hH ho h1
  have hap := va_apart (own := F.1) (kx_ws (args := args) hu) h2 ty h3 h4 (kx_Kn hu) h1
  obtain ⟨r, h8, cell, q1, q2, q3, q4⟩ := hat
  cases h8.symm.trans h1
  obtain ⟨hSl, hfc, kC, hkC, hkind⟩ := (kx_Kn hu).1 ci _ h1
  obtain ⟨cf, kf, fi, f, hi, hsl⟩ := hSl k h5
  have hd : parseFieldDescriptor (T k).2.2.1 = some (ty k) := h3 k h5
  have hlay0 : (u_lay C T k).before args s = true := kx_w hu (h2 _ (u_in_lay h5))
  have hst := (u_facts hfc hkC (u_lays (kx_ws (args := args) hu) h2 h5) hi).1
  have hl : k < fs.length := by rw [hlen]; exact h5
  have za := kx_new_z hH ho ht
  have fin : ∀ H1 : Heap, H1[a]? = some (cell.setSlot (G.2.1.2 ci k) v) → H1.size = H.size → (∀ q : Nat, q ≠ a → H1[q]? = H[q]?) → kx_h G (kU σ a (t, .inr (ci, fs.set k v))) H1 := fun H1 e1 e2 e3 =>
    kx_h_set hu.1 hH ho ht (Or.inl ⟨(C, T, N), h1, by rw [List.length_set]; exact hlen, t_OB.to (V := updV (vp_V fs) k v) ⟨_, e1, q2, q3, t_set q4 hap h5 v⟩ (fun j _ => vp_updV_set hl v j)⟩) e2 e3
  have h6' : (Cond.fieldLink F.1 idx ref (T k).2.1 (T k).2.2.1).before args s = true ∨ ∃ h, (Cond.fieldLinkNest F.1 idx ref (T k).2.1 (T k).2.2.1 h).before args s = true := by
    rcases h6 with h6 | ⟨h, h6⟩
    · exact Or.inl (kx_w hu h6)
    · exact Or.inr ⟨h, kx_nF hu h6⟩
  by_cases hff : (T k).2.2.2 = true
  · rcases hfin with hfin | ⟨hini, hdecl, h60⟩
    · rw [hff] at hfin; cases hfin
    · have hlay := hlay0
      unfold u_lay at hlay
      rw [if_pos hff] at hlay
      have hcf : m.cls = cf := by
        obtain ⟨_, _, c', _, _, _, -, -, hf', -, -, -, hown2, -⟩ := Cond.laysFinal_spec hlay
        have e1 : c' = cf := by have := hi.symm.trans hf'; simp at this; exact this.1.symm
        rw [hdecl] at hown2
        rw [← e1]; exact Option.some.inj (hown.symm.trans hown2)
      have h9 := u_fits hfc hkC hkind (Or.inr hlay) hi hd hn hfit
      refine W.putFinK hx hb hown (kx_w hu h60) hi hst hcf (hin hini) (by rw [q2]; exact h9) q1 q3 (by rw [hsl]; exact k2_hasslot (q4 k h5)) rfl rfl hdg fun H1 e1 e2 e3 => ?_
      rw [hsl] at e1 ⊢
      exact kk p e R s m args below meth c H1 _ cells slots lsA hR hF' (fin H1 e1 e2 e3) (kx_ap hS za) hL hc hs
  · have hff' : (T k).2.2.2 = false := by cases h : (T k).2.2.2 with | true => exact absurd h hff | false => rfl
    have hlay := hlay0
    unfold u_lay at hlay
    rw [if_neg (by rw [hff']; decide)] at hlay
    have h9 := u_store hfc hkC hkind hlay hi hd hn hfit
    rcases h6' with h6 | ⟨h, h6⟩
    · refine W.putK hx hb (f := f) ⟨hown, h6, ⟨_, _, _, kx_same hu h7 _ hi⟩, hst⟩ (by rw [q2]; exact h9) q1 q3 (by rw [hsl]; exact k2_hasslot (q4 k h5)) rfl rfl hdg fun H1 e1 e2 e3 => ?_
      rw [hsl] at e1 ⊢
      exact kk p e R s m args below meth c H1 _ cells slots lsA hR hF' (fin H1 e1 e2 e3) (kx_ap hS za) hL hc hs
    · refine va_WputK hx hb (f := f) hown h6 (kx_same hu h7 _ hi) hst (by rw [q2]; exact h9) q1 q3 (by rw [hsl]; exact k2_hasslot (q4 k h5)) rfl rfl hdg fun H1 e1 e2 e3 => ?_
      rw [hsl] at e1 ⊢
      exact kk p e R s m args below meth c H1 _ cells slots lsA hR hF' (fin H1 e1 e2 e3) (kx_ap hS za) hL hc hs
theorem kx_iald {a t n : Nat} {f : Nat → Int32} {i : Int32} (hdg : decode F.2.1 pc = .ok (.iaload, 1)) (ho : σ a = some (t, .inl (.int, n, .inl f))) (hin : vp_in i n) (kk : kx G F B bc bs σ (pc + 1) ls (.int (f i.toNatClampNeg) :: rest)) : kx G F B bc bs σ pc ls (.int i :: .ref a :: rest) := by
  intro p e R s m args below meth c H locs cells slots lsA hR hF hH hS hL hc hs
  obtain ⟨cA, h1, h2, h3⟩ := (hH.2.2.1 a _ ho).1
  exact va_iald hF.1 hF.2.1 (kx_K1 hF.2.2.2.2.2.2.2.2.1 h2 h3) (kx_P1 (D := G.2.1) (x := .inl (cA, _)) h1) 0 0 rfl rfl hin hdg (kk p e R s m args below meth c H locs cells slots lsA hR hF hH hS hL hc hs)
theorem kx_lald {a t n : Nat} {f : Nat → Int64} {i : Int32} (hdg : decode F.2.1 pc = .ok (.laload, 1)) (ho : σ a = some (t, .inl (.long, n, .inr (.inl f)))) (hin : vp_in i n) (kk : kx G F B bc bs σ (pc + 1) ls (.long (f i.toNatClampNeg) :: rest)) : kx G F B bc bs σ pc ls (.int i :: .ref a :: rest) := by
  intro p e R s m args below meth c H locs cells slots lsA hR hF hH hS hL hc hs
  obtain ⟨cA, h1, h2, h3⟩ := (hH.2.2.1 a _ ho).1
  exact va_lald hF.1 hF.2.1 (kx_K1 hF.2.2.2.2.2.2.2.2.1 h2 h3) (kx_P1 (D := G.2.1) (x := .inl (cA, _)) h1) 0 0 rfl rfl hin hdg (kk p e R s m args below meth c H locs cells slots lsA hR hF hH hS hL hc hs)
theorem kx_fald {a t n : Nat} {f : Nat → UInt32} {i : Int32} (hdg : decode F.2.1 pc = .ok (.faload, 1)) (ho : σ a = some (t, .inl (.float, n, .inr (.inr (.inl f))))) (hin : vp_in i n) (kk : kx G F B bc bs σ (pc + 1) ls (.float (f i.toNatClampNeg) :: rest)) : kx G F B bc bs σ pc ls (.int i :: .ref a :: rest) := by
  intro p e R s m args below meth c H locs cells slots lsA hR hF hH hS hL hc hs
  obtain ⟨cA, h1, h2, h3⟩ := (hH.2.2.1 a _ ho).1
  exact va_fald hF.1 hF.2.1 (kx_K1 hF.2.2.2.2.2.2.2.2.1 h2 h3) (kx_P1 (D := G.2.1) (x := .inl (cA, _)) h1) 0 0 rfl rfl hin hdg (kk p e R s m args below meth c H locs cells slots lsA hR hF hH hS hL hc hs)
theorem kx_dald {a t n : Nat} {f : Nat → UInt64} {i : Int32} (hdg : decode F.2.1 pc = .ok (.daload, 1)) (ho : σ a = some (t, .inl (.double, n, .inr (.inr (.inr (.inl f)))))) (hin : vp_in i n) (kk : kx G F B bc bs σ (pc + 1) ls (.double (f i.toNatClampNeg) :: rest)) : kx G F B bc bs σ pc ls (.int i :: .ref a :: rest) := by
  intro p e R s m args below meth c H locs cells slots lsA hR hF hH hS hL hc hs
  obtain ⟨cA, h1, h2, h3⟩ := (hH.2.2.1 a _ ho).1
  exact va_dald hF.1 hF.2.1 (kx_K1 hF.2.2.2.2.2.2.2.2.1 h2 h3) (kx_P1 (D := G.2.1) (x := .inl (cA, _)) h1) 0 0 rfl rfl hin hdg (kk p e R s m args below meth c H locs cells slots lsA hR hF hH hS hL hc hs)
theorem kx_bald {a t n : Nat} {f : Nat → Int32} {i : Int32} (hdg : decode F.2.1 pc = .ok (.baload, 1)) (ho : σ a = some (t, .inl (.byte, n, .inl f))) (hin : vp_in i n) (kk : kx G F B bc bs σ (pc + 1) ls (.int (f i.toNatClampNeg) :: rest)) : kx G F B bc bs σ pc ls (.int i :: .ref a :: rest) := by
  intro p e R s m args below meth c H locs cells slots lsA hR hF hH hS hL hc hs
  obtain ⟨cA, h1, h2, h3⟩ := (hH.2.2.1 a _ ho).1
  exact va_bald hF.1 hF.2.1 (kx_K1 hF.2.2.2.2.2.2.2.2.1 h2 h3) (kx_P1 (D := G.2.1) (x := .inl (cA, _)) h1) 0 0 rfl rfl hin hdg (kk p e R s m args below meth c H locs cells slots lsA hR hF hH hS hL hc hs)
theorem kx_zald {a t n : Nat} {f : Nat → Int32} {i : Int32} (hdg : decode F.2.1 pc = .ok (.baload, 1)) (ho : σ a = some (t, .inl (.boolean, n, .inl f))) (hin : vp_in i n) (kk : kx G F B bc bs σ (pc + 1) ls (.int (f i.toNatClampNeg) :: rest)) : kx G F B bc bs σ pc ls (.int i :: .ref a :: rest) := by
  intro p e R s m args below meth c H locs cells slots lsA hR hF hH hS hL hc hs
  obtain ⟨cA, h1, h2, h3⟩ := (hH.2.2.1 a _ ho).1
  exact va_zald hF.1 hF.2.1 (kx_K1 hF.2.2.2.2.2.2.2.2.1 h2 h3) (kx_P1 (D := G.2.1) (x := .inl (cA, _)) h1) 0 0 rfl rfl hin hdg (kk p e R s m args below meth c H locs cells slots lsA hR hF hH hS hL hc hs)
theorem kx_aald {a t n : Nat} {C : String} {f : Nat → Option Nat} {i : Int32} (hdg : decode F.2.1 pc = .ok (.aaload, 1)) (ho : σ a = some (t, .inl (.object C, n, .inr (.inr (.inr (.inr f)))))) (hin : vp_in i n) (kk : kx G F B bc bs σ (pc + 1) ls (va_rf (f i.toNatClampNeg) :: rest)) : kx G F B bc bs σ pc ls (.int i :: .ref a :: rest) := by
  intro p e R s m args below meth c H locs cells slots lsA hR hF hH hS hL hc hs
  obtain ⟨cA, h1, h2, h3⟩ := (hH.2.2.1 a _ ho).1
  exact va_aldq hF.1 hF.2.1 (kx_K1 hF.2.2.2.2.2.2.2.2.1 h2 h3) (kx_P1 (D := G.2.1) (x := .inl (cA, _)) h1) 0 0 rfl rfl hin hdg (kk p e R s m args below meth c H locs cells slots lsA hR hF hH hS hL hc hs)
theorem kx_alen {a t n : Nat} {ty : FieldType} {x : (Nat → Int32) ⊕ (Nat → Int64) ⊕ (Nat → UInt32) ⊕ (Nat → UInt64) ⊕ (Nat → Option Nat)} {v : Int32} (hdg : decode F.2.1 pc = .ok (.arraylength, 1)) (ho : σ a = some (t, .inl (ty, n, x))) (hv : nI n = v) (kk : kx G F B bc bs σ (pc + 1) ls (.int v :: rest)) : kx G F B bc bs σ pc ls (.ref a :: rest) := by
  intro p e R s m args below meth c H locs cells slots lsA hR hF hH hS hL hc hs
  obtain ⟨cA, h1, h2, h3⟩ := (hH.2.2.1 a _ ho).1
  exact va_alen hF.1 hF.2.1 (kx_K1 hF.2.2.2.2.2.2.2.2.1 h2 h3) (kx_P1 (D := G.2.1) (x := .inl (cA, _)) h1) 0 0 rfl rfl hv hdg (kk p e R s m args below meth c H locs cells slots lsA hR hF hH hS hL hc hs)
theorem kx_iast {a t n : Nat} {f : Nat → Int32} {i : Int32} {x : Int32} (hdg : decode F.2.1 pc = .ok (.iastore, 1)) (ho : σ a = some (t, .inl (.int, n, .inl f))) (ht : t ≠ 0) (hin : vp_in i n) (kk : kx G F B bc bs (kU σ a (t, .inl (.int, n, .inl (upd f i.toNatClampNeg x)))) (pc + 1) ls rest) : kx G F B bc bs σ pc ls (.int x :: .int i :: .ref a :: rest) := by
  intro p e R s m args below meth c H locs cells slots lsA hR hF hH hS hL hc hs
  have hu := hF.2.2.2.2.2.2.2.2.1
  obtain ⟨cA, h1, h2, h3⟩ := (hH.2.2.1 a _ ho).1
  refine W.iast hF.1 hF.2.1 h1 (arrOfT_moved (kx_al hu) h2 n (fun j => .int (f j))) (fun q => by cases q) (by show ¬ (i < 0 ∨ (arrV _ _ _).slots.size ≤ _); rw [arrV_size]; exact hin) rfl rfl hdg fun H1 e1 z oq => ?_
  refine kk p e R s m args below meth c H1 _ cells slots lsA hR hF (kx_h_set hu.1 hH ho ht ⟨cA, ?_, h2, h3⟩ z oq) (kx_ap hS (kx_new_z hH ho ht)) hL hc hs
  show H1[a]? = some (vp_cell _ _)
  rw [e1]
  rw [vp_cell_i, vp_cell_i, arrV_store]
  congr 2
  funext q
  by_cases hq : q = i.toNatClampNeg
  · subst hq
    simp [updV, upd]
    try rfl
  · simp [updV, upd, hq]
theorem kx_bast {a t n : Nat} {f : Nat → Int32} {i : Int32} {x : Int32} (hdg : decode F.2.1 pc = .ok (.bastore, 1)) (ho : σ a = some (t, .inl (.byte, n, .inl f))) (ht : t ≠ 0) (hin : vp_in i n) (kk : kx G F B bc bs (kU σ a (t, .inl (.byte, n, .inl (upd f i.toNatClampNeg (vp_nar .byte x))))) (pc + 1) ls rest) : kx G F B bc bs σ pc ls (.int x :: .int i :: .ref a :: rest) := by
  intro p e R s m args below meth c H locs cells slots lsA hR hF hH hS hL hc hs
  have hu := hF.2.2.2.2.2.2.2.2.1
  obtain ⟨cA, h1, h2, h3⟩ := (hH.2.2.1 a _ ho).1
  refine W.bast hF.1 hF.2.1 h1 (arrOfT_moved (kx_al hu) h2 n (fun j => .int (f j))) (fun q => by cases q) (by show ¬ (i < 0 ∨ (arrV _ _ _).slots.size ≤ _); rw [arrV_size]; exact hin) rfl rfl hdg fun H1 e1 z oq => ?_
  refine kk p e R s m args below meth c H1 _ cells slots lsA hR hF (kx_h_set hu.1 hH ho ht ⟨cA, ?_, h2, h3⟩ z oq) (kx_ap hS (kx_new_z hH ho ht)) hL hc hs
  show H1[a]? = some (vp_cell _ _)
  rw [e1]
  rw [vp_cell_i, vp_cell_i, arrV_store]
  congr 2
  funext q
  by_cases hq : q = i.toNatClampNeg
  · subst hq
    simp [updV, upd, vp_nar]
    try rfl
  · simp [updV, upd, vp_nar, hq]
theorem kx_zast {a t n : Nat} {f : Nat → Int32} {i : Int32} {x : Int32} (hdg : decode F.2.1 pc = .ok (.bastore, 1)) (ho : σ a = some (t, .inl (.boolean, n, .inl f))) (ht : t ≠ 0) (hin : vp_in i n) (kk : kx G F B bc bs (kU σ a (t, .inl (.boolean, n, .inl (upd f i.toNatClampNeg (vp_nar .boolean x))))) (pc + 1) ls rest) : kx G F B bc bs σ pc ls (.int x :: .int i :: .ref a :: rest) := by
  intro p e R s m args below meth c H locs cells slots lsA hR hF hH hS hL hc hs
  have hu := hF.2.2.2.2.2.2.2.2.1
  obtain ⟨cA, h1, h2, h3⟩ := (hH.2.2.1 a _ ho).1
  refine W.zast hF.1 hF.2.1 h1 (arrOfT_moved (kx_al hu) h2 n (fun j => .int (f j))) (fun q => by cases q) (by show ¬ (i < 0 ∨ (arrV _ _ _).slots.size ≤ _); rw [arrV_size]; exact hin) rfl rfl hdg fun H1 e1 z oq => ?_
  refine kk p e R s m args below meth c H1 _ cells slots lsA hR hF (kx_h_set hu.1 hH ho ht ⟨cA, ?_, h2, h3⟩ z oq) (kx_ap hS (kx_new_z hH ho ht)) hL hc hs
  show H1[a]? = some (vp_cell _ _)
  rw [e1]
  rw [vp_cell_i, vp_cell_i, arrV_store]
  congr 2
  funext q
  by_cases hq : q = i.toNatClampNeg
  · subst hq
    simp [updV, upd, vp_nar]
    try rfl
  · simp [updV, upd, vp_nar, hq]
theorem kx_last {a t n : Nat} {f : Nat → Int64} {i : Int32} {x : Int64} (hdg : decode F.2.1 pc = .ok (.lastore, 1)) (ho : σ a = some (t, .inl (.long, n, .inr (.inl f)))) (ht : t ≠ 0) (hin : vp_in i n) (kk : kx G F B bc bs (kU σ a (t, .inl (.long, n, .inr (.inl (vp_updL f i.toNatClampNeg x))))) (pc + 1) ls rest) : kx G F B bc bs σ pc ls (.long x :: .int i :: .ref a :: rest) := by
  intro p e R s m args below meth c H locs cells slots lsA hR hF hH hS hL hc hs
  have hu := hF.2.2.2.2.2.2.2.2.1
  obtain ⟨cA, h1, h2, h3⟩ := (hH.2.2.1 a _ ho).1
  refine W.last hF.1 hF.2.1 h1 (arrOfT_moved (kx_al hu) h2 n (fun j => .long (f j))) (fun q => by cases q) (by show ¬ (i < 0 ∨ (arrV _ _ _).slots.size ≤ _); rw [arrV_size]; exact hin) rfl rfl hdg fun H1 e1 z oq => ?_
  refine kk p e R s m args below meth c H1 _ cells slots lsA hR hF (kx_h_set hu.1 hH ho ht ⟨cA, ?_, h2, h3⟩ z oq) (kx_ap hS (kx_new_z hH ho ht)) hL hc hs
  show H1[a]? = some (vp_cell _ _)
  rw [e1]
  rw [vp_cell_l, vp_cell_l, arrV_store]
  congr 2
  funext q
  by_cases hq : q = i.toNatClampNeg
  · subst hq
    simp [updV, upd, vp_updL]
    try rfl
  · simp [updV, upd, vp_updL, hq]
theorem kx_fast {a t n : Nat} {f : Nat → UInt32} {i : Int32} {x : UInt32} (hdg : decode F.2.1 pc = .ok (.fastore, 1)) (ho : σ a = some (t, .inl (.float, n, .inr (.inr (.inl f))))) (ht : t ≠ 0) (hin : vp_in i n) (kk : kx G F B bc bs (kU σ a (t, .inl (.float, n, .inr (.inr (.inl (vf_upd f i.toNatClampNeg x)))))) (pc + 1) ls rest) : kx G F B bc bs σ pc ls (.float x :: .int i :: .ref a :: rest) := by
  intro p e R s m args below meth c H locs cells slots lsA hR hF hH hS hL hc hs
  have hu := hF.2.2.2.2.2.2.2.2.1
  obtain ⟨cA, h1, h2, h3⟩ := (hH.2.2.1 a _ ho).1
  refine W.fast hF.1 hF.2.1 h1 (arrOfT_moved (kx_al hu) h2 n (fun j => .float (f j))) (fun q => by cases q) (by show ¬ (i < 0 ∨ (arrV _ _ _).slots.size ≤ _); rw [arrV_size]; exact hin) rfl rfl hdg fun H1 e1 z oq => ?_
  refine kk p e R s m args below meth c H1 _ cells slots lsA hR hF (kx_h_set hu.1 hH ho ht ⟨cA, ?_, h2, h3⟩ z oq) (kx_ap hS (kx_new_z hH ho ht)) hL hc hs
  show H1[a]? = some (vp_cell _ _)
  rw [e1]
  rw [vp_cell_f, vp_cell_f, arrV_store]
  congr 2
  funext q
  by_cases hq : q = i.toNatClampNeg
  · subst hq
    simp [updV, upd, vf_upd]
    try rfl
  · simp [updV, upd, vf_upd, hq]
theorem kx_dast {a t n : Nat} {f : Nat → UInt64} {i : Int32} {x : UInt64} (hdg : decode F.2.1 pc = .ok (.dastore, 1)) (ho : σ a = some (t, .inl (.double, n, .inr (.inr (.inr (.inl f)))))) (ht : t ≠ 0) (hin : vp_in i n) (kk : kx G F B bc bs (kU σ a (t, .inl (.double, n, .inr (.inr (.inr (.inl (vf_upd f i.toNatClampNeg x))))))) (pc + 1) ls rest) : kx G F B bc bs σ pc ls (.double x :: .int i :: .ref a :: rest) := by
  intro p e R s m args below meth c H locs cells slots lsA hR hF hH hS hL hc hs
  have hu := hF.2.2.2.2.2.2.2.2.1
  obtain ⟨cA, h1, h2, h3⟩ := (hH.2.2.1 a _ ho).1
  refine W.dast hF.1 hF.2.1 h1 (arrOfT_moved (kx_al hu) h2 n (fun j => .double (f j))) (fun q => by cases q) (by show ¬ (i < 0 ∨ (arrV _ _ _).slots.size ≤ _); rw [arrV_size]; exact hin) rfl rfl hdg fun H1 e1 z oq => ?_
  refine kk p e R s m args below meth c H1 _ cells slots lsA hR hF (kx_h_set hu.1 hH ho ht ⟨cA, ?_, h2, h3⟩ z oq) (kx_ap hS (kx_new_z hH ho ht)) hL hc hs
  show H1[a]? = some (vp_cell _ _)
  rw [e1]
  rw [vp_cell_d, vp_cell_d, arrV_store]
  congr 2
  funext q
  by_cases hq : q = i.toNatClampNeg
  · subst hq
    simp [updV, upd, vf_upd]
    try rfl
  · simp [updV, upd, vf_upd, hq]
end KXH
section KXC
variable {G : KG} {F : KF} {B : KB} {bc bs : Nat} {σ : KHp} {pc : Nat} {ls : Nat → Option Value} {rest st : List Value}
variable {p : Program} {e : Env} {R : Room} {s : State} {m : MethodId} {args : Array Value} {below : List Frame} {meth : Method} {c : Code} {H : Heap} {locs : List Loc} {cells slots : Nat} {lsA : Array Slot}
theorem kx_mk {y : MethodName} {cc : ByteArray} {nL : Nat} {ret : Option FieldType} {d mc ms : Nat} {As : List Value} {Q : KQ} {X : KX} (hy : plainName y.cls = true) (hn : (lg_sl As).length ≤ nL)
    (body : kx G (y.cls, cc, nL, ret, decide (y.name = "<init>"), []) (d, mc, ms, Q, X) mc ms σ 0 (kx_a As) []) : kx_c G y (ws_ y cc nL ret) d mc ms As σ Q X := by
  refine vx_ofW (cc := cc) (maxL := nL) (ret := ret) hy rfl ?_
  intro p e s m args below meth c s₁ Bd hml htab hv
  obtain ⟨rfl, hu, hH⟩ := hv
  rw [lg_entry_eq]
  have hl := lv_entry As (n := nL) hn
  refine body p e _ s m As.toArray below meth c s.heap [] 0 0 _ ⟨Nat.le_refl _, Nat.le_refl _, rfl, rfl⟩ ⟨Bd.exec, Bd.bytes, hml, Bd.returns, Bd.notSynchronized, findClass_of_methodNamed Bd.named, fun h => ?_, ?_, hu, hH.1⟩ hH (fun q h => nomatch h) ⟨hl.1, hl.2.1, fun i v hi => ?_⟩ (Nat.le_of_eq (Nat.zero_add _)) (Nat.le_of_eq (Nat.zero_add _))
  · exact (name_of_methodNamed Bd.named Bd.method).1.trans (of_decide_eq_true h)
  · cases hc : c.exceptionTable.toList with
    | nil => rfl
    | cons x l => exact (htab x (by rw [hc]; exact List.mem_cons_self)).elim
  · refine hl.2.2 (i, v) ?_
    unfold kx_a at hi
    generalize lv_args 0 As = l at hi
    induction l with
    | nil => simp at hi
    | cons q l ih =>
      obtain ⟨j, w⟩ := q
      rw [List.lookup_cons] at hi
      by_cases h : i = j
      · subst h
        simp at hi
        subst hi
        exact List.mem_cons_self
      · have h9 : (i == j) = false := by simpa using h
        rw [h9] at hi
        exact List.mem_cons_of_mem _ (ih hi)
theorem kx_mkW {y : MethodName} {cc : ByteArray} {nL : Nat} {ret : Option FieldType} {hh : List (Nat × Nat × Nat × Nat)} {d mc ms : Nat} {As : List Value} {Q : KQ} {X : KX} (hy : plainName y.cls = true) (hn : (lg_sl As).length ≤ nL)
    (body : kx G (y.cls, cc, nL, ret, decide (y.name = "<init>"), hh) (d, mc, ms, Q, X) mc ms σ 0 (kx_a As) []) : kx_c G y (wsW_ y cc nL ret hh) d mc ms As σ Q X := by
  refine vx_ofWH (cc := cc) (maxL := nL) (ret := ret) (hh := hh) hy rfl ?_
  intro p e s m args below meth c s₁ Bd hml hv
  obtain ⟨rfl, hu, hH⟩ := hv
  have hcw : (Cond.codeWith y cc nL ret hh).before As.toArray s = true := atoms_spec (ws := wsW_ y cc nL ret hh) Bd.pre _ List.mem_cons_self
  rw [lg_entry_eq]
  have hl := lv_entry As (n := nL) hn
  refine body p e _ s m As.toArray below meth c s.heap [] 0 0 _ ⟨Nat.le_refl _, Nat.le_refl _, rfl, rfl⟩ ⟨Bd.exec, Bd.bytes, hml, Bd.returns, Bd.notSynchronized, findClass_of_methodNamed Bd.named, fun h => ?_, vx_table (x := y) Bd hcw, hu, hH.1⟩ hH (fun q h => nomatch h) ⟨hl.1, hl.2.1, fun i v hi => ?_⟩ (Nat.le_of_eq (Nat.zero_add _)) (Nat.le_of_eq (Nat.zero_add _))
  · exact (name_of_methodNamed Bd.named Bd.method).1.trans (of_decide_eq_true h)
  · refine hl.2.2 (i, v) ?_
    unfold kx_a at hi
    generalize lv_args 0 As = l at hi
    induction l with
    | nil => simp at hi
    | cons q l ih =>
      obtain ⟨j, w⟩ := q
      rw [List.lookup_cons] at hi
      by_cases h : i = j
      · subst h
        simp at hi
        subst hi
        exact List.mem_cons_self
      · have h9 : (i == j) = false := by simpa using h
        rw [h9] at hi
        exact List.mem_cons_of_mem _ (ih hi)
theorem kx_blind {As : List Value} : FrameBlind (va_Pc As (fun U => kx_u G U ∧ kx_h G σ U.heap)) := fun _ _ _ _ q => q
theorem kx_u_warm (hu : kx_u G s) {U : State} (hW : s.WarmedH U.vm) : kx_u G U := ⟨hu.1, State.WarmedH.trans hu.2 hW⟩
theorem kx_run {mc ms : Nat} {As : Array Value} {Q : KQ} {X : KX} (hr : vx_Run p G.1 e R s m args below meth c H locs cells slots mc ms (F0 m pc lsA st) rest (kx_Qc G Q As) (kx_XC G X) (fun q => kx_z G ≤ q))
    (hR : kx_R B R) (hF : kx_fr G F p s m meth c) (hS : ∀ q ∈ locs, kx_z G ≤ q.base) (hL : kx_l lsA F.2.2.1 ls) (hc : cells + bc ≤ B.2.1) (hs : slots + bs ≤ B.2.2.1) (hmc : mc ≤ bc) (hms : ms ≤ bs)
    (k9 : ∀ E q σ', X E q σ' → kx_t G F B (bc - mc) (bs - ms) σ' pc ls E q) (kk : ∀ v σ', Q v σ' → kx G F B (bc - mc) (bs - ms) σ' (pc + 3) ls (v.toList ++ rest)) :
    W p G.1 e R s m args below meth c H locs cells slots (vx_MQ below (kx_Qc G B.2.2.2.1) (kx_XC G B.2.2.2.2) args s B.2.1 B.2.2.1 (fun q => kx_z G ≤ q)) (F0 m pc lsA st) := by
  intro T hT X9
  have app : ∀ L : List Loc, (∀ q ∈ L, kx_z G ≤ q.base) → ∀ q ∈ locs ++ L, kx_z G ≤ q.base := fun L hL q hq => (List.mem_append.mp hq).elim (hS q) (hL q)
  rcases hr T hT X9 with ⟨v, st₀, t, T', L, h0, X', hL9, e1, e2, ⟨v', σ', hv, hH', hQ⟩, hst⟩ | ⟨q, st₀, t, T', L, E, ce, h0, X', hL9, e1, e2, ⟨σ', hH', hX⟩, hce, hcv, hcl, hst⟩
  · cases hv
    rw [← e1] at hH'
    obtain ⟨t2, a1, b1⟩ := kk v σ' hQ p e R s m args below meth c T'.heap (locs ++ L) (cells + mc) (slots + ms) lsA hR hF hH' (app L hL9) hL (by omega) (by omega) T' rfl X'
    exact ⟨t2, hst t2 a1, b1⟩
  · rw [← e1] at hH' hce
    obtain ⟨t2, a1, b1⟩ := k9 E q σ' hX p e R s m args below meth c T'.heap (locs ++ L) (cells + mc) (slots + ms) lsA rest ce hR hF hH' (app L hL9) hL (by omega) (by omega) hce hcv hcl T' rfl X'
    exact ⟨t2, hst.trans a1, b1⟩
theorem kx_run5 {mc ms : Nat} {As : Array Value} {Q : KQ} {X : KX} (hr : vx_Run5 p G.1 e R s m args below meth c H locs cells slots mc ms (F0 m pc lsA st) rest (kx_Qc G Q As) (kx_XC G X) (fun q => kx_z G ≤ q))
    (hR : kx_R B R) (hF : kx_fr G F p s m meth c) (hS : ∀ q ∈ locs, kx_z G ≤ q.base) (hL : kx_l lsA F.2.2.1 ls) (hc : cells + bc ≤ B.2.1) (hs : slots + bs ≤ B.2.2.1) (hmc : mc ≤ bc) (hms : ms ≤ bs)
    (k9 : ∀ E q σ', X E q σ' → kx_t G F B (bc - mc) (bs - ms) σ' pc ls E q) (kk : ∀ v σ', Q v σ' → kx G F B (bc - mc) (bs - ms) σ' (pc + 5) ls (v.toList ++ rest)) :
    W p G.1 e R s m args below meth c H locs cells slots (vx_MQ below (kx_Qc G B.2.2.2.1) (kx_XC G B.2.2.2.2) args s B.2.1 B.2.2.1 (fun q => kx_z G ≤ q)) (F0 m pc lsA st) := by
  intro T hT X9
  have app : ∀ L : List Loc, (∀ q ∈ L, kx_z G ≤ q.base) → ∀ q ∈ locs ++ L, kx_z G ≤ q.base := fun L hL q hq => (List.mem_append.mp hq).elim (hS q) (hL q)
  rcases hr T hT X9 with ⟨v, st₀, t, T', L, h0, X', hL9, e1, e2, ⟨v', σ', hv, hH', hQ⟩, hst⟩ | ⟨q, st₀, t, T', L, E, ce, h0, X', hL9, e1, e2, ⟨σ', hH', hX⟩, hce, hcv, hcl, hst⟩
  · cases hv
    rw [← e1] at hH'
    obtain ⟨t2, a1, b1⟩ := kk v σ' hQ p e R s m args below meth c T'.heap (locs ++ L) (cells + mc) (slots + ms) lsA hR hF hH' (app L hL9) hL (by omega) (by omega) T' rfl X'
    exact ⟨t2, hst t2 a1, b1⟩
  · rw [← e1] at hH' hce
    obtain ⟨t2, a1, b1⟩ := k9 E q σ' hX p e R s m args below meth c T'.heap (locs ++ L) (cells + mc) (slots + ms) lsA rest ce hR hF hH' (app L hL9) hL (by omega) (by omega) hce hcv hcl T' rfl X'
    exact ⟨t2, hst.trans a1, b1⟩
/-- a receiver of class C -/
def kx_rc (σ : KHp) (a : Nat) (C : String) : Prop := ∃ (t ci : Nat) (fs : List Value), σ a = some (t, .inr (ci, fs)) ∧ ((∃ (T : u_T) (N : Nat), kx_cl[ci]? = some (C, T, N)) ∨ (100 ≤ ci ∧ kx_el[ci - 100]? = some C))
theorem kx_recv (hu : kx_u G s) (hH : kx_h G σ H) {a : Nat} {C : String} (h : kx_rc σ a C) : ∃ cell : Cell, H[a]? = some cell ∧ cell.vm.isStatics = false ∧ s.vm.findClass C = some cell.cls := by
  obtain ⟨t, ci, fs, ho, ⟨T, N, h1⟩ | h1⟩ := h
  · exact va_recv (kx_Kn hu) (kx_P1 (kx_o hH ho h1).1) h1 (q0 := 0) rfl
  · obtain ⟨⟨cell, g1, g2, g3, -⟩, -⟩ := kx_el_o hH ho h1
    exact ⟨cell, g1, g2, by rw [← g3, (kx_al hu).findClass]⟩
theorem kx_pre (hu : kx_u G s) (hH : kx_h G σ H) {As : List Value} : ∀ U : State, U.heap = H → s.WarmedH U.vm → va_Pc As (fun U => kx_u G U ∧ kx_h G σ U.heap) As.toArray U := fun U h1 h2 => ⟨rfl, kx_u_warm hu h2, by rw [h1]; exact hH⟩
theorem kx_room (hR : kx_R B R) {d L : Nat} (hL : L ≤ 45) (hd : d + 1 ≤ B.1) : d + 1 ≤ R.frames ∧ 8 + (L + 11) + 64 * d ≤ R.locals := by
  obtain ⟨h1, h2, -, -⟩ := hR
  omega
theorem kx_fit (hR : kx_R B R) {mc ms : Nat} (hc : cells + bc ≤ B.2.1) (hs : slots + bs ≤ B.2.2.1) (hmc : mc ≤ bc) (hms : ms ≤ bs) : cells + mc ≤ R.cells ∧ slots + ms ≤ R.slots := by
  obtain ⟨-, -, h1, h2⟩ := hR
  omega
def kx_ok (y : MethodName) (n : Nat) : Prop := y.cls ≠ "java/lang/invoke/MethodHandle" ∧ y.cls ≠ "java/lang/invoke/VarHandle" ∧ (parseMethodDescriptor y.desc).map (fun d => d.parameters.length) = some n
/-- the words of a call through an object, of a static call, of a constructor's -/
def kx_lV (own : String) (idx : Nat) (y : MethodName) (b : ByteArray) (L : Nat) (r : Option FieldType) (n : Nat) : Prop := kx_ok y n ∧ Cond.methodLink own idx y ∈ lw_all ∧ Cond.instanceMethod y ∈ lw_all ∧ Cond.selects y.cls y y ∈ lw_all ∧ Cond.initialized y.cls ∈ lw_all ∧ Cond.code y b L r ∈ lw_all
def kx_lVX (own : String) (idx : Nat) (y : MethodName) (b : ByteArray) (L : Nat) (r : Option FieldType) (hh : List (Nat × Nat × Nat × Nat)) (n : Nat) : Prop := kx_ok y n ∧ Cond.methodLink own idx y ∈ lw_all ∧ Cond.instanceMethod y ∈ lw_all ∧ Cond.selects y.cls y y ∈ lw_all ∧ Cond.initialized y.cls ∈ lw_all ∧ Cond.codeWith y b L r hh ∈ lw_all
def kx_lS (own : String) (idx : Nat) (y : MethodName) (b : ByteArray) (L : Nat) (r : Option FieldType) (n : Nat) : Prop := kx_ok y n ∧ Cond.methodLink own idx y ∈ lw_all ∧ Cond.static y ∈ lw_all ∧ Cond.initialized y.cls ∈ lw_all ∧ Cond.code y b L r ∈ lw_all
def kx_lSX (own : String) (idx : Nat) (y : MethodName) (b : ByteArray) (L : Nat) (r : Option FieldType) (hh : List (Nat × Nat × Nat × Nat)) (n : Nat) : Prop := kx_ok y n ∧ Cond.methodLink own idx y ∈ lw_all ∧ Cond.static y ∈ lw_all ∧ Cond.initialized y.cls ∈ lw_all ∧ Cond.codeWith y b L r hh ∈ lw_all
def kx_lI (own : String) (idx : Nat) (y : MethodName) (b : ByteArray) (L : Nat) (n : Nat) : Prop := kx_ok y n ∧ y.name = "<init>" ∧ Cond.methodLink own idx y ∈ lw_all ∧ Cond.instanceMethod y ∈ lw_all ∧ Cond.initialized y.cls ∈ lw_all ∧ Cond.code y b L none ∈ lw_all
/-- inherited: x is found as y in the class above, owner -/
def kx_lU (own : String) (idx : Nat) (C owner : String) (x y : MethodName) (b : ByteArray) (L : Nat) (r : Option FieldType) (n : Nat) : Prop := (owner ≠ "java/lang/invoke/MethodHandle" ∧ owner ≠ "java/lang/invoke/VarHandle" ∧ (parseMethodDescriptor x.desc).map (fun d => d.parameters.length) = some n) ∧ Cond.methodLink own idx x ∈ lw_all ∧ Cond.sameMethod x.cls owner x.name x.desc ∈ lw_all ∧ Cond.selects C x y ∈ lw_all ∧ Cond.instanceMethod y ∈ lw_all ∧ Cond.initialized y.cls ∈ lw_all ∧ Cond.code y b L r ∈ lw_all ∧
  (y = ⟨owner, x.name, x.desc⟩ ∨ (Cond.instanceMethod ⟨owner, x.name, x.desc⟩ ∈ lw_all ∧ ∃ b0 m0 r0, Cond.code ⟨owner, x.name, x.desc⟩ b0 m0 r0 ∈ lw_all) ∨ Cond.declares ⟨owner, x.name, x.desc⟩ ∈ lw_tbl)
def kx_lSU (own : String) (idx : Nat) (y : MethodName) (b : ByteArray) (L : Nat) (r : Option FieldType) (n : Nat) : Prop := (y.name ≠ "<init>" ∧ (parseMethodDescriptor y.desc).map (fun d => d.parameters.length) = some n) ∧ Cond.methodLink own idx y ∈ lw_all ∧ Cond.sameMethod y.cls y.cls y.name y.desc ∈ lw_all ∧ Cond.superclass own y.cls ∈ lw_all ∧ Cond.instanceMethod y ∈ lw_all ∧ Cond.initialized y.cls ∈ lw_all ∧ Cond.code y b L r ∈ lw_all
def kx_lSN (own : String) (idx : Nat) (y : MethodName) (b : ByteArray) (L : Nat) (r : Option FieldType) (n : Nat) : Prop := kx_ok y n ∧ (∃ h, Cond.methodLinkNest own idx y h ∈ lw_tbl) ∧ Cond.static y ∈ lw_all ∧ Cond.initialized y.cls ∈ lw_all ∧ Cond.code y b L r ∈ lw_all
def kx_lVN (own : String) (idx : Nat) (y : MethodName) (b : ByteArray) (L : Nat) (r : Option FieldType) (n : Nat) : Prop := kx_ok y n ∧ (∃ h, Cond.methodLinkNest own idx y h ∈ lw_tbl) ∧ Cond.instanceMethod y ∈ lw_all ∧ Cond.selects y.cls y y ∈ lw_all ∧ Cond.initialized y.cls ∈ lw_all ∧ Cond.code y b L r ∈ lw_all
def kx_lF (own : String) (idx : Nat) (C : String) (x y : MethodName) (b : ByteArray) (L : Nat) (r : Option FieldType) (n : Nat) : Prop := kx_ok x n ∧ Cond.methodLink own idx x ∈ lw_all ∧ Cond.selects C x y ∈ lw_all ∧ Cond.instanceMethod y ∈ lw_all ∧ Cond.initialized y.cls ∈ lw_all ∧ Cond.code y b L r ∈ lw_all ∧
  Cond.declares x ∈ lw_tbl ∧ Cond.interfaceMethod x.cls x.cls x.name x.desc ∈ lw_tbl ∧ Cond.publicMethod y ∈ lw_tbl ∧ Cond.unhidden C x.name x.desc ∈ lw_tbl ∧ Cond.castable C x.cls ∈ lw_tbl
section CALL
variable {y x : MethodName} {b : ByteArray} {L n d mc ms idx a : Nat} {r : Option FieldType} {hh : List (Nat × Nat × Nat × Nat)} {As : List Value} {Q : KQ} {X : KX} {C owner : String}
theorem kx_callV (hdg : decode F.2.1 pc = .ok (.invokevirtual idx, 3)) (lk : kx_lV F.1 idx y b L r n) (hC : kx_c G y (ws_ y b L r) d mc ms (.ref a :: As) σ Q X) (hn : As.length = n) (hrc : kx_rc σ a y.cls) (hst : st = As.reverse ++ .ref a :: rest)
    (hw : (rest.map fun v => v.category).sum ≤ 8) (hL9 : L ≤ 45) (hd : d + 1 ≤ B.1) (hmc : mc ≤ bc) (hms : ms ≤ bs)
    (k9 : ∀ E q σ', X E q σ' → kx_t G F B (bc - mc) (bs - ms) σ' pc ls E q) (kk : ∀ v σ', Q v σ' → kx G F B (bc - mc) (bs - ms) σ' (pc + 3) ls (v.toList ++ rest)) : kx G F B bc bs σ pc ls st := by
  intro p e R s m args below meth c H locs cells slots lsA hR hF hH hS hL hc hs
  have hu := hF.2.2.2.2.2.2.2.2.1
  obtain ⟨h0, h1, h2, h3, h4, h5⟩ := lk
  exact kx_run (vx_runV (S := ⟨hF.1, hF.2.1, hF.2.2.1, hF.2.2.2.2.2.1, kx_ws hu⟩) hC (cwV n (kx_ws hu) (lw_V h1 h2 h3 h4 h5) rfl rfl rfl ⟨rfl, h0⟩ (kx_room hR hL9 hd)) ⟨kx_blind, kx_recv hu hH hrc, kx_pre hu hH⟩ rfl hn hL.1 hst (by simpa using hw) hdg (kx_fit hR hc hs hmc hms)) hR hF hS hL hc hs hmc hms k9 kk
theorem kx_callVX (hdg : decode F.2.1 pc = .ok (.invokevirtual idx, 3)) (lk : kx_lVX F.1 idx y b L r hh n) (hC : kx_c G y (wsW_ y b L r hh) d mc ms (.ref a :: As) σ Q X) (hn : As.length = n) (hrc : kx_rc σ a y.cls) (hst : st = As.reverse ++ .ref a :: rest)
    (hw : (rest.map fun v => v.category).sum ≤ 8) (hL9 : L ≤ 45) (hd : d + 1 ≤ B.1) (hmc : mc ≤ bc) (hms : ms ≤ bs)
    (k9 : ∀ E q σ', X E q σ' → kx_t G F B (bc - mc) (bs - ms) σ' pc ls E q) (kk : ∀ v σ', Q v σ' → kx G F B (bc - mc) (bs - ms) σ' (pc + 3) ls (v.toList ++ rest)) : kx G F B bc bs σ pc ls st := by
  intro p e R s m args below meth c H locs cells slots lsA hR hF hH hS hL hc hs
  have hu := hF.2.2.2.2.2.2.2.2.1
  obtain ⟨h0, h1, h2, h3, h4, h5⟩ := lk
  exact kx_run (vx_runVX (S := ⟨hF.1, hF.2.1, hF.2.2.1, hF.2.2.2.2.2.1, kx_ws hu⟩) hC (vx_cwVW n (kx_ws hu) (lw_VW h1 h2 h3 h4 h5) rfl rfl rfl ⟨rfl, h0⟩ (kx_room hR hL9 hd)) ⟨kx_blind, kx_recv hu hH hrc, kx_pre hu hH⟩ rfl hn hL.1 hst (by simpa using hw) hdg (kx_fit hR hc hs hmc hms)) hR hF hS hL hc hs hmc hms k9 kk
theorem kx_callS (hdg : decode F.2.1 pc = .ok (.invokestatic idx, 3)) (lk : kx_lS F.1 idx y b L r n) (hC : kx_c G y (ws_ y b L r) d mc ms As σ Q X) (hn : As.length = n) (hst : st = As.reverse ++ rest)
    (hw : (rest.map fun v => v.category).sum ≤ 8) (hL9 : L ≤ 45) (hd : d + 1 ≤ B.1) (hmc : mc ≤ bc) (hms : ms ≤ bs)
    (k9 : ∀ E q σ', X E q σ' → kx_t G F B (bc - mc) (bs - ms) σ' pc ls E q) (kk : ∀ v σ', Q v σ' → kx G F B (bc - mc) (bs - ms) σ' (pc + 3) ls (v.toList ++ rest)) : kx G F B bc bs σ pc ls st := by
  intro p e R s m args below meth c H locs cells slots lsA hR hF hH hS hL hc hs
  have hu := hF.2.2.2.2.2.2.2.2.1
  obtain ⟨h0, h1, h2, h3, h4⟩ := lk
  exact kx_run (vx_runS (S := ⟨hF.1, hF.2.1, hF.2.2.1, hF.2.2.2.2.2.1, kx_ws hu⟩) hC (va_cwS n (kx_ws hu) (lw_S h1 h2 h3 h4) rfl rfl rfl h0 (kx_room hR hL9 hd)) ⟨kx_blind, kx_pre hu hH⟩ rfl hn hL.1 hst (by simpa using hw) hdg (kx_fit hR hc hs hmc hms)) hR hF hS hL hc hs hmc hms k9 kk
theorem kx_callSX (hdg : decode F.2.1 pc = .ok (.invokestatic idx, 3)) (lk : kx_lSX F.1 idx y b L r hh n) (hC : kx_c G y (wsW_ y b L r hh) d mc ms As σ Q X) (hn : As.length = n) (hst : st = As.reverse ++ rest)
    (hw : (rest.map fun v => v.category).sum ≤ 8) (hL9 : L ≤ 45) (hd : d + 1 ≤ B.1) (hmc : mc ≤ bc) (hms : ms ≤ bs)
    (k9 : ∀ E q σ', X E q σ' → kx_t G F B (bc - mc) (bs - ms) σ' pc ls E q) (kk : ∀ v σ', Q v σ' → kx G F B (bc - mc) (bs - ms) σ' (pc + 3) ls (v.toList ++ rest)) : kx G F B bc bs σ pc ls st := by
  intro p e R s m args below meth c H locs cells slots lsA hR hF hH hS hL hc hs
  have hu := hF.2.2.2.2.2.2.2.2.1
  obtain ⟨h0, h1, h2, h3, h4⟩ := lk
  exact kx_run (vx_runSX (S := ⟨hF.1, hF.2.1, hF.2.2.1, hF.2.2.2.2.2.1, kx_ws hu⟩) hC (vx_cwSW n (kx_ws hu) (lw_SW h1 h2 h3 h4) rfl rfl rfl h0 (kx_room hR hL9 hd)) ⟨kx_blind, kx_pre hu hH⟩ rfl hn hL.1 hst (by simpa using hw) hdg (kx_fit hR hc hs hmc hms)) hR hF hS hL hc hs hmc hms k9 kk
theorem kx_callI (hdg : decode F.2.1 pc = .ok (.invokespecial idx, 3)) (lk : kx_lI F.1 idx y b L n) (hC : kx_c G y (ws_ y b L none) d mc ms (.ref a :: As) σ Q X) (hn : As.length = n) (hst : st = As.reverse ++ .ref a :: rest)
    (hw : (rest.map fun v => v.category).sum ≤ 8) (hL9 : L ≤ 45) (hd : d + 1 ≤ B.1) (hmc : mc ≤ bc) (hms : ms ≤ bs)
    (k9 : ∀ E q σ', X E q σ' → kx_t G F B (bc - mc) (bs - ms) σ' pc ls E q) (kk : ∀ v σ', Q v σ' → kx G F B (bc - mc) (bs - ms) σ' (pc + 3) ls (v.toList ++ rest)) : kx G F B bc bs σ pc ls st := by
  intro p e R s m args below meth c H locs cells slots lsA hR hF hH hS hL hc hs
  have hu := hF.2.2.2.2.2.2.2.2.1
  obtain ⟨h0, h6, h1, h2, h3, h4⟩ := lk
  exact kx_run (vx_runI (S := ⟨hF.1, hF.2.1, hF.2.2.1, hF.2.2.2.2.2.1, kx_ws hu⟩) hC (cwI n (kx_ws hu) (lw_meth h4) rfl rfl rfl (kx_w hu h3) (kx_w hu h1) (kx_w hu h2) h6 h0 (kx_room hR hL9 hd)) ⟨kx_blind, kx_pre hu hH⟩ rfl hn hL.1 hst (by simpa using hw) hdg (kx_fit hR hc hs hmc hms)) hR hF hS hL hc hs hmc hms k9 kk
theorem kx_callU (hdg : decode F.2.1 pc = .ok (.invokevirtual idx, 3)) (lk : kx_lU F.1 idx C owner x y b L r n) (hC : kx_c G y (ws_ y b L r) d mc ms (.ref a :: As) σ Q X) (hn : As.length = n) (hrc : kx_rc σ a C) (hst : st = As.reverse ++ .ref a :: rest)
    (hw : (rest.map fun v => v.category).sum ≤ 8) (hL9 : L ≤ 45) (hd : d + 1 ≤ B.1) (hmc : mc ≤ bc) (hms : ms ≤ bs)
    (k9 : ∀ E q σ', X E q σ' → kx_t G F B (bc - mc) (bs - ms) σ' pc ls E q) (kk : ∀ v σ', Q v σ' → kx G F B (bc - mc) (bs - ms) σ' (pc + 3) ls (v.toList ++ rest)) : kx G F B bc bs σ pc ls st := by
  intro p e R s m args below meth c H locs cells slots lsA hR hF hH hS hL hc hs
  have hu := hF.2.2.2.2.2.2.2.2.1
  obtain ⟨h0, h1, h2, h3, h4, h5, h6, h7⟩ := lk
  have hT : GoodIn lw_all (va_wsU F.1 idx C owner x y (ws_ y b L r)) := lw_app (by
    intro w hw
    simp only [List.mem_cons, List.not_mem_nil, or_false] at hw
    rcases hw with e | e | e | e | e
    · rw [e]; exact h1
    · rw [e]; exact h2
    · rw [e]; exact h3
    · rw [e]; exact h4
    · rw [e]; exact h5) (lw_meth h6)
  have cw : va_CU R s args F.1 C owner idx x y b L r (ws_ y b L r) ({ frames := d, cells := mc, slots := ms, locals := 64 * d } : Room) mc ms n := by
    rcases h7 with h7 | ⟨h7, b0, m0, r0, h8⟩ | h7
    · exact va_cwU n (kx_ws hu) hT rfl rfl rfl h7 h0 (kx_room hR hL9 hd)
    · exact va_cwO n (kx_ws hu) (lw_app (by
        intro w hw
        simp only [List.mem_cons, List.not_mem_nil, or_false] at hw
        rcases hw with e | e | e | e | e | e
        · rw [e]; exact h1
        · rw [e]; exact h2
        · rw [e]; exact h7
        · rw [e]; exact h3
        · rw [e]; exact h4
        · rw [e]; exact h5) (lw_meth h6)) rfl rfl rfl h8 h0 (kx_room hR hL9 hd)
    · exact va_cwA n (kx_ws hu) hT rfl rfl rfl (kx_nD hu h7) h0 (kx_room hR hL9 hd)
  exact kx_run (vx_runU (S := ⟨hF.1, hF.2.1, hF.2.2.1, hF.2.2.2.2.2.1, kx_ws hu⟩) hC cw ⟨kx_blind, kx_recv hu hH hrc, kx_pre hu hH⟩ rfl hn hL.1 hst (by simpa using hw) hdg (kx_fit hR hc hs hmc hms)) hR hF hS hL hc hs hmc hms k9 kk
theorem kx_callSU (hdg : decode F.2.1 pc = .ok (.invokespecial idx, 3)) (lk : kx_lSU F.1 idx y b L r n) (hC : kx_c G y (ws_ y b L r) d mc ms (.ref a :: As) σ Q X) (hn : As.length = n) {t ci : Nat} {fs : List Value} {T : u_T} {N : Nat} (ho : σ a = some (t, .inr (ci, fs))) (hci : kx_cl[ci]? = some (C, T, N)) (hst : st = As.reverse ++ .ref a :: rest)
    (hw : (rest.map fun v => v.category).sum ≤ 8) (hL9 : L ≤ 45) (hd : d + 1 ≤ B.1) (hmc : mc ≤ bc) (hms : ms ≤ bs)
    (k9 : ∀ E q σ', X E q σ' → kx_t G F B (bc - mc) (bs - ms) σ' pc ls E q) (kk : ∀ v σ', Q v σ' → kx G F B (bc - mc) (bs - ms) σ' (pc + 3) ls (v.toList ++ rest)) : kx G F B bc bs σ pc ls st := by
  intro p e R s m args below meth c H locs cells slots lsA hR hF hH hS hL hc hs
  have hu := hF.2.2.2.2.2.2.2.2.1
  obtain ⟨h0, h1, h2, h3, h4, h5, h6⟩ := lk
  have hT : GoodIn lw_all (va_wsSU F.1 idx y (ws_ y b L r)) := lw_app (by
    intro w hw
    simp only [List.mem_cons, List.not_mem_nil, or_false] at hw
    rcases hw with e | e | e | e | e
    · rw [e]; exact h1
    · rw [e]; exact h2
    · rw [e]; exact h3
    · rw [e]; exact h4
    · rw [e]; exact h5) (lw_meth h6)
  exact kx_run (vx_runSU ((kx_Kn hu).1 ci _ hci).2 (S := ⟨hF.1, hF.2.1, hF.2.2.1, hF.2.2.2.2.2.1, kx_ws hu⟩) hC (va_cwSU n (kx_ws hu) hT rfl rfl rfl h0 (kx_room hR hL9 hd)) ⟨kx_blind, kx_recv hu hH ⟨t, ci, fs, ho, Or.inl ⟨T, N, hci⟩⟩, kx_pre hu hH⟩ rfl hn hL.1 hst (by simpa using hw) hdg (kx_fit hR hc hs hmc hms)) hR hF hS hL hc hs hmc hms k9 kk
theorem kx_callSN (hdg : decode F.2.1 pc = .ok (.invokestatic idx, 3)) (lk : kx_lSN F.1 idx y b L r n) (hC : kx_c G y (ws_ y b L r) d mc ms As σ Q X) (hn : As.length = n) (hst : st = As.reverse ++ rest)
    (hw : (rest.map fun v => v.category).sum ≤ 8) (hL9 : L ≤ 45) (hd : d + 1 ≤ B.1) (hmc : mc ≤ bc) (hms : ms ≤ bs)
    (k9 : ∀ E q σ', X E q σ' → kx_t G F B (bc - mc) (bs - ms) σ' pc ls E q) (kk : ∀ v σ', Q v σ' → kx G F B (bc - mc) (bs - ms) σ' (pc + 3) ls (v.toList ++ rest)) : kx G F B bc bs σ pc ls st := by
  intro p e R s m args below meth c H locs cells slots lsA hR hF hH hS hL hc hs
  have hu := hF.2.2.2.2.2.2.2.2.1
  obtain ⟨h0, ⟨h, h1⟩, h2, h3, h4⟩ := lk
  exact kx_run (vx_runSN (S := ⟨hF.1, hF.2.1, hF.2.2.1, hF.2.2.2.2.2.1, kx_ws hu⟩) hC ⟨va_cnB n (kx_ws hu) (lw_meth h4) rfl rfl rfl (kx_nM hu h1) (kx_w hu h3) h0 (kx_room hR hL9 hd), kx_w hu h2, trivial⟩ ⟨kx_blind, kx_pre hu hH⟩ rfl hn hL.1 hst (by simpa using hw) hdg (kx_fit hR hc hs hmc hms)) hR hF hS hL hc hs hmc hms k9 kk
theorem kx_callVN (hdg : decode F.2.1 pc = .ok (.invokevirtual idx, 3)) (lk : kx_lVN F.1 idx y b L r n) (hC : kx_c G y (ws_ y b L r) d mc ms (.ref a :: As) σ Q X) (hn : As.length = n) (hrc : kx_rc σ a y.cls) (hst : st = As.reverse ++ .ref a :: rest)
    (hw : (rest.map fun v => v.category).sum ≤ 8) (hL9 : L ≤ 45) (hd : d + 1 ≤ B.1) (hmc : mc ≤ bc) (hms : ms ≤ bs)
    (k9 : ∀ E q σ', X E q σ' → kx_t G F B (bc - mc) (bs - ms) σ' pc ls E q) (kk : ∀ v σ', Q v σ' → kx G F B (bc - mc) (bs - ms) σ' (pc + 3) ls (v.toList ++ rest)) : kx G F B bc bs σ pc ls st := by
  intro p e R s m args below meth c H locs cells slots lsA hR hF hH hS hL hc hs
  have hu := hF.2.2.2.2.2.2.2.2.1
  obtain ⟨h0, ⟨h, h1⟩, h2, h6, h3, h4⟩ := lk
  exact kx_run (vx_runVN (S := ⟨hF.1, hF.2.1, hF.2.2.1, hF.2.2.2.2.2.1, kx_ws hu⟩) hC ⟨va_cnB n (kx_ws hu) (lw_meth h4) rfl rfl rfl (kx_nM hu h1) (kx_w hu h3) h0 (kx_room hR hL9 hd), kx_w hu h2, kx_w hu h6⟩ ⟨kx_blind, kx_recv hu hH hrc, kx_pre hu hH⟩ rfl hn hL.1 hst (by simpa using hw) hdg (kx_fit hR hc hs hmc hms)) hR hF hS hL hc hs hmc hms k9 kk
theorem kx_callF {cnt : Nat} (hdg : decode F.2.1 pc = .ok (.invokeinterface idx cnt, 5)) (lk : kx_lF F.1 idx C x y b L r n) (hC : kx_c G y (ws_ y b L r) d mc ms (.ref a :: As) σ Q X) (hn : As.length = n) {t ci : Nat} {fs : List Value} {T : u_T} {N : Nat} (ho : σ a = some (t, .inr (ci, fs))) (hci : kx_cl[ci]? = some (C, T, N)) (hst : st = As.reverse ++ .ref a :: rest)
    (hw : (rest.map fun v => v.category).sum ≤ 8) (hL9 : L ≤ 45) (hd : d + 1 ≤ B.1) (hmc : mc ≤ bc) (hms : ms ≤ bs)
    (k9 : ∀ E q σ', X E q σ' → kx_t G F B (bc - mc) (bs - ms) σ' pc ls E q) (kk : ∀ v σ', Q v σ' → kx G F B (bc - mc) (bs - ms) σ' (pc + 5) ls (v.toList ++ rest)) : kx G F B bc bs σ pc ls st := by
  intro p e R s m args below meth c H locs cells slots lsA hR hF hH hS hL hc hs
  have hu := hF.2.2.2.2.2.2.2.2.1
  obtain ⟨h0, h1, h2, h3, h4, h5, g1, g2, g3, g4, g5⟩ := lk
  have hT : GoodIn lw_all (va_wsF F.1 idx C x y (ws_ y b L r)) := lw_app (by
    intro w hw
    simp only [List.mem_cons, List.not_mem_nil, or_false] at hw
    rcases hw with e | e | e | e
    · rw [e]; exact h1
    · rw [e]; exact h2
    · rw [e]; exact h3
    · rw [e]; exact h4) (lw_meth h5)
  have hF9 : va_Fw C x y s := by
    obtain ⟨⟨-, ⟨A0, k1⟩, -⟩, k2⟩ := hu
    exact va_Fw.moved ⟨h0.1, h0.2.1⟩ k2.alike (va_Fw.of (k1 _ g1) (k1 _ g2) (k1 _ g3) (k1 _ g4) (k1 _ g5))
  exact kx_run5 (vx_runF ((kx_Kn hu).1 ci _ hci).2 (S := ⟨hF.1, hF.2.1, hF.2.2.1, hF.2.2.2.2.2.1, kx_ws hu⟩) hC (va_cwF n (kx_ws hu) hT rfl rfl rfl hF9 h0 (kx_room hR hL9 hd)) ⟨kx_blind, kx_recv hu hH ⟨t, ci, fs, ho, Or.inl ⟨T, N, hci⟩⟩, kx_pre hu hH⟩ rfl hn hL.1 hst (by simpa using hw) hdg (kx_fit hR hc hs hmc hms)) hR hF hS hL hc hs hmc hms k9 kk
end CALL
end KXC
section KXE
variable {G : KG} {F : KF} {B : KB} {bc bs : Nat} {σ : KHp} {pc : Nat} {ls : Nat → Option Value} {rest st : List Value}
theorem kx_iret {v : Int32} (hdg : decode F.2.1 pc = .ok (.ireturn, 1)) (hr : F.2.2.2.1 = some .int) (h : B.2.2.2.1 (some (.int v)) σ) : kx G F B bc bs σ pc ls [.int v] := by
  intro p e R s m args below meth c H locs cells slots lsA hR hF hH hS hL hc hs
  refine vx_ret (W.widen (k := B.2.1) (n := B.2.2.1) (by omega) (by omega) ?_)
  exact W.iret hF.1 hF.2.1 (hF.2.2.2.1.trans hr) (fun t ht hW => ⟨_, σ, rfl, by rw [ht]; exact hH, h⟩) hS hdg hF.2.2.2.2.1
theorem kx_zret {v : Int32} {ty : FieldType} (hdg : decode F.2.1 pc = .ok (.ireturn, 1)) (hr : F.2.2.2.1 = some ty) (hn : narrow ty (.int v) = .int v) (h : B.2.2.2.1 (some (.int v)) σ) : kx G F B bc bs σ pc ls [.int v] := by
  intro p e R s m args below meth c H locs cells slots lsA hR hF hH hS hL hc hs
  refine vx_ret (W.widen (k := B.2.1) (n := B.2.2.1) (by omega) (by omega) ?_)
  exact W.zret hF.1 hF.2.1 (hF.2.2.2.1.trans hr) hn (fun t ht hW => ⟨_, σ, rfl, by rw [ht]; exact hH, h⟩) hS hdg hF.2.2.2.2.1
theorem kx_lret {v : Int64} (hdg : decode F.2.1 pc = .ok (.lreturn, 1)) (hr : F.2.2.2.1 = some .long) (h : B.2.2.2.1 (some (.long v)) σ) : kx G F B bc bs σ pc ls [.long v] := by
  intro p e R s m args below meth c H locs cells slots lsA hR hF hH hS hL hc hs
  refine vx_ret (W.widen (k := B.2.1) (n := B.2.2.1) (by omega) (by omega) ?_)
  exact W.lret hF.1 hF.2.1 (hF.2.2.2.1.trans hr) (fun t ht hW => ⟨_, σ, rfl, by rw [ht]; exact hH, h⟩) hS hdg hF.2.2.2.2.1
theorem kx_fret {v : UInt32} (hdg : decode F.2.1 pc = .ok (.freturn, 1)) (hr : F.2.2.2.1 = some .float) (h : B.2.2.2.1 (some (.float v)) σ) : kx G F B bc bs σ pc ls [.float v] := by
  intro p e R s m args below meth c H locs cells slots lsA hR hF hH hS hL hc hs
  refine vx_ret (W.widen (k := B.2.1) (n := B.2.2.1) (by omega) (by omega) ?_)
  exact W.fret hF.1 hF.2.1 (hF.2.2.2.1.trans hr) (fun t ht hW => ⟨_, σ, rfl, by rw [ht]; exact hH, h⟩) hS hdg hF.2.2.2.2.1
theorem kx_aret {v : Value} {rt : FieldType} (hdg : decode F.2.1 pc = .ok (.areturn, 1)) (hr : F.2.2.2.1 = some rt) (hrt : (∃ n, rt = .object n) ∨ ∃ t, rt = .array t) (hv : v = .null ∨ ∃ a, v = .ref a) (h : B.2.2.2.1 (some v) σ) : kx G F B bc bs σ pc ls [v] := by
  intro p e R s m args below meth c H locs cells slots lsA hR hF hH hS hL hc hs
  refine vx_ret (W.widen (k := B.2.1) (n := B.2.2.1) (by omega) (by omega) ?_)
  exact W.aret hF.1 hF.2.1 (hF.2.2.2.1.trans hr) hrt hv (fun t ht hW => ⟨_, σ, rfl, by rw [ht]; exact hH, h⟩) hS hdg hF.2.2.2.2.1
theorem kx_vret (hdg : decode F.2.1 pc = .ok (.return_, 1)) (hr : F.2.2.2.1 = none) (h : B.2.2.2.1 none σ) : kx G F B bc bs σ pc ls [] := by
  intro p e R s m args below meth c H locs cells slots lsA hR hF hH hS hL hc hs
  refine vx_ret (W.widen (k := B.2.1) (n := B.2.2.1) (by omega) (by omega) ?_)
  exact W.vret hF.1 hF.2.1 (hF.2.2.2.1.trans hr) (fun t ht hW => ⟨_, σ, rfl, by rw [ht]; exact hH, h⟩) hS hdg hF.2.2.2.2.1
/-- Object.<init> -/
theorem kx_oinit {idx a : Nat} (hdg : decode F.2.1 pc = .ok (.invokespecial idx, 3)) (q1 : Cond.methodLink F.1 idx objectInit ∈ lw_all) (q2 : Cond.instanceMethod objectInit ∈ lw_all) (q3 : Cond.code objectInit ⟨#[0xb1]⟩ 1 none ∈ lw_all) (hw : (rest.map fun v => v.category).sum ≤ 8) (hd : 1 ≤ B.1)
    (kk : kx G F B bc bs σ (pc + 3) ls rest) : kx G F B bc bs σ pc ls (.ref a :: rest) := by
  intro p e R s m args below meth c H locs cells slots lsA hR hF hH hS hL hc hs
  have hu := hF.2.2.2.2.2.2.2.2.1
  refine W.objInit hF.1 hF.2.1 hF.2.2.2.2.2.1 (kx_w hu q1) (kx_w hu q2) (kx_w hu q3) rfl (by rw [hF.2.2.1]; exact hL.1) rfl hdg (by have := hR.1; omega) (by have := hR.2.1; simp only []; omega) ?_
  exact kk p e R s m args below meth c H locs cells slots lsA hR hF hH hS hL hc hs
/-- new -/
theorem kx_new {idx ci N : Nat} {C : String} {T : u_T} {ty : Nat → FieldType} (t : Nat) {fs : List Value} (hdg : decode F.2.1 pc = .ok (.new idx, 3)) (hci : kx_ci ci C T N ty) (q1 : Cond.classLink F.1 idx C ∈ lw_all) (q2 : Cond.instantiable C N ∈ lw_all) (q3 : Cond.initialized C ∈ lw_all) (hfs : (List.range N).map (fun j => defaultValue (ty j)) = fs) (hbc : 1 ≤ bc) (hbs : N ≤ bs)
    (kk : ∀ q, σ q = none → kx G F B (bc - 1) (bs - N) (kU σ q (t, .inr (ci, fs))) (pc + 3) ls (.ref q :: rest)) : kx G F B bc bs σ pc ls rest := by
  intro p e R s m args below meth c H locs cells slots lsA hR hF hH hS hL hc hs
  have hu := hF.2.2.2.2.2.2.2.2.1
  obtain ⟨h1, h2, h3, h4⟩ := hci
  have hKn := (kx_Kn hu).1 ci _ h1
  have hR' := hR
  obtain ⟨-, -, r1, r2⟩ := hR
  refine W.newcK hF.1 hF.2.1 hF.2.2.2.2.2.1 (kx_w hu q1) (kx_w hu q2) (kx_w hu q3) rfl hdg (by omega) (by omega) hKn.2.1 rfl fun H1 kC hkC e1 z1 o1 => ?_
  have hfs' : ∀ j, j < N → defaultValue (ty j) = vp_V fs j := fun j hj => by
    subst hfs
    simp [vp_V, hj]
  have hl : fs.length = N := by rw [← hfs]; simp
  exact kk H.size (kx_fresh hH) p e R s m args below meth c H1 locs (cells + 1) (slots + N) lsA hR' hF (kx_h_new hu.1 hH (Or.inl ⟨_, h1, hl, (u_born ty (kx_ws (args := args) hu) h2 hKn hkC e1 h3).to hfs'⟩) z1 o1) hS hL (by omega) (by omega)
/-- newarray -/
theorem kx_newa {atype : ArrayType} (t : Nat) {ty : FieldType} {n : Int32} {N : Nat} {x : (Nat → Int32) ⊕ (Nat → Int64) ⊕ (Nat → UInt32) ⊕ (Nat → UInt64) ⊕ (Nat → Option Nat)} (hdg : decode F.2.1 pc = .ok (.newarray atype, 2)) (hty : newarray.typeOf atype = ty) (q1 : Cond.arrayClass (newarray.typeOf atype) ∈ lw_all) (ha : ∀ cA : ClassId, vp_cell cA (N, x) = arrV cA N (fun _ => defaultValue ty)) (hN : n = nI N) (hbyt : N * componentBytes ty ≤ 536870912) (hbc : 1 ≤ bc) (hbs : N ≤ bs)
    (kk : ∀ q, σ q = none → kx G F B (bc - 1) (bs - N) (kU σ q (t, .inl (ty, N, x))) (pc + 2) ls (.ref q :: rest)) : kx G F B bc bs σ pc ls (.int n :: rest) := by
  intro p e R s m args below meth c H locs cells slots lsA hR hF hH hS hL hc hs
  have hu := hF.2.2.2.2.2.2.2.2.1
  have hR' := hR
  obtain ⟨-, -, r1, r2⟩ := hR
  subst hty
  have hb31 : N < 2 ^ 31 := by
    have : 1 ≤ componentBytes (newarray.typeOf atype) := by cases atype <;> decide
    have h9 : N * 1 ≤ N * componentBytes (newarray.typeOf atype) := Nat.mul_le_mul_left N this
    omega
  refine va_newaK hF.1 hF.2.1 (kx_w hu q1) rfl hdg rfl (by rw [hN]; exact nI_pos hb31) (by rw [hN]; exact nI_clamp hb31) hbyt (by omega) (by omega) rfl fun H1 cA e1 z1 o1 hAr hNm => ?_
  have hal := kx_al hu
  have hs0 : (kx_s G).vm.findClass ("[" ++ (newarray.typeOf atype).toString) = some cA := by rw [← hal.findClass]; exact hNm
  refine kk H.size (kx_fresh hH) p e R s m args below meth c H1 locs (cells + 1) (slots + N) lsA hR' hF (kx_h_new hu.1 hH ⟨cA, ?_, ?_, ?_⟩ z1 o1) hS hL (by omega) (by omega)
  · show H1[H.size]? = some (vp_cell cA (N, x))
    rw [ha]; exact e1
  · exact arrOfT_moved (Vm.Alike.symm hal) hAr
  · cases atype <;> exact hs0
theorem kx_newq {idx : Nat} {C : String} (t : Nat) {n : Int32} {N : Nat} (hdg : decode F.2.1 pc = .ok (.anewarray idx, 3)) (q1 : Cond.classLink F.1 idx C ∈ lw_all) (q2 : Cond.arrayOver (.object C) ∈ lw_tbl) (hN : n = nI N) (hbyt : N * 4 ≤ 536870912) (hbc : 1 ≤ bc) (hbs : N ≤ bs)
    (kk : ∀ q, σ q = none → kx G F B (bc - 1) (bs - N) (kU σ q (t, .inl (.object C, N, .inr (.inr (.inr (.inr (fun _ => none))))))) (pc + 3) ls (.ref q :: rest)) : kx G F B bc bs σ pc ls (.int n :: rest) := by
  intro p e R s m args below meth c H locs cells slots lsA hR hF hH hS hL hc hs
  have hu := hF.2.2.2.2.2.2.2.2.1
  have hR' := hR
  obtain ⟨-, -, r1, r2⟩ := hR
  have hAO : va_AO C s := by
    obtain ⟨⟨-, ⟨A0, k1⟩, -⟩, k2⟩ := hu
    exact va_AO.moved k2.alike (va_AO.of (k1 _ q2))
  subst hN
  have hal := kx_al hu
  refine W.anew hF.1 hF.2.1 hF.2.2.2.2.2.1 (kx_w hu q1) (va_AO.use hAO) rfl hdg rfl (nI_pos (by omega)) (by rw [nI_clamp (by omega)]; exact hbyt) (by omega) (by rw [nI_clamp (by omega)]; omega) fun cA kA comp g1 g2 g3 g4 => ?_
  rw [nI_clamp (by omega)]
  have hAr : ArrOfT s cA (.object C) := fun n z => ⟨fun k h => (by cases h), kA, g2, comp, g3⟩
  refine kk H.size (kx_fresh hH) p e R s m args below meth c _ locs (cells + 1) (slots + N) lsA hR' hF (kx_h_new hu.1 hH ⟨cA, ?_, arrOfT_moved (Vm.Alike.symm hal) hAr, va_RA.moved (ty := .object C) (Vm.Alike.symm hal) ⟨kA, comp, g2, g3, g4, g1⟩⟩ (by simp) (fun q hq => by rw [Array.getElem?_push, if_neg (Nat.ne_of_lt hq)])) hS hL (by omega) (by omega)
  rw [vp_cell_q]
  have : arrV cA N (fun _ => va_rf none) = { cls := cA, slots := Array.replicate N .null, vm := .none } := (arrV_new cA N .null).symm
  rw [this]
  simp
/-- the constants of the class file -/
theorem kx_ldci {idx : Nat} {v : Int32} (hdg : decode F.2.1 pc = .ok (.ldc idx, 2)) (q1 : Cond.constant F.1 idx v ∈ lw_all) (kk : kx G F B bc bs σ (pc + 2) ls (.int v :: rest)) : kx G F B bc bs σ pc ls rest := by
  intro p e R s m args below meth c H locs cells slots lsA hR hF hH hS hL hc hs
  exact lv_ldc hF.1 hF.2.1 hF.2.2.2.2.2.1 (kx_w hF.2.2.2.2.2.2.2.2.1 q1) hdg (kk p e R s m args below meth c H locs cells slots lsA hR hF hH hS hL hc hs)
theorem kx_ldcwi {idx : Nat} {v : Int32} (hdg : decode F.2.1 pc = .ok (.ldc_w idx, 3)) (q1 : Cond.constant F.1 idx v ∈ lw_all) (kk : kx G F B bc bs σ (pc + 3) ls (.int v :: rest)) : kx G F B bc bs σ pc ls rest := by
  intro p e R s m args below meth c H locs cells slots lsA hR hF hH hS hL hc hs
  exact lv_ldcw hF.1 hF.2.1 hF.2.2.2.2.2.1 (kx_w hF.2.2.2.2.2.2.2.2.1 q1) hdg (kk p e R s m args below meth c H locs cells slots lsA hR hF hH hS hL hc hs)
theorem kx_ldc2 {idx : Nat} {v : Int64} (hdg : decode F.2.1 pc = .ok (.ldc2_w idx, 3)) (q1 : Cond.constantLong F.1 idx v ∈ lw_all) (kk : kx G F B bc bs σ (pc + 3) ls (.long v :: rest)) : kx G F B bc bs σ pc ls rest := by
  intro p e R s m args below meth c H locs cells slots lsA hR hF hH hS hL hc hs
  exact lv_ldc2 hF.1 hF.2.1 hF.2.2.2.2.2.1 (kx_w hF.2.2.2.2.2.2.2.2.1 q1) hdg (kk p e R s m args below meth c H locs cells slots lsA hR hF hH hS hL hc hs)
theorem kx_ldcf {idx : Nat} {v : UInt32} (hdg : decode F.2.1 pc = .ok (.ldc idx, 2)) (q1 : Cond.constantFloat F.1 idx v ∈ lw_all) (kk : kx G F B bc bs σ (pc + 2) ls (.float v :: rest)) : kx G F B bc bs σ pc ls rest := by
  intro p e R s m args below meth c H locs cells slots lsA hR hF hH hS hL hc hs
  exact lv_ldcf hF.1 hF.2.1 hF.2.2.2.2.2.1 (kx_w hF.2.2.2.2.2.2.2.2.1 q1) hdg (kk p e R s m args below meth c H locs cells slots lsA hR hF hH hS hL hc hs)
/-- lcmp -/
theorem kx_iinc {i : Nat} {n : Int} {x : Int32} (hdg : decode F.2.1 pc = .ok (.iinc i n, 3)) (hl : ls i = some (.int x)) (kk : kx G F B bc bs σ (pc + 3) (kL ls i (.int (x + Int32.ofInt n))) rest) : kx G F B bc bs σ pc ls rest := by
  intro p e R s m args below meth c H locs cells slots lsA hR hF hH hS hL hc hs
  obtain ⟨k, hk⟩ := List.getElem?_of_mem (kx_L_mem (q := (i, .int x)) (nL := F.2.2.1) |>.mpr ⟨kx_lt hL hl, hl⟩)
  exact lv_iinc hF.1 hF.2.1 hdg (kx_lh hL) hk rfl (kx_lt hL hl) rfl (fun ls' h' => kk p e R s m args below meth c H locs cells slots ls' hR hF hH hS (kx_st1 hL rfl h') hc hs)
/-- what is thrown and not caught here -/
theorem kx_out {E : String} {q : Addr} (hh : F.2.2.2.2.2 = []) (h : B.2.2.2.2 E q σ) : kx_t G F B bc bs σ pc ls E q := by
  intro p e R s m args below meth c H locs cells slots lsA rest ce hR hF hH hS hL hc hs h1 h2 h3
  have htb : c.exceptionTable.toList = [] := by rw [hF.2.2.2.2.2.2.2.1, hh]; rfl
  exact vx_out (fun x hx => by rw [htb] at hx; cases hx) hF.2.2.2.2.1 h1 h2 h3 (fun t ht hW => ⟨σ, by rw [ht]; exact hH, h⟩) hS (by omega) (by omega)
theorem kx_athrow {q t ci : Nat} {fs : List Value} {C : String} {T : u_T} {N : Nat} (hdg : decode F.2.1 pc = .ok (.athrow, 1)) (ho : σ q = some (t, .inr (ci, fs))) (hci : kx_cl[ci]? = some (C, T, N)) (kk : kx_t G F B bc bs σ pc ls C q) : kx G F B bc bs σ pc ls (.ref q :: rest) := by
  intro p e R s m args below meth c H locs cells slots lsA hR hF hH hS hL hc hs
  have hu := hF.2.2.2.2.2.2.2.2.1
  obtain ⟨r, h8, cell, q1, q2, q3, q4⟩ := (kx_o hH ho hci).1
  cases h8.symm.trans hci
  exact vx_athrow hF.1 hF.2.1 hdg (kk p e R s m args below meth c H locs cells slots lsA rest cell hR hF hH hS hL hc hs q1 q3 (by rw [q2]; exact ((kx_Kn hu).1 ci _ hci).2.1))
end KXE
