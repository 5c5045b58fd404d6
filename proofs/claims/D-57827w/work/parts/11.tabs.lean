/-! THE OWN LAYER, 2: classes, tags, fields (printed by tools/gen_core.py) -/
set_option maxRecDepth 100000
def zT0 : u_T := fun _ => ("", "", "", false)
def zCl : List vw_C := [(RX1, TX1, 8), (RX2, TX2, 13), (RX3, TX3, 9), (RX4, TX4, 10), (RX5, TX5, 28), (RX6, TX6, 7), (RX7, TX7, 8), (RX8, TX8, 9), (RX9, TX9, 2), (RJ2, TJ2, 3), (RJ33, TJ33, 4), (RJ31, TJ31, 3), (RJ20, TJ20, 1), (RJ22, TJ22, 8), (RJ23, TJ23, 12), (RJ36, TJ36, 4), (RJ37, TJ37, 6), (RJ49, TJ49, 1), (RJ41, TJ41, 5), (RJ47, TJ47, 2), (RJ45, TJ45, 5), (RJ8, TJ8, 4), (RJ9, TJ9, 4), (RJ17, TJ17, 1), (RJ29, zT0, 0), (RJ6, zT0, 0), (RJ51, zT0, 0)]
/-- a field by its code: owner, name, descriptor, final -/
def zfT : List (String × String × String × Bool) := [("EchoFair", "state", "LEchoFair$State;", false), ("EchoFair", "savedState", "LEchoFair$State;", false), ("EchoFair", "history", "Ljava/util/ArrayDeque;", true), ("EchoFair", "buffer", "[B", true), ("EchoFair", "bufferLength", "I", false), ("EchoFair", "errorCode", "I", false), ("EchoFair", "errorPosition", "I", false), ("EchoFair", "output", "Ljava/lang/StringBuilder;", true), ("EchoFair$State", "season", "I", true), ("EchoFair$State", "fogs", "[I", true), ("EchoFair$State", "echoes", "Ljava/util/List;", true), ("EchoFair$State", "valleys", "Ljava/util/List;", true), ("EchoFair$State", "deserted", "Ljava/util/LinkedHashSet;", true), ("EchoFair$State", "served", "Ljava/util/HashMap;", true), ("EchoFair$State", "day", "I", false), ("EchoFair$State", "start", "I", false), ("EchoFair$State", "earned", "I", false), ("EchoFair$State", "funds", "I", false), ("EchoFair$State", "trained", "I", false), ("EchoFair$State", "made", "I", false), ("EchoFair$State", "ended", "I", false), ("EchoFair$Echo", "name", "Ljava/lang/String;", true), ("EchoFair$Echo", "delay", "I", true), ("EchoFair$Echo", "reserve", "I", true), ("EchoFair$Echo", "resistance", "I", true), ("EchoFair$Echo", "repeats", "I", false), ("EchoFair$Echo", "savings", "I", false), ("EchoFair$Echo", "unpaid", "I", false), ("EchoFair$Echo", "employer", "I", false), ("EchoFair$Echo", "desertions", "I", false), ("EchoFair$Valley", "name", "Ljava/lang/String;", true), ("EchoFair$Valley", "width", "I", true), ("EchoFair$Valley", "posts", "I", true), ("EchoFair$Valley", "tested", "[Z", true), ("EchoFair$Valley", "staff", "[I", true), ("EchoFair$Valley", "wage", "I", false), ("EchoFair$Valley", "purse", "I", false), ("EchoFair$Valley", "staffCount", "I", false), ("EchoFair$Valley", "replies", "I", false), ("EchoFair$Valley", "paid", "I", false), ("EchoFairModel", "s", "[I", true), ("EchoFairModel", "saved", "[I", true), ("EchoFairModel", "held", "[I", true), ("EchoFairModel", "aside", "[I", true), ("EchoFairModel", "past", "[I", true), ("EchoFairModel", "pastMany", "I", false), ("EchoFairModel", "thrown", "I", false), ("EchoFairModel", "isSaved", "Z", false), ("EchoFairModel", "queue", "[I", true), ("EchoFairModel", "kept", "[I", true), ("EchoFairModel", "keptMany", "[I", true), ("EchoFairModel", "hasApplied", "[Z", true), ("EchoFairModel", "queueFrom", "I", false), ("EchoFairModel", "queueMany", "I", false), ("EchoFairModel", "answer", "I", false), ("EchoFairModel", "buffer", "[I", true), ("EchoFairModel", "length", "I", false), ("EchoFairModel", "at", "I", false), ("EchoFairModel", "begin", "I", false), ("EchoFairModel", "wordLong", "I", false), ("EchoFairModel", "error", "I", false), ("EchoFairModel", "errorAt", "I", false), ("EchoFairModel", "toldError", "I", false), ("EchoFairModel", "toldAt", "I", false), ("EchoFairModel", "told", "[I", true), ("EchoFairModel", "toldMany", "I", false), ("EchoFairModel", "output", "[I", true), ("EchoFairModel", "outputLong", "I", false), ("EchoFair$Parser", "end", "I", true), ("EchoFair$Parser", "position", "I", false), ("EchoFair$Parser", "start", "I", false), ("EchoFair$Parser", "value", "I", false), ("EchoFair$Parser", "word", "Ljava/lang/String;", false), ("EchoFair$Parser", "kind", "LEchoFair$TokenKind;", false), ("EchoFair$Parser", "this$0", "LEchoFair;", true), ("java/lang/Throwable", "cause", "Ljava/lang/Throwable;", false), ("java/lang/Throwable", "stackTrace", "[Ljava/lang/StackTraceElement;", false), ("java/lang/Throwable", "suppressedExceptions", "Ljava/util/List;", false), ("java/lang/Throwable", "detailMessage", "Ljava/lang/String;", false), ("java/lang/Throwable", "backtrace", "Ljava/lang/Object;", false), ("java/lang/Throwable", "depth", "I", false), ("EchoFair$ParseError", "code", "I", true), ("EchoFair$ParseError", "position", "I", true), ("EchoFair$Matching", "state", "LEchoFair$State;", true), ("EchoFair$Matching", "echoes", "I", true), ("EchoFair$Matching", "valleys", "I", true), ("EchoFair$Matching", "scores", "[I", true), ("EchoFair$Matching", "wages", "[I", true), ("EchoFair$Matching", "kept", "[I", true), ("EchoFair$Matching", "keptCount", "[I", true), ("EchoFair$Matching", "barred", "[Z", true), ("EchoFair$Matching", "closed", "[Z", true), ("EchoFair$Pair", "valley", "I", true), ("EchoFair$Pair", "echo", "I", true), ("java/util/AbstractList", "modCount", "I", false), ("java/util/ArrayList", "elementData", "[Ljava/lang/Object;", false), ("java/util/ArrayList", "size", "I", false), ("java/util/ArrayList$Itr", "cursor", "I", false), ("java/util/ArrayList$Itr", "lastRet", "I", false), ("java/util/ArrayList$Itr", "expectedModCount", "I", false), ("java/util/ArrayList$Itr", "this$0", "Ljava/util/ArrayList;", true), ("java/util/ArrayDeque", "elements", "[Ljava/lang/Object;", false), ("java/util/ArrayDeque", "head", "I", false), ("java/util/ArrayDeque", "tail", "I", false), ("java/util/HashSet", "map", "Ljava/util/HashMap;", false), ("java/util/AbstractMap", "keySet", "Ljava/util/Set;", false), ("java/util/AbstractMap", "values", "Ljava/util/Collection;", false), ("java/util/HashMap", "table", "[Ljava/util/HashMap$Node;", false), ("java/util/HashMap", "entrySet", "Ljava/util/Set;", false), ("java/util/HashMap", "size", "I", false), ("java/util/HashMap", "modCount", "I", false), ("java/util/HashMap", "threshold", "I", false), ("java/util/HashMap", "loadFactor", "F", true), ("java/util/LinkedHashMap", "head", "Ljava/util/LinkedHashMap$Entry;", false), ("java/util/LinkedHashMap", "tail", "Ljava/util/LinkedHashMap$Entry;", false), ("java/util/LinkedHashMap", "accessOrder", "Z", true), ("java/util/LinkedHashMap", "putMode", "I", false), ("java/util/HashMap$Node", "hash", "I", true), ("java/util/HashMap$Node", "key", "Ljava/lang/Object;", true), ("java/util/HashMap$Node", "value", "Ljava/lang/Object;", false), ("java/util/HashMap$Node", "next", "Ljava/util/HashMap$Node;", false), ("java/util/LinkedHashMap$Entry", "before", "Ljava/util/LinkedHashMap$Entry;", false), ("java/util/LinkedHashMap$Entry", "after", "Ljava/util/LinkedHashMap$Entry;", false), ("java/util/HashMap$EntrySet", "this$0", "Ljava/util/HashMap;", true), ("java/util/HashMap$HashIterator", "next", "Ljava/util/HashMap$Node;", false), ("java/util/HashMap$HashIterator", "current", "Ljava/util/HashMap$Node;", false), ("java/util/HashMap$HashIterator", "expectedModCount", "I", false), ("java/util/HashMap$HashIterator", "index", "I", false), ("java/util/HashMap$HashIterator", "this$0", "Ljava/util/HashMap;", true), ("java/util/LinkedHashMap$LinkedKeySet", "reversed", "Z", true), ("java/util/LinkedHashMap$LinkedKeySet", "this$0", "Ljava/util/LinkedHashMap;", true), ("java/util/LinkedHashMap$LinkedHashIterator", "next", "Ljava/util/LinkedHashMap$Entry;", false), ("java/util/LinkedHashMap$LinkedHashIterator", "current", "Ljava/util/LinkedHashMap$Entry;", false), ("java/util/LinkedHashMap$LinkedHashIterator", "expectedModCount", "I", false), ("java/util/LinkedHashMap$LinkedHashIterator", "reversed", "Z", false), ("java/util/LinkedHashMap$LinkedHashIterator", "this$0", "Ljava/util/LinkedHashMap;", true), ("java/lang/AbstractStringBuilder", "value", "[B", false), ("java/lang/AbstractStringBuilder", "coder", "B", false), ("java/lang/AbstractStringBuilder", "maybeLatin1", "Z", false), ("java/lang/AbstractStringBuilder", "count", "I", false), ("java/lang/String", "value", "[B", true), ("java/lang/String", "coder", "B", true), ("java/lang/String", "hash", "I", false), ("java/lang/String", "hashIsZero", "Z", false), ("java/lang/Integer", "value", "I", true)]
def zft (f : Nat) : String × String × String × Bool := zfT.getD f ("", "", "", false)
/-- kinds of fields: 0 a whole number, 1 a reference, 2 a float -/
def zfK : List Nat := [1, 1, 1, 1, 0, 0, 0, 1, 0, 1, 1, 1, 1, 1, 0, 0, 0, 0, 0, 0, 0, 1, 0, 0, 0, 0, 0, 0, 0, 0, 1, 0, 0, 1, 1, 0, 0, 0, 0, 0, 1, 1, 1, 1, 1, 0, 0, 0, 1, 1, 1, 1, 0, 0, 0, 1, 0, 0, 0, 0, 0, 0, 0, 0, 1, 0, 1, 0, 0, 0, 0, 0, 1, 1, 1, 1, 1, 1, 1, 1, 0, 0, 0, 1, 0, 0, 1, 1, 1, 1, 1, 1, 0, 0, 0, 1, 0, 0, 0, 0, 1, 1, 0, 0, 1, 1, 1, 1, 1, 0, 0, 0, 2, 1, 1, 0, 0, 0, 1, 1, 1, 1, 1, 1, 1, 1, 0, 0, 1, 0, 1, 1, 1, 0, 0, 1, 1, 0, 0, 0, 1, 0, 0, 0, 0]
def zfk (f : Nat) : Nat := zfK.getD f 0
def zfY : List FieldType := [.object "EchoFair$State", .object "EchoFair$State", .object "java/util/ArrayDeque", .array (.byte), .int, .int, .int, .object "java/lang/StringBuilder", .int, .array (.int), .object "java/util/List", .object "java/util/List", .object "java/util/LinkedHashSet", .object "java/util/HashMap", .int, .int, .int, .int, .int, .int, .int, .object "java/lang/String", .int, .int, .int, .int, .int, .int, .int, .int, .object "java/lang/String", .int, .int, .array (.boolean), .array (.int), .int, .int, .int, .int, .int, .array (.int), .array (.int), .array (.int), .array (.int), .array (.int), .int, .int, .boolean, .array (.int), .array (.int), .array (.int), .array (.boolean), .int, .int, .int, .array (.int), .int, .int, .int, .int, .int, .int, .int, .int, .array (.int), .int, .array (.int), .int, .int, .int, .int, .int, .object "java/lang/String", .object "EchoFair$TokenKind", .object "EchoFair", .object "java/lang/Throwable", .array (.object "java/lang/StackTraceElement"), .object "java/util/List", .object "java/lang/String", .object "java/lang/Object", .int, .int, .int, .object "EchoFair$State", .int, .int, .array (.int), .array (.int), .array (.int), .array (.int), .array (.boolean), .array (.boolean), .int, .int, .int, .array (.object "java/lang/Object"), .int, .int, .int, .int, .object "java/util/ArrayList", .array (.object "java/lang/Object"), .int, .int, .object "java/util/HashMap", .object "java/util/Set", .object "java/util/Collection", .array (.object "java/util/HashMap$Node"), .object "java/util/Set", .int, .int, .int, .float, .object "java/util/LinkedHashMap$Entry", .object "java/util/LinkedHashMap$Entry", .boolean, .int, .int, .object "java/lang/Object", .object "java/lang/Object", .object "java/util/HashMap$Node", .object "java/util/LinkedHashMap$Entry", .object "java/util/LinkedHashMap$Entry", .object "java/util/HashMap", .object "java/util/HashMap$Node", .object "java/util/HashMap$Node", .int, .int, .object "java/util/HashMap", .boolean, .object "java/util/LinkedHashMap", .object "java/util/LinkedHashMap$Entry", .object "java/util/LinkedHashMap$Entry", .int, .boolean, .object "java/util/LinkedHashMap", .array (.byte), .byte, .boolean, .int, .array (.byte), .byte, .int, .boolean, .int]
def zfy (f : Nat) : FieldType := zfY.getD f .int
/-- the fields of the classes, by their places -/
def zfC : List (List Nat) := [[0, 1, 2, 3, 4, 5, 6, 7], [8, 9, 10, 11, 12, 13, 14, 15, 16, 17, 18, 19, 20], [21, 22, 23, 24, 25, 26, 27, 28, 29], [30, 31, 32, 33, 34, 35, 36, 37, 38, 39], [40, 41, 42, 43, 44, 45, 46, 47, 48, 49, 50, 51, 52, 53, 54, 55, 56, 57, 58, 59, 60, 61, 62, 63, 64, 65, 66, 67], [68, 69, 70, 71, 72, 73, 74], [75, 76, 77, 78, 79, 80, 81, 82], [83, 84, 85, 86, 87, 88, 89, 90, 91], [92, 93], [94, 95, 96], [97, 98, 99, 100], [101, 102, 103], [104], [105, 106, 107, 108, 109, 110, 111, 112], [105, 106, 107, 108, 109, 110, 111, 112, 113, 114, 115, 116], [117, 118, 119, 120], [117, 118, 119, 120, 121, 122], [123], [124, 125, 126, 127, 128], [129, 130], [131, 132, 133, 134, 135], [136, 137, 138, 139], [140, 141, 142, 143], [144], [], [], []]
def zfc (ci k : Nat) : Nat := (zfC.getD ci []).getD k 0
/-- the class of a tag -/
def zci (t : Nat) : Option Nat := match t with
  | 0 => none
  | 123 => some 22
  | 124 => some 23
  | t + 1 => if t < 27 then some t else none
/-- the element type of an array's tag -/
def zel (t : Nat) : Option FieldType := match t with
  | 200 => some .int
  | 201 => some .boolean
  | 202 => some .byte
  | 203 => some .long
  | 204 => some (.object "java/lang/Object")
  | 205 => some (.object "java/util/HashMap$Node")
  | 206 => some (.object "EchoFair$Operation")
  | 207 => some (.object "java/lang/Integer")
  | 208 => some .byte
  | 209 => some .int
  | _ => none
/-- the tags of cells that the run makes itself -/
def zdyn (t : Nat) : Bool := decide ((1 ≤ t ∧ t < 100) ∨ (200 ≤ t ∧ t < 207))
/-- the field f lies in a cell of tag t, at place k of class ci -/
def zhas (t f : Nat) : Bool := match zci t with
  | some ci => (zfC.getD ci []).contains f
  | none => false
theorem zfC_len : ∀ (ci : Nat) (r : vw_C), zCl[ci]? = some r → (zfC.getD ci []).length = r.2.2 := by
  intro ci r h
  have hl : ci < 27 := (List.getElem?_eq_some_iff.mp h).1
  match ci, hl, h with
  | 0, _, h => cases h; rfl
  | 1, _, h => cases h; rfl
  | 2, _, h => cases h; rfl
  | 3, _, h => cases h; rfl
  | 4, _, h => cases h; rfl
  | 5, _, h => cases h; rfl
  | 6, _, h => cases h; rfl
  | 7, _, h => cases h; rfl
  | 8, _, h => cases h; rfl
  | 9, _, h => cases h; rfl
  | 10, _, h => cases h; rfl
  | 11, _, h => cases h; rfl
  | 12, _, h => cases h; rfl
  | 13, _, h => cases h; rfl
  | 14, _, h => cases h; rfl
  | 15, _, h => cases h; rfl
  | 16, _, h => cases h; rfl
  | 17, _, h => cases h; rfl
  | 18, _, h => cases h; rfl
  | 19, _, h => cases h; rfl
  | 20, _, h => cases h; rfl
  | 21, _, h => cases h; rfl
  | 22, _, h => cases h; rfl
  | 23, _, h => cases h; rfl
  | 24, _, h => cases h; rfl
  | 25, _, h => cases h; rfl
  | 26, _, h => cases h; rfl
theorem zfc_T : ∀ (ci : Nat) (r : vw_C), zCl[ci]? = some r → ∀ k, k < r.2.2 → r.2.1 k = zft (zfc ci k) := by
  intro ci r h
  have hl : ci < 27 := (List.getElem?_eq_some_iff.mp h).1
  match ci, hl, h with
  | 0, _, h => cases h; exact (by decide +kernel : ∀ k, k < 8 → TX1 k = zft (zfc 0 k))
  | 1, _, h => cases h; exact (by decide +kernel : ∀ k, k < 13 → TX2 k = zft (zfc 1 k))
  | 2, _, h => cases h; exact (by decide +kernel : ∀ k, k < 9 → TX3 k = zft (zfc 2 k))
  | 3, _, h => cases h; exact (by decide +kernel : ∀ k, k < 10 → TX4 k = zft (zfc 3 k))
  | 4, _, h => cases h; exact (by decide +kernel : ∀ k, k < 28 → TX5 k = zft (zfc 4 k))
  | 5, _, h => cases h; exact (by decide +kernel : ∀ k, k < 7 → TX6 k = zft (zfc 5 k))
  | 6, _, h => cases h; exact (by decide +kernel : ∀ k, k < 8 → TX7 k = zft (zfc 6 k))
  | 7, _, h => cases h; exact (by decide +kernel : ∀ k, k < 9 → TX8 k = zft (zfc 7 k))
  | 8, _, h => cases h; exact (by decide +kernel : ∀ k, k < 2 → TX9 k = zft (zfc 8 k))
  | 9, _, h => cases h; exact (by decide +kernel : ∀ k, k < 3 → TJ2 k = zft (zfc 9 k))
  | 10, _, h => cases h; exact (by decide +kernel : ∀ k, k < 4 → TJ33 k = zft (zfc 10 k))
  | 11, _, h => cases h; exact (by decide +kernel : ∀ k, k < 3 → TJ31 k = zft (zfc 11 k))
  | 12, _, h => cases h; exact (by decide +kernel : ∀ k, k < 1 → TJ20 k = zft (zfc 12 k))
  | 13, _, h => cases h; exact (by decide +kernel : ∀ k, k < 8 → TJ22 k = zft (zfc 13 k))
  | 14, _, h => cases h; exact (by decide +kernel : ∀ k, k < 12 → TJ23 k = zft (zfc 14 k))
  | 15, _, h => cases h; exact (by decide +kernel : ∀ k, k < 4 → TJ36 k = zft (zfc 15 k))
  | 16, _, h => cases h; exact (by decide +kernel : ∀ k, k < 6 → TJ37 k = zft (zfc 16 k))
  | 17, _, h => cases h; exact (by decide +kernel : ∀ k, k < 1 → TJ49 k = zft (zfc 17 k))
  | 18, _, h => cases h; exact (by decide +kernel : ∀ k, k < 5 → TJ41 k = zft (zfc 18 k))
  | 19, _, h => cases h; exact (by decide +kernel : ∀ k, k < 2 → TJ47 k = zft (zfc 19 k))
  | 20, _, h => cases h; exact (by decide +kernel : ∀ k, k < 5 → TJ45 k = zft (zfc 20 k))
  | 21, _, h => cases h; exact (by decide +kernel : ∀ k, k < 4 → TJ8 k = zft (zfc 21 k))
  | 22, _, h => cases h; exact (by decide +kernel : ∀ k, k < 4 → TJ9 k = zft (zfc 22 k))
  | 23, _, h => cases h; exact (by decide +kernel : ∀ k, k < 1 → TJ17 k = zft (zfc 23 k))
  | 24, _, h => cases h; exact fun k hk => absurd hk (Nat.not_lt_zero k)
  | 25, _, h => cases h; exact fun k hk => absurd hk (Nat.not_lt_zero k)
  | 26, _, h => cases h; exact fun k hk => absurd hk (Nat.not_lt_zero k)
theorem zfc_ty : ∀ (ci : Nat) (r : vw_C), zCl[ci]? = some r → ∀ k, k < r.2.2 → parseFieldDescriptor (r.2.1 k).2.2.1 = some (zfy (zfc ci k)) := by
  intro ci r h
  have hl : ci < 27 := (List.getElem?_eq_some_iff.mp h).1
  match ci, hl, h with
  | 0, _, h => cases h; exact (by decide +kernel : ∀ k, k < 8 → parseFieldDescriptor (TX1 k).2.2.1 = some (zfy (zfc 0 k)))
  | 1, _, h => cases h; exact (by decide +kernel : ∀ k, k < 13 → parseFieldDescriptor (TX2 k).2.2.1 = some (zfy (zfc 1 k)))
  | 2, _, h => cases h; exact (by decide +kernel : ∀ k, k < 9 → parseFieldDescriptor (TX3 k).2.2.1 = some (zfy (zfc 2 k)))
  | 3, _, h => cases h; exact (by decide +kernel : ∀ k, k < 10 → parseFieldDescriptor (TX4 k).2.2.1 = some (zfy (zfc 3 k)))
  | 4, _, h => cases h; exact (by decide +kernel : ∀ k, k < 28 → parseFieldDescriptor (TX5 k).2.2.1 = some (zfy (zfc 4 k)))
  | 5, _, h => cases h; exact (by decide +kernel : ∀ k, k < 7 → parseFieldDescriptor (TX6 k).2.2.1 = some (zfy (zfc 5 k)))
  | 6, _, h => cases h; exact (by decide +kernel : ∀ k, k < 8 → parseFieldDescriptor (TX7 k).2.2.1 = some (zfy (zfc 6 k)))
  | 7, _, h => cases h; exact (by decide +kernel : ∀ k, k < 9 → parseFieldDescriptor (TX8 k).2.2.1 = some (zfy (zfc 7 k)))
  | 8, _, h => cases h; exact (by decide +kernel : ∀ k, k < 2 → parseFieldDescriptor (TX9 k).2.2.1 = some (zfy (zfc 8 k)))
  | 9, _, h => cases h; exact (by decide +kernel : ∀ k, k < 3 → parseFieldDescriptor (TJ2 k).2.2.1 = some (zfy (zfc 9 k)))
  | 10, _, h => cases h; exact (by decide +kernel : ∀ k, k < 4 → parseFieldDescriptor (TJ33 k).2.2.1 = some (zfy (zfc 10 k)))
  | 11, _, h => cases h; exact (by decide +kernel : ∀ k, k < 3 → parseFieldDescriptor (TJ31 k).2.2.1 = some (zfy (zfc 11 k)))
  | 12, _, h => cases h; exact (by decide +kernel : ∀ k, k < 1 → parseFieldDescriptor (TJ20 k).2.2.1 = some (zfy (zfc 12 k)))
  | 13, _, h => cases h; exact (by decide +kernel : ∀ k, k < 8 → parseFieldDescriptor (TJ22 k).2.2.1 = some (zfy (zfc 13 k)))
  | 14, _, h => cases h; exact (by decide +kernel : ∀ k, k < 12 → parseFieldDescriptor (TJ23 k).2.2.1 = some (zfy (zfc 14 k)))
  | 15, _, h => cases h; exact (by decide +kernel : ∀ k, k < 4 → parseFieldDescriptor (TJ36 k).2.2.1 = some (zfy (zfc 15 k)))
  | 16, _, h => cases h; exact (by decide +kernel : ∀ k, k < 6 → parseFieldDescriptor (TJ37 k).2.2.1 = some (zfy (zfc 16 k)))
  | 17, _, h => cases h; exact (by decide +kernel : ∀ k, k < 1 → parseFieldDescriptor (TJ49 k).2.2.1 = some (zfy (zfc 17 k)))
  | 18, _, h => cases h; exact (by decide +kernel : ∀ k, k < 5 → parseFieldDescriptor (TJ41 k).2.2.1 = some (zfy (zfc 18 k)))
  | 19, _, h => cases h; exact (by decide +kernel : ∀ k, k < 2 → parseFieldDescriptor (TJ47 k).2.2.1 = some (zfy (zfc 19 k)))
  | 20, _, h => cases h; exact (by decide +kernel : ∀ k, k < 5 → parseFieldDescriptor (TJ45 k).2.2.1 = some (zfy (zfc 20 k)))
  | 21, _, h => cases h; exact (by decide +kernel : ∀ k, k < 4 → parseFieldDescriptor (TJ8 k).2.2.1 = some (zfy (zfc 21 k)))
  | 22, _, h => cases h; exact (by decide +kernel : ∀ k, k < 4 → parseFieldDescriptor (TJ9 k).2.2.1 = some (zfy (zfc 22 k)))
  | 23, _, h => cases h; exact (by decide +kernel : ∀ k, k < 1 → parseFieldDescriptor (TJ17 k).2.2.1 = some (zfy (zfc 23 k)))
  | 24, _, h => cases h; exact fun k hk => absurd hk (Nat.not_lt_zero k)
  | 25, _, h => cases h; exact fun k hk => absurd hk (Nat.not_lt_zero k)
  | 26, _, h => cases h; exact fun k hk => absurd hk (Nat.not_lt_zero k)
theorem zCl_nm : ∀ (ci : Nat) (r : vw_C), zCl[ci]? = some r → ∀ a, a < r.2.2 → ∀ b, b < r.2.2 → a ≠ b → (r.2.1 a).2.1 ≠ (r.2.1 b).2.1 := by
  intro ci r h
  have hl : ci < 27 := (List.getElem?_eq_some_iff.mp h).1
  match ci, hl, h with
  | 0, _, h => cases h; exact nmX1
  | 1, _, h => cases h; exact nmX2
  | 2, _, h => cases h; exact nmX3
  | 3, _, h => cases h; exact nmX4
  | 4, _, h => cases h; exact nmX5
  | 5, _, h => cases h; exact nmX6
  | 6, _, h => cases h; exact nmX7
  | 7, _, h => cases h; exact nmX8
  | 8, _, h => cases h; exact nmX9
  | 9, _, h => cases h; exact nmJ2
  | 10, _, h => cases h; exact nmJ33
  | 11, _, h => cases h; exact nmJ31
  | 12, _, h => cases h; exact nmJ20
  | 13, _, h => cases h; exact nmJ22
  | 14, _, h => cases h; exact nmJ23
  | 15, _, h => cases h; exact nmJ36
  | 16, _, h => cases h; exact nmJ37
  | 17, _, h => cases h; exact nmJ49
  | 18, _, h => cases h; exact nmJ41
  | 19, _, h => cases h; exact nmJ47
  | 20, _, h => cases h; exact nmJ45
  | 21, _, h => cases h; exact nmJ8
  | 22, _, h => cases h; exact nmJ9
  | 23, _, h => cases h; exact nmJ17
  | 24, _, h => cases h; exact fun k hk => absurd hk (Nat.not_lt_zero k)
  | 25, _, h => cases h; exact fun k hk => absurd hk (Nat.not_lt_zero k)
  | 26, _, h => cases h; exact fun k hk => absurd hk (Nat.not_lt_zero k)
theorem zCl_in : ∀ (ci : Nat) (r : vw_C), zCl[ci]? = some r → ∀ w ∈ u_ws r.1 r.2.1 r.2.2, w ∈ lw_all := by
  intro ci r h
  have hl : ci < 27 := (List.getElem?_eq_some_iff.mp h).1
  match ci, hl, h with
  | 0, _, h => cases h; exact in_X1
  | 1, _, h => cases h; exact in_X2
  | 2, _, h => cases h; exact in_X3
  | 3, _, h => cases h; exact in_X4
  | 4, _, h => cases h; exact in_X5
  | 5, _, h => cases h; exact in_X6
  | 6, _, h => cases h; exact in_X7
  | 7, _, h => cases h; exact in_X8
  | 8, _, h => cases h; exact in_X9
  | 9, _, h => cases h; exact in_J2
  | 10, _, h => cases h; exact in_J33
  | 11, _, h => cases h; exact in_J31
  | 12, _, h => cases h; exact in_J20
  | 13, _, h => cases h; exact in_J22
  | 14, _, h => cases h; exact in_J23
  | 15, _, h => cases h; exact in_J36
  | 16, _, h => cases h; exact in_J37
  | 17, _, h => cases h; exact in_J49
  | 18, _, h => cases h; exact in_J41
  | 19, _, h => cases h; exact in_J47
  | 20, _, h => cases h; exact in_J45
  | 21, _, h => cases h; exact in_J8
  | 22, _, h => cases h; exact in_J9
  | 23, _, h => cases h; exact in_J17
  | 24, _, h => cases h; exact fun w hw => absurd hw List.not_mem_nil
  | 25, _, h => cases h; exact fun w hw => absurd hw List.not_mem_nil
  | 26, _, h => cases h; exact fun w hw => absurd hw List.not_mem_nil
theorem zCl_inst : ∀ (ci : Nat) (r : vw_C), zCl[ci]? = some r → ∃ n, Cond.instantiable r.1 n ∈ lw_all := by
  intro ci r h
  have hl : ci < 27 := (List.getElem?_eq_some_iff.mp h).1
  match ci, hl, h with
  | 0, _, h => cases h; exact ⟨8, q232⟩
  | 1, _, h => cases h; exact ⟨13, q243⟩
  | 2, _, h => cases h; exact ⟨9, q1256⟩
  | 3, _, h => cases h; exact ⟨10, q1350⟩
  | 4, _, h => cases h; exact ⟨28, q3808⟩
  | 5, _, h => cases h; exact ⟨7, q3085⟩
  | 6, _, h => cases h; exact ⟨8, q3153⟩
  | 7, _, h => cases h; exact ⟨9, q2214⟩
  | 8, _, h => cases h; exact ⟨2, q1605⟩
  | 9, _, h => cases h; exact ⟨3, q249⟩
  | 10, _, h => cases h; exact ⟨4, q2050⟩
  | 11, _, h => cases h; exact ⟨3, q1438⟩
  | 12, _, h => cases h; exact ⟨1, q600⟩
  | 13, _, h => cases h; exact ⟨8, q1185⟩
  | 14, _, h => cases h; exact ⟨12, q613⟩
  | 15, _, h => cases h; exact ⟨4, q2698⟩
  | 16, _, h => cases h; exact ⟨6, q2643⟩
  | 17, _, h => cases h; exact ⟨1, q2875⟩
  | 18, _, h => cases h; exact ⟨5, q2436⟩
  | 19, _, h => cases h; exact ⟨2, q2545⟩
  | 20, _, h => cases h; exact ⟨5, q2516⟩
  | 21, _, h => cases h; exact ⟨4, q310⟩
  | 22, _, h => cases h; exact ⟨4, q494⟩
  | 23, _, h => cases h; exact ⟨1, q2270⟩
  | 24, _, h => cases h; exact ⟨6, q1093⟩
  | 25, _, h => cases h; exact ⟨6, q265⟩
  | 26, _, h => cases h; exact ⟨6, q3485⟩
theorem zfc_nd : ∀ ci : Nat, (zfC.getD ci []).Nodup := by
  intro ci
  by_cases hl : ci < 27
  · exact (by decide +kernel : ∀ ci, ci < 27 → (zfC.getD ci []).Nodup) ci hl
  · rw [List.getD_eq_getElem?_getD, List.getElem?_eq_none (Nat.le_of_not_lt hl : zfC.length ≤ ci)]; exact List.nodup_nil
theorem zfk_ty : ∀ f, f < 145 → (zfk f = 1 → (zfy f).isReference = true) ∧ (zfk f = 2 → zfy f = .float) := by decide +kernel
theorem zfc_lt : ∀ ci : Nat, ci < 27 → ∀ f ∈ zfC.getD ci [], f < 145 := by decide +kernel
/-- statics that hold references, by their numbers -/
def zstT : List (String × String × String) := [("java/lang/Throwable", "UNASSIGNED_STACK", "[Ljava/lang/StackTraceElement;"), ("java/lang/Throwable", "SUPPRESSED_SENTINEL", "Ljava/util/List;"), ("EchoFair$TokenKind", "END", "LEchoFair$TokenKind;"), ("EchoFair$TokenKind", "WORD", "LEchoFair$TokenKind;"), ("EchoFair$TokenKind", "NUMBER", "LEchoFair$TokenKind;"), ("EchoFair$TokenKind", "OTHER", "LEchoFair$TokenKind;"), ("java/lang/Integer$IntegerCache", "cache", "[Ljava/lang/Integer;"), ("java/util/HashSet", "PRESENT", "Ljava/lang/Object;"), ("jdk/internal/util/Preconditions", "SIOOBE_FORMATTER", "Ljava/util/function/BiFunction;")]
def zsiT : List (String × String × String × Int32) := [("java/lang/Integer$IntegerCache", "high", "I", 127), ("java/lang/String", "COMPACT_STRINGS", "Z", 1), ("java/lang/StrictMath", "$assertionsDisabled", "Z", 1)]
/-- texts of String constants -/
def ztx : List String := ["yodel", "mumble", "bell", "horn", "green", "deep", "old", "", "fair", "fog", "echo", "valley", "tested", "pass", "test", "dismiss", "wage", "fund", "train", "fair 5;fog 2 7 4;echo yodel 3 6 9 5;echo mumble 8 2 4 1;echo bell 5 9 14 8;echo horn 4 5 6 3;valley green 4 1 10 60;valley deep 8 2 8 5;valley old 2 1 15 30;tested green yodel;tested deep mumble;tested old horn;"]
def zsrT : List (String × Nat × Nat) := [("EchoFair", 61, 0), ("EchoFair", 72, 1), ("EchoFair", 74, 2), ("EchoFair", 76, 3), ("EchoFair", 83, 4), ("EchoFair", 86, 5), ("EchoFair", 88, 6), ("EchoFair", 220, 7), ("EchoFair$Parser", 22, 7), ("EchoFair$Parser", 127, 8), ("EchoFair$Parser", 176, 9), ("EchoFair$Parser", 187, 10), ("EchoFair$Parser", 189, 11), ("EchoFair$Parser", 190, 12), ("EchoFair", 149, 13), ("EchoFair", 154, 8), ("EchoFair", 156, 14), ("EchoFair", 158, 15), ("EchoFair", 160, 16), ("EchoFair", 162, 17), ("EchoFair", 164, 18), ("EchoFair$Parser", 231, 13), ("EchoFair$Parser", 233, 14), ("EchoFair$Parser", 235, 15), ("EchoFair$Parser", 237, 16), ("EchoFair$Parser", 239, 17), ("EchoFairModel", 51, 19), ("EchoFairModel", 317, 8), ("EchoFairModel", 277, 9), ("EchoFairModel", 299, 10), ("EchoFairModel", 304, 11), ("EchoFairModel", 309, 12), ("EchoFairModel", 339, 13), ("EchoFairModel", 341, 14), ("EchoFairModel", 331, 15), ("EchoFairModel", 333, 16), ("EchoFairModel", 335, 17), ("EchoFairModel", 337, 18)]
/-- the sites of lambdas -/
def zlmT : List (MethodName × Nat × Nat × Jvm.Lambda.Shape) := siteWords_1.filterMap (fun w => match w with
  | .lambdaSite x pc i σ => some (x, pc, i, σ)
  | _ => none)
/-- classes of which the first can't be cast to the second -/
def zncT : List (String × String) := [("java/util/HashMap$Node", "java/util/HashMap$TreeNode"), ("java/util/LinkedHashMap$Entry", "java/util/HashMap$TreeNode"), ("java/lang/IllegalStateException", "java/lang/IllegalArgumentException"), ("java/lang/IllegalStateException", "java/lang/IndexOutOfBoundsException"), ("java/lang/IllegalStateException", "EchoFair$ParseError"), ("java/lang/IllegalArgumentException", "java/lang/IllegalStateException"), ("java/lang/IllegalArgumentException", "java/lang/IndexOutOfBoundsException"), ("java/lang/IllegalArgumentException", "EchoFair$ParseError"), ("java/lang/IndexOutOfBoundsException", "java/lang/IllegalStateException"), ("java/lang/IndexOutOfBoundsException", "java/lang/IllegalArgumentException"), ("java/lang/IndexOutOfBoundsException", "EchoFair$ParseError"), ("EchoFair$ParseError", "java/lang/IllegalStateException"), ("EchoFair$ParseError", "java/lang/IllegalArgumentException"), ("EchoFair$ParseError", "java/lang/IndexOutOfBoundsException")]
