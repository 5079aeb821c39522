set_option maxRecDepth 100000
def RJ0 : String := "java/lang/AbstractStringBuilder"
def RJ1 : String := "java/lang/StringBuilder"
def TJ1 : u_T := fun k => match k with
  | 0 => ("java/lang/AbstractStringBuilder", "value", "[B", false)
  | 1 => ("java/lang/AbstractStringBuilder", "coder", "B", false)
  | 2 => ("java/lang/AbstractStringBuilder", "maybeLatin1", "Z", false)
  | _ => ("java/lang/AbstractStringBuilder", "count", "I", false)
def tyJ1 : Nat → FieldType := fun k => match k with
  | 0 => .array .byte
  | 1 => .byte
  | 2 => .boolean
  | _ => .int
abbrev wsJ10 : List Cond := u_ws RJ1 TJ1 4
theorem nmJ1 : ∀ a, a < 4 → ∀ b, b < 4 → a ≠ b → (TJ1 a).2.1 ≠ (TJ1 b).2.1 := by decide +kernel
theorem tyJ1_ok : ∀ k, k < 4 → parseFieldDescriptor (TJ1 k).2.2.1 = some (tyJ1 k) := by decide +kernel
theorem in_J1 : ∀ w ∈ wsJ10, w ∈ lw_all := lw_in wsJ10 [567, 569, 571, 573] (by decide +kernel) (by decide +kernel)
def RJ2 : String := "java/lang/String"
def TJ2 : u_T := fun k => match k with
  | 0 => ("java/lang/String", "value", "[B", true)
  | 1 => ("java/lang/String", "coder", "B", true)
  | 2 => ("java/lang/String", "hash", "I", false)
  | _ => ("java/lang/String", "hashIsZero", "Z", false)
def tyJ2 : Nat → FieldType := fun k => match k with
  | 0 => .array .byte
  | 1 => .byte
  | 2 => .int
  | _ => .boolean
abbrev wsJ20 : List Cond := u_ws RJ2 TJ2 4
theorem nmJ2 : ∀ a, a < 4 → ∀ b, b < 4 → a ≠ b → (TJ2 a).2.1 ≠ (TJ2 b).2.1 := by decide +kernel
theorem tyJ2_ok : ∀ k, k < 4 → parseFieldDescriptor (TJ2 k).2.2.1 = some (tyJ2 k) := by decide +kernel
theorem in_J2 : ∀ w ∈ wsJ20, w ∈ lw_all := lw_in wsJ20 [1252, 1254, 1256, 1258] (by decide +kernel) (by decide +kernel)
def RJ3 : String := "java/lang/StringUTF16"
def RJ4 : String := "java/lang/Math"
def RJ5 : String := "java/util/AbstractCollection"
def RJ6 : String := "java/util/AbstractList"
def RJ7 : String := "java/util/ArrayList"
def TJ7 : u_T := fun k => match k with
  | 0 => ("java/util/AbstractList", "modCount", "I", false)
  | 1 => ("java/util/ArrayList", "elementData", "[Ljava/lang/Object;", false)
  | _ => ("java/util/ArrayList", "size", "I", false)
def tyJ7 : Nat → FieldType := fun k => match k with
  | 0 => .int
  | 1 => .array (.object "java/lang/Object")
  | _ => .int
abbrev wsJ70 : List Cond := u_ws RJ7 TJ7 3
theorem nmJ7 : ∀ a, a < 3 → ∀ b, b < 3 → a ≠ b → (TJ7 a).2.1 ≠ (TJ7 b).2.1 := by decide +kernel
theorem tyJ7_ok : ∀ k, k < 3 → parseFieldDescriptor (TJ7 k).2.2.1 = some (tyJ7 k) := by decide +kernel
theorem in_J7 : ∀ w ∈ wsJ70, w ∈ lw_all := lw_in wsJ70 [718, 714, 716] (by decide +kernel) (by decide +kernel)
def RJ8 : String := "java/util/AbstractMap"
def RJ9 : String := "java/util/HashMap"
def TJ9 : u_T := fun k => match k with
  | 0 => ("java/util/AbstractMap", "keySet", "Ljava/util/Set;", false)
  | 1 => ("java/util/AbstractMap", "values", "Ljava/util/Collection;", false)
  | 2 => ("java/util/HashMap", "table", "[Ljava/util/HashMap$Node;", false)
  | 3 => ("java/util/HashMap", "entrySet", "Ljava/util/Set;", false)
  | 4 => ("java/util/HashMap", "size", "I", false)
  | 5 => ("java/util/HashMap", "modCount", "I", false)
  | 6 => ("java/util/HashMap", "threshold", "I", false)
  | _ => ("java/util/HashMap", "loadFactor", "F", true)
def tyJ9 : Nat → FieldType := fun k => match k with
  | 0 => .object "java/util/Set"
  | 1 => .object "java/util/Collection"
  | 2 => .array (.object "java/util/HashMap$Node")
  | 3 => .object "java/util/Set"
  | 4 => .int
  | 5 => .int
  | 6 => .int
  | _ => .float
abbrev wsJ90 : List Cond := u_ws RJ9 TJ9 8
theorem nmJ9 : ∀ a, a < 8 → ∀ b, b < 8 → a ≠ b → (TJ9 a).2.1 ≠ (TJ9 b).2.1 := by decide +kernel
theorem tyJ9_ok : ∀ k, k < 8 → parseFieldDescriptor (TJ9 k).2.2.1 = some (tyJ9 k) := by decide +kernel
theorem in_J9 : ∀ w ∈ wsJ90, w ∈ lw_all := lw_in wsJ90 [819, 821, 807, 809, 811, 813, 815, 817] (by decide +kernel) (by decide +kernel)
def RJ10 : String := "jdk/internal/util/ArraysSupport"
def RJ11 : String := "java/util/Arrays"
def RJ12 : String := "java/lang/StringLatin1"
def RJ13 : String := "jdk/internal/util/Preconditions"
def RJ14 : String := "java/lang/Throwable"
def TJ14 : u_T := fun k => match k with
  | 0 => ("java/lang/Throwable", "cause", "Ljava/lang/Throwable;", false)
  | 1 => ("java/lang/Throwable", "stackTrace", "[Ljava/lang/StackTraceElement;", false)
  | 2 => ("java/lang/Throwable", "suppressedExceptions", "Ljava/util/List;", false)
  | 3 => ("java/lang/Throwable", "detailMessage", "Ljava/lang/String;", false)
  | _ => ("java/lang/Throwable", "backtrace", "Ljava/lang/Object;", false)
def tyJ14 : Nat → FieldType := fun k => match k with
  | 0 => .object "java/lang/Throwable"
  | 1 => .array (.object "java/lang/StackTraceElement")
  | 2 => .object "java/util/List"
  | 3 => .object "java/lang/String"
  | _ => .object "java/lang/Object"
abbrev wsJ140 : List Cond := u_ws RJ14 TJ14 5
theorem nmJ14 : ∀ a, a < 5 → ∀ b, b < 5 → a ≠ b → (TJ14 a).2.1 ≠ (TJ14 b).2.1 := by decide +kernel
theorem tyJ14_ok : ∀ k, k < 5 → parseFieldDescriptor (TJ14 k).2.2.1 = some (tyJ14 k) := by decide +kernel
theorem in_J14 : ∀ w ∈ wsJ140, w ∈ lw_all := lw_in wsJ140 [1104, 1106, 1108, 1110, 1112] (by decide +kernel) (by decide +kernel)
def RJ15 : String := "java/lang/Exception"
def RJ16 : String := "java/lang/RuntimeException"
def RJ17 : String := "java/lang/IllegalArgumentException"
def TJ17 : u_T := fun k => match k with
  | 0 => ("java/lang/Throwable", "cause", "Ljava/lang/Throwable;", false)
  | 1 => ("java/lang/Throwable", "stackTrace", "[Ljava/lang/StackTraceElement;", false)
  | 2 => ("java/lang/Throwable", "suppressedExceptions", "Ljava/util/List;", false)
  | 3 => ("java/lang/Throwable", "detailMessage", "Ljava/lang/String;", false)
  | 4 => ("java/lang/Throwable", "backtrace", "Ljava/lang/Object;", false)
  | _ => ("java/lang/Throwable", "depth", "I", false)
def tyJ17 : Nat → FieldType := fun k => match k with
  | 0 => .object "java/lang/Throwable"
  | 1 => .array (.object "java/lang/StackTraceElement")
  | 2 => .object "java/util/List"
  | 3 => .object "java/lang/String"
  | 4 => .object "java/lang/Object"
  | _ => .int
abbrev wsJ170 : List Cond := u_ws RJ17 TJ17 6
theorem nmJ17 : ∀ a, a < 6 → ∀ b, b < 6 → a ≠ b → (TJ17 a).2.1 ≠ (TJ17 b).2.1 := by decide +kernel
theorem tyJ17_ok : ∀ k, k < 6 → parseFieldDescriptor (TJ17 k).2.2.1 = some (tyJ17 k) := by decide +kernel
theorem in_J17 : ∀ w ∈ wsJ170, w ∈ lw_all := lw_in wsJ170 [1103, 1105, 1107, 1109, 1111, 1233] (by decide +kernel) (by decide +kernel)
def RJ18 : String := "java/lang/Number"
def RJ19 : String := "java/lang/Integer"
def TJ19 : u_T := fun k => match k with
  | _ => ("java/lang/Integer", "value", "I", true)
def tyJ19 : Nat → FieldType := fun k => match k with
  | _ => .int
abbrev wsJ190 : List Cond := u_ws RJ19 TJ19 1
theorem nmJ19 : ∀ a, a < 1 → ∀ b, b < 1 → a ≠ b → (TJ19 a).2.1 ≠ (TJ19 b).2.1 := by decide +kernel
theorem tyJ19_ok : ∀ k, k < 1 → parseFieldDescriptor (TJ19 k).2.2.1 = some (tyJ19 k) := by decide +kernel
theorem in_J19 : ∀ w ∈ wsJ190, w ∈ lw_all := lw_in wsJ190 [4917] (by decide +kernel) (by decide +kernel)
def RJ20 : String := "java/lang/IndexOutOfBoundsException"
def TJ20 : u_T := fun k => match k with
  | 0 => ("java/lang/Throwable", "cause", "Ljava/lang/Throwable;", false)
  | 1 => ("java/lang/Throwable", "stackTrace", "[Ljava/lang/StackTraceElement;", false)
  | 2 => ("java/lang/Throwable", "suppressedExceptions", "Ljava/util/List;", false)
  | 3 => ("java/lang/Throwable", "detailMessage", "Ljava/lang/String;", false)
  | 4 => ("java/lang/Throwable", "backtrace", "Ljava/lang/Object;", false)
  | _ => ("java/lang/Throwable", "depth", "I", false)
def tyJ20 : Nat → FieldType := fun k => match k with
  | 0 => .object "java/lang/Throwable"
  | 1 => .array (.object "java/lang/StackTraceElement")
  | 2 => .object "java/util/List"
  | 3 => .object "java/lang/String"
  | 4 => .object "java/lang/Object"
  | _ => .int
abbrev wsJ200 : List Cond := u_ws RJ20 TJ20 6
theorem nmJ20 : ∀ a, a < 6 → ∀ b, b < 6 → a ≠ b → (TJ20 a).2.1 ≠ (TJ20 b).2.1 := by decide +kernel
theorem tyJ20_ok : ∀ k, k < 6 → parseFieldDescriptor (TJ20 k).2.2.1 = some (tyJ20 k) := by decide +kernel
theorem in_J20 : ∀ w ∈ wsJ200, w ∈ lw_all := lw_in wsJ200 [2922, 2923, 2924, 2925, 2926, 2939] (by decide +kernel) (by decide +kernel)
def RJ21 : String := "java/lang/StringIndexOutOfBoundsException"
def TJ21 : u_T := fun k => match k with
  | 0 => ("java/lang/Throwable", "backtrace", "Ljava/lang/Object;", false)
  | 1 => ("java/lang/Throwable", "detailMessage", "Ljava/lang/String;", false)
  | 2 => ("java/lang/Throwable", "cause", "Ljava/lang/Throwable;", false)
  | 3 => ("java/lang/Throwable", "stackTrace", "[Ljava/lang/StackTraceElement;", false)
  | 4 => ("java/lang/Throwable", "depth", "I", false)
  | _ => ("java/lang/Throwable", "suppressedExceptions", "Ljava/util/List;", false)
def tyJ21 : Nat → FieldType := fun k => match k with
  | 0 => .object "java/lang/Object"
  | 1 => .object "java/lang/String"
  | 2 => .object "java/lang/Throwable"
  | 3 => .array (.object "java/lang/StackTraceElement")
  | 4 => .int
  | _ => .object "java/util/List"
abbrev wsJ210 : List Cond := u_ws RJ21 TJ21 6
theorem nmJ21 : ∀ a, a < 6 → ∀ b, b < 6 → a ≠ b → (TJ21 a).2.1 ≠ (TJ21 b).2.1 := by decide +kernel
theorem tyJ21_ok : ∀ k, k < 6 → parseFieldDescriptor (TJ21 k).2.2.1 = some (tyJ21 k) := by decide +kernel
theorem in_J21 : ∀ w ∈ wsJ210, w ∈ lw_all := lw_in wsJ210 [1283, 1284, 1285, 1286, 1287, 1288] (by decide +kernel) (by decide +kernel)
def RJ22 : String := "java/lang/ArrayIndexOutOfBoundsException"
def TJ22 : u_T := fun k => match k with
  | 0 => ("java/lang/Throwable", "cause", "Ljava/lang/Throwable;", false)
  | 1 => ("java/lang/Throwable", "stackTrace", "[Ljava/lang/StackTraceElement;", false)
  | 2 => ("java/lang/Throwable", "suppressedExceptions", "Ljava/util/List;", false)
  | 3 => ("java/lang/Throwable", "detailMessage", "Ljava/lang/String;", false)
  | 4 => ("java/lang/Throwable", "backtrace", "Ljava/lang/Object;", false)
  | _ => ("java/lang/Throwable", "depth", "I", false)
def tyJ22 : Nat → FieldType := fun k => match k with
  | 0 => .object "java/lang/Throwable"
  | 1 => .array (.object "java/lang/StackTraceElement")
  | 2 => .object "java/util/List"
  | 3 => .object "java/lang/String"
  | 4 => .object "java/lang/Object"
  | _ => .int
abbrev wsJ220 : List Cond := u_ws RJ22 TJ22 6
theorem nmJ22 : ∀ a, a < 6 → ∀ b, b < 6 → a ≠ b → (TJ22 a).2.1 ≠ (TJ22 b).2.1 := by decide +kernel
theorem tyJ22_ok : ∀ k, k < 6 → parseFieldDescriptor (TJ22 k).2.2.1 = some (tyJ22 k) := by decide +kernel
theorem in_J22 : ∀ w ∈ wsJ220, w ∈ lw_all := lw_in wsJ220 [1308, 1309, 1310, 1311, 1312, 1323] (by decide +kernel) (by decide +kernel)
def RJ23 : String := "java/util/Objects"
def RJ24 : String := "java/lang/IllegalStateException"
def TJ24 : u_T := fun k => match k with
  | 0 => ("java/lang/Throwable", "cause", "Ljava/lang/Throwable;", false)
  | 1 => ("java/lang/Throwable", "stackTrace", "[Ljava/lang/StackTraceElement;", false)
  | 2 => ("java/lang/Throwable", "suppressedExceptions", "Ljava/util/List;", false)
  | 3 => ("java/lang/Throwable", "detailMessage", "Ljava/lang/String;", false)
  | 4 => ("java/lang/Throwable", "backtrace", "Ljava/lang/Object;", false)
  | _ => ("java/lang/Throwable", "depth", "I", false)
def tyJ24 : Nat → FieldType := fun k => match k with
  | 0 => .object "java/lang/Throwable"
  | 1 => .array (.object "java/lang/StackTraceElement")
  | 2 => .object "java/util/List"
  | 3 => .object "java/lang/String"
  | 4 => .object "java/lang/Object"
  | _ => .int
abbrev wsJ240 : List Cond := u_ws RJ24 TJ24 6
theorem nmJ24 : ∀ a, a < 6 → ∀ b, b < 6 → a ≠ b → (TJ24 a).2.1 ≠ (TJ24 b).2.1 := by decide +kernel
theorem tyJ24_ok : ∀ k, k < 6 → parseFieldDescriptor (TJ24 k).2.2.1 = some (tyJ24 k) := by decide +kernel
theorem in_J24 : ∀ w ∈ wsJ240, w ∈ lw_all := lw_in wsJ240 [2729, 2730, 2731, 2732, 2733, 2744] (by decide +kernel) (by decide +kernel)
def RJ25 : String := "java/lang/Character"
def RJ26 : String := "jdk/internal/misc/Unsafe"
def RJ27 : String := "java/lang/Long"
def RJ28 : String := "java/util/HashMap$Node"
def TJ28 : u_T := fun k => match k with
  | 0 => ("java/util/HashMap$Node", "hash", "I", true)
  | 1 => ("java/util/HashMap$Node", "key", "Ljava/lang/Object;", true)
  | 2 => ("java/util/HashMap$Node", "value", "Ljava/lang/Object;", false)
  | _ => ("java/util/HashMap$Node", "next", "Ljava/util/HashMap$Node;", false)
def tyJ28 : Nat → FieldType := fun k => match k with
  | 0 => .int
  | 1 => .object "java/lang/Object"
  | 2 => .object "java/lang/Object"
  | _ => .object "java/util/HashMap$Node"
abbrev wsJ280 : List Cond := u_ws RJ28 TJ28 4
theorem nmJ28 : ∀ a, a < 4 → ∀ b, b < 4 → a ≠ b → (TJ28 a).2.1 ≠ (TJ28 b).2.1 := by decide +kernel
theorem tyJ28_ok : ∀ k, k < 4 → parseFieldDescriptor (TJ28 k).2.2.1 = some (tyJ28 k) := by decide +kernel
theorem in_J28 : ∀ w ∈ wsJ280, w ∈ lw_all := lw_in wsJ280 [2238, 2240, 2242, 2244] (by decide +kernel) (by decide +kernel)
def RJ29 : String := "java/util/LinkedHashMap$Entry"
def RJ30 : String := "java/util/HashMap$TreeNode"
def TJ30 : u_T := fun k => match k with
  | 0 => ("java/util/LinkedHashMap$Entry", "before", "Ljava/util/LinkedHashMap$Entry;", false)
  | 1 => ("java/util/LinkedHashMap$Entry", "after", "Ljava/util/LinkedHashMap$Entry;", false)
  | 2 => ("java/util/HashMap$Node", "hash", "I", true)
  | 3 => ("java/util/HashMap$Node", "key", "Ljava/lang/Object;", true)
  | 4 => ("java/util/HashMap$Node", "value", "Ljava/lang/Object;", false)
  | 5 => ("java/util/HashMap$Node", "next", "Ljava/util/HashMap$Node;", false)
  | 6 => ("java/util/HashMap$TreeNode", "parent", "Ljava/util/HashMap$TreeNode;", false)
  | 7 => ("java/util/HashMap$TreeNode", "left", "Ljava/util/HashMap$TreeNode;", false)
  | 8 => ("java/util/HashMap$TreeNode", "right", "Ljava/util/HashMap$TreeNode;", false)
  | 9 => ("java/util/HashMap$TreeNode", "prev", "Ljava/util/HashMap$TreeNode;", false)
  | _ => ("java/util/HashMap$TreeNode", "red", "Z", false)
def tyJ30 : Nat → FieldType := fun k => match k with
  | 0 => .object "java/util/LinkedHashMap$Entry"
  | 1 => .object "java/util/LinkedHashMap$Entry"
  | 2 => .int
  | 3 => .object "java/lang/Object"
  | 4 => .object "java/lang/Object"
  | 5 => .object "java/util/HashMap$Node"
  | 6 => .object "java/util/HashMap$TreeNode"
  | 7 => .object "java/util/HashMap$TreeNode"
  | 8 => .object "java/util/HashMap$TreeNode"
  | 9 => .object "java/util/HashMap$TreeNode"
  | _ => .boolean
abbrev wsJ300 : List Cond := u_ws RJ30 TJ30 11
theorem nmJ30 : ∀ a, a < 11 → ∀ b, b < 11 → a ≠ b → (TJ30 a).2.1 ≠ (TJ30 b).2.1 := by decide +kernel
theorem tyJ30_ok : ∀ k, k < 11 → parseFieldDescriptor (TJ30 k).2.2.1 = some (tyJ30 k) := by decide +kernel
theorem in_J30 : ∀ w ∈ wsJ300, w ∈ lw_all := lw_in wsJ300 [2301, 2303, 2305, 2306, 2307, 2308, 2291, 2293, 2295, 2297, 2299] (by decide +kernel) (by decide +kernel)
def RJ31 : String := "java/util/ArrayList$Itr"
def TJ31 : u_T := fun k => match k with
  | 0 => ("java/util/ArrayList$Itr", "cursor", "I", false)
  | 1 => ("java/util/ArrayList$Itr", "lastRet", "I", false)
  | 2 => ("java/util/ArrayList$Itr", "expectedModCount", "I", false)
  | _ => ("java/util/ArrayList$Itr", "this$0", "Ljava/util/ArrayList;", true)
def tyJ31 : Nat → FieldType := fun k => match k with
  | 0 => .int
  | 1 => .int
  | 2 => .int
  | _ => .object "java/util/ArrayList"
abbrev wsJ310 : List Cond := u_ws RJ31 TJ31 4
theorem nmJ31 : ∀ a, a < 4 → ∀ b, b < 4 → a ≠ b → (TJ31 a).2.1 ≠ (TJ31 b).2.1 := by decide +kernel
theorem tyJ31_ok : ∀ k, k < 4 → parseFieldDescriptor (TJ31 k).2.2.1 = some (tyJ31 k) := by decide +kernel
theorem in_J31 : ∀ w ∈ wsJ310, w ∈ lw_all := lw_in wsJ310 [3552, 3554, 3556, 3558] (by decide +kernel) (by decide +kernel)
def RJ32 : String := "java/lang/Enum"
def RJ33 : String := "java/lang/Object"
def RJ34 : String := "java/lang/System$2"
def RX0 : String := "MailWorksLaw"
def RX1 : String := "MailWorks"
def TX1 : u_T := fun k => match k with
  | 0 => ("MailWorks", "ready", "[I", true)
  | 1 => ("MailWorks", "told", "[I", true)
  | 2 => ("MailWorks", "tape", "Ljava/lang/StringBuilder;", true)
  | 3 => ("MailWorks", "output", "Ljava/lang/StringBuilder;", true)
  | 4 => ("MailWorks", "tools", "LMailWorks$Tools;", true)
  | 5 => ("MailWorks", "files", "Ljava/util/ArrayList;", true)
  | 6 => ("MailWorks", "mails", "Ljava/util/ArrayList;", true)
  | 7 => ("MailWorks", "index", "LMailWorks$Index;", true)
  | 8 => ("MailWorks", "contents", "Ljava/util/HashMap;", true)
  | 9 => ("MailWorks", "boxes", "Ljava/util/HashMap;", true)
  | 10 => ("MailWorks", "singles", "Ljava/util/HashMap;", true)
  | 11 => ("MailWorks", "found", "Ljava/util/ArrayList;", true)
  | 12 => ("MailWorks", "conversations", "LMailWorks$Conversations;", true)
  | 13 => ("MailWorks", "rows", "Ljava/util/ArrayList;", true)
  | 14 => ("MailWorks", "hand", "Ljava/lang/String;", false)
  | 15 => ("MailWorks", "there", "I", false)
  | 16 => ("MailWorks", "today", "I", false)
  | 17 => ("MailWorks", "fault", "I", false)
  | 18 => ("MailWorks", "place", "I", false)
  | 19 => ("MailWorks", "roots", "I", false)
  | _ => ("MailWorks", "isThreaded", "Z", false)
def tyX1 : Nat → FieldType := fun k => match k with
  | 0 => .array .int
  | 1 => .array .int
  | 2 => .object "java/lang/StringBuilder"
  | 3 => .object "java/lang/StringBuilder"
  | 4 => .object "MailWorks$Tools"
  | 5 => .object "java/util/ArrayList"
  | 6 => .object "java/util/ArrayList"
  | 7 => .object "MailWorks$Index"
  | 8 => .object "java/util/HashMap"
  | 9 => .object "java/util/HashMap"
  | 10 => .object "java/util/HashMap"
  | 11 => .object "java/util/ArrayList"
  | 12 => .object "MailWorks$Conversations"
  | 13 => .object "java/util/ArrayList"
  | 14 => .object "java/lang/String"
  | 15 => .int
  | 16 => .int
  | 17 => .int
  | 18 => .int
  | 19 => .int
  | _ => .boolean
abbrev wsX10 : List Cond := u_ws RX1 TX1 21
theorem nmX1 : ∀ a, a < 21 → ∀ b, b < 21 → a ≠ b → (TX1 a).2.1 ≠ (TX1 b).2.1 := by decide +kernel
theorem tyX1_ok : ∀ k, k < 21 → parseFieldDescriptor (TX1 k).2.2.1 = some (tyX1 k) := by decide +kernel
theorem in_X1 : ∀ w ∈ wsX10, w ∈ lw_all := lw_in wsX10 [890, 892, 894, 896, 898, 900, 902, 904, 906, 908, 910, 912, 914, 916, 918, 920, 922, 924, 926, 928, 930] (by decide +kernel) (by decide +kernel)
def RX2 : String := "MailWorks$Tools"
def TX2 : u_T := fun k => match k with
  | 0 => ("MailWorks$Tools", "charsets", "LMailWorks$Charsets;", true)
  | 1 => ("MailWorks$Tools", "stemmer", "LMailWorks$Stemmer;", true)
  | 2 => ("MailWorks$Tools", "in", "LMailWorks$Ints;", true)
  | 3 => ("MailWorks$Tools", "out", "LMailWorks$Ints;", true)
  | _ => ("MailWorks$Tools", "text", "LMailWorks$Text;", true)
def tyX2 : Nat → FieldType := fun k => match k with
  | 0 => .object "MailWorks$Charsets"
  | 1 => .object "MailWorks$Stemmer"
  | 2 => .object "MailWorks$Ints"
  | 3 => .object "MailWorks$Ints"
  | _ => .object "MailWorks$Text"
abbrev wsX20 : List Cond := u_ws RX2 TX2 5
theorem nmX2 : ∀ a, a < 5 → ∀ b, b < 5 → a ≠ b → (TX2 a).2.1 ≠ (TX2 b).2.1 := by decide +kernel
theorem tyX2_ok : ∀ k, k < 5 → parseFieldDescriptor (TX2 k).2.2.1 = some (tyX2 k) := by decide +kernel
theorem in_X2 : ∀ w ∈ wsX20, w ∈ lw_all := lw_in wsX20 [681, 683, 685, 687, 689] (by decide +kernel) (by decide +kernel)
def RX3 : String := "MailWorks$Charsets"
def TX3 : u_T := fun k => match k with
  | _ => ("MailWorks$Charsets", "all", "[LMailWorks$Charset;", true)
def tyX3 : Nat → FieldType := fun k => match k with
  | _ => .array (.object "MailWorks$Charset")
abbrev wsX30 : List Cond := u_ws RX3 TX3 1
theorem nmX3 : ∀ a, a < 1 → ∀ b, b < 1 → a ≠ b → (TX3 a).2.1 ≠ (TX3 b).2.1 := by decide +kernel
theorem tyX3_ok : ∀ k, k < 1 → parseFieldDescriptor (TX3 k).2.2.1 = some (tyX3 k) := by decide +kernel
theorem in_X3 : ∀ w ∈ wsX30, w ∈ lw_all := lw_in wsX30 [593] (by decide +kernel) (by decide +kernel)
def RX4 : String := "MailWorks$Stemmer"
def TX4 : u_T := fun k => match k with
  | 0 => ("MailWorks$Stemmer", "b", "[C", true)
  | 1 => ("MailWorks$Stemmer", "n", "I", false)
  | _ => ("MailWorks$Stemmer", "ahead", "I", false)
def tyX4 : Nat → FieldType := fun k => match k with
  | 0 => .array .char
  | 1 => .int
  | _ => .int
abbrev wsX40 : List Cond := u_ws RX4 TX4 3
theorem nmX4 : ∀ a, a < 3 → ∀ b, b < 3 → a ≠ b → (TX4 a).2.1 ≠ (TX4 b).2.1 := by decide +kernel
theorem tyX4_ok : ∀ k, k < 3 → parseFieldDescriptor (TX4 k).2.2.1 = some (tyX4 k) := by decide +kernel
theorem in_X4 : ∀ w ∈ wsX40, w ∈ lw_all := lw_in wsX40 [605, 607, 609] (by decide +kernel) (by decide +kernel)
def RX5 : String := "MailWorks$Ints"
def TX5 : u_T := fun k => match k with
  | 0 => ("MailWorks$Ints", "cells", "[I", false)
  | _ => ("MailWorks$Ints", "many", "I", false)
def tyX5 : Nat → FieldType := fun k => match k with
  | 0 => .array .int
  | _ => .int
abbrev wsX50 : List Cond := u_ws RX5 TX5 2
theorem nmX5 : ∀ a, a < 2 → ∀ b, b < 2 → a ≠ b → (TX5 a).2.1 ≠ (TX5 b).2.1 := by decide +kernel
theorem tyX5_ok : ∀ k, k < 2 → parseFieldDescriptor (TX5 k).2.2.1 = some (tyX5 k) := by decide +kernel
theorem in_X5 : ∀ w ∈ wsX50, w ∈ lw_all := lw_in wsX50 [641, 643] (by decide +kernel) (by decide +kernel)
def RX6 : String := "MailWorks$Text"
def TX6 : u_T := fun k => match k with
  | 0 => ("MailWorks$Text", "cells", "[C", false)
  | _ => ("MailWorks$Text", "many", "I", false)
def tyX6 : Nat → FieldType := fun k => match k with
  | 0 => .array .char
  | _ => .int
abbrev wsX60 : List Cond := u_ws RX6 TX6 2
theorem nmX6 : ∀ a, a < 2 → ∀ b, b < 2 → a ≠ b → (TX6 a).2.1 ≠ (TX6 b).2.1 := by decide +kernel
theorem tyX6_ok : ∀ k, k < 2 → parseFieldDescriptor (TX6 k).2.2.1 = some (tyX6 k) := by decide +kernel
theorem in_X6 : ∀ w ∈ wsX60, w ∈ lw_all := lw_in wsX60 [668, 670] (by decide +kernel) (by decide +kernel)
def RX7 : String := "MailWorks$Index"
def TX7 : u_T := fun k => match k with
  | 0 => ("MailWorks$Index", "segments", "Ljava/util/ArrayList;", true)
  | 1 => ("MailWorks$Index", "mails", "Ljava/util/ArrayList;", true)
  | 2 => ("MailWorks$Index", "contents", "Ljava/util/ArrayList;", true)
  | 3 => ("MailWorks$Index", "taken", "LMailWorks$Bits;", true)
  | 4 => ("MailWorks$Index", "scratch", "LMailWorks$Hits;", true)
  | 5 => ("MailWorks$Index", "one", "LMailWorks$Hits;", true)
  | 6 => ("MailWorks$Index", "other", "LMailWorks$Hits;", true)
  | 7 => ("MailWorks$Index", "pieces", "I", false)
  | 8 => ("MailWorks$Index", "buffered", "Ljava/util/ArrayList;", false)
  | _ => ("MailWorks$Index", "spares", "Ljava/util/ArrayList;", true)
def tyX7 : Nat → FieldType := fun k => match k with
  | 0 => .object "java/util/ArrayList"
  | 1 => .object "java/util/ArrayList"
  | 2 => .object "java/util/ArrayList"
  | 3 => .object "MailWorks$Bits"
  | 4 => .object "MailWorks$Hits"
  | 5 => .object "MailWorks$Hits"
  | 6 => .object "MailWorks$Hits"
  | 7 => .int
  | 8 => .object "java/util/ArrayList"
  | _ => .object "java/util/ArrayList"
abbrev wsX70 : List Cond := u_ws RX7 TX7 10
theorem nmX7 : ∀ a, a < 10 → ∀ b, b < 10 → a ≠ b → (TX7 a).2.1 ≠ (TX7 b).2.1 := by decide +kernel
theorem tyX7_ok : ∀ k, k < 10 → parseFieldDescriptor (TX7 k).2.2.1 = some (tyX7 k) := by decide +kernel
theorem in_X7 : ∀ w ∈ wsX70, w ∈ lw_all := lw_in wsX70 [771, 773, 775, 777, 779, 781, 783, 785, 787, 789] (by decide +kernel) (by decide +kernel)
def RX8 : String := "MailWorks$Bits"
def TX8 : u_T := fun k => match k with
  | _ => ("MailWorks$Bits", "cells", "[J", false)
def tyX8 : Nat → FieldType := fun k => match k with
  | _ => .array .long
abbrev wsX80 : List Cond := u_ws RX8 TX8 1
theorem nmX8 : ∀ a, a < 1 → ∀ b, b < 1 → a ≠ b → (TX8 a).2.1 ≠ (TX8 b).2.1 := by decide +kernel
theorem tyX8_ok : ∀ k, k < 1 → parseFieldDescriptor (TX8 k).2.2.1 = some (tyX8 k) := by decide +kernel
theorem in_X8 : ∀ w ∈ wsX80, w ∈ lw_all := lw_in wsX80 [736] (by decide +kernel) (by decide +kernel)
def RX9 : String := "MailWorks$Hits"
def TX9 : u_T := fun k => match k with
  | 0 => ("MailWorks$Hits", "cells", "[J", false)
  | _ => ("MailWorks$Hits", "many", "I", false)
def tyX9 : Nat → FieldType := fun k => match k with
  | 0 => .array .long
  | _ => .int
abbrev wsX90 : List Cond := u_ws RX9 TX9 2
theorem nmX9 : ∀ a, a < 2 → ∀ b, b < 2 → a ≠ b → (TX9 a).2.1 ≠ (TX9 b).2.1 := by decide +kernel
theorem tyX9_ok : ∀ k, k < 2 → parseFieldDescriptor (TX9 k).2.2.1 = some (tyX9 k) := by decide +kernel
theorem in_X9 : ∀ w ∈ wsX90, w ∈ lw_all := lw_in wsX90 [752, 754] (by decide +kernel) (by decide +kernel)
def RX10 : String := "MailWorks$Conversations"
def TX10 : u_T := fun k => match k with
  | 0 => ("MailWorks$Conversations", "byId", "Ljava/util/HashMap;", true)
  | 1 => ("MailWorks$Conversations", "others", "Ljava/util/ArrayList;", true)
  | 2 => ("MailWorks$Conversations", "used", "Ljava/util/ArrayList;", true)
  | 3 => ("MailWorks$Conversations", "taken", "I", false)
  | 4 => ("MailWorks$Conversations", "roots", "Ljava/util/ArrayList;", true)
  | 5 => ("MailWorks$Conversations", "every", "Ljava/util/ArrayList;", true)
  | 6 => ("MailWorks$Conversations", "open", "Ljava/util/ArrayList;", true)
  | 7 => ("MailWorks$Conversations", "some", "Ljava/util/ArrayList;", true)
  | 8 => ("MailWorks$Conversations", "chiefs", "Ljava/util/ArrayList;", true)
  | _ => ("MailWorks$Conversations", "subjects", "Ljava/util/ArrayList;", true)
def tyX10 : Nat → FieldType := fun k => match k with
  | 0 => .object "java/util/HashMap"
  | 1 => .object "java/util/ArrayList"
  | 2 => .object "java/util/ArrayList"
  | 3 => .int
  | 4 => .object "java/util/ArrayList"
  | 5 => .object "java/util/ArrayList"
  | 6 => .object "java/util/ArrayList"
  | 7 => .object "java/util/ArrayList"
  | 8 => .object "java/util/ArrayList"
  | _ => .object "java/util/ArrayList"
abbrev wsX100 : List Cond := u_ws RX10 TX10 10
theorem nmX10 : ∀ a, a < 10 → ∀ b, b < 10 → a ≠ b → (TX10 a).2.1 ≠ (TX10 b).2.1 := by decide +kernel
theorem tyX10_ok : ∀ k, k < 10 → parseFieldDescriptor (TX10 k).2.2.1 = some (tyX10 k) := by decide +kernel
theorem in_X10 : ∀ w ∈ wsX100, w ∈ lw_all := lw_in wsX100 [844, 846, 848, 850, 852, 854, 856, 858, 860, 862] (by decide +kernel) (by decide +kernel)
def RX11 : String := "MailWorksModel"
def TX11 : u_T := fun k => match k with
  | 0 => ("MailWorksModel", "fromName", "[I", true)
  | 1 => ("MailWorksModel", "toName", "[I", true)
  | 2 => ("MailWorksModel", "ccName", "[I", true)
  | 3 => ("MailWorksModel", "subjectName", "[I", true)
  | 4 => ("MailWorksModel", "dateName", "[I", true)
  | 5 => ("MailWorksModel", "referencesName", "[I", true)
  | 6 => ("MailWorksModel", "replyName", "[I", true)
  | 7 => ("MailWorksModel", "charsetName", "[I", true)
  | 8 => ("MailWorksModel", "base64", "[I", true)
  | 9 => ("MailWorksModel", "quoted", "[I", true)
  | 10 => ("MailWorksModel", "sixes", "[I", true)
  | 11 => ("MailWorksModel", "secret", "[I", true)
  | 12 => ("MailWorksModel", "flagNames", "[I", true)
  | 13 => ("MailWorksModel", "thrown", "I", false)
  | 14 => ("MailWorksModel", "ready", "[B", true)
  | 15 => ("MailWorksModel", "tape", "[B", true)
  | 16 => ("MailWorksModel", "taped", "I", false)
  | 17 => ("MailWorksModel", "hand", "[B", true)
  | 18 => ("MailWorksModel", "handSize", "I", false)
  | 19 => ("MailWorksModel", "files", "I", false)
  | 20 => ("MailWorksModel", "were", "I", false)
  | 21 => ("MailWorksModel", "names", "[B", true)
  | 22 => ("MailWorksModel", "wereNames", "[B", true)
  | 23 => ("MailWorksModel", "nameSizes", "[I", true)
  | 24 => ("MailWorksModel", "wereNameSizes", "[I", true)
  | 25 => ("MailWorksModel", "stamps", "[I", true)
  | 26 => ("MailWorksModel", "wereStamps", "[I", true)
  | 27 => ("MailWorksModel", "sizes", "[I", true)
  | 28 => ("MailWorksModel", "wereSizes", "[I", true)
  | 29 => ("MailWorksModel", "contents", "[B", true)
  | 30 => ("MailWorksModel", "wereContents", "[B", true)
  | 31 => ("MailWorksModel", "mails", "I", false)
  | 32 => ("MailWorksModel", "keys", "[B", true)
  | 33 => ("MailWorksModel", "tagBytes", "[B", true)
  | 34 => ("MailWorksModel", "keySizes", "[I", true)
  | 35 => ("MailWorksModel", "versionOf", "[I", true)
  | 36 => ("MailWorksModel", "tagCounts", "[I", true)
  | 37 => ("MailWorksModel", "tagSizes", "[I", true)
  | 38 => ("MailWorksModel", "indexed", "[Z", true)
  | 39 => ("MailWorksModel", "altered", "[Z", true)
  | 40 => ("MailWorksModel", "wasThere", "[Z", true)
  | 41 => ("MailWorksModel", "versions", "I", false)
  | 42 => ("MailWorksModel", "used", "I", false)
  | 43 => ("MailWorksModel", "begins", "[I", true)
  | 44 => ("MailWorksModel", "lengths", "[I", true)
  | 45 => ("MailWorksModel", "bytes", "[B", true)
  | 46 => ("MailWorksModel", "places", "I", false)
  | 47 => ("MailWorksModel", "old", "I", false)
  | 48 => ("MailWorksModel", "placeFiles", "[I", true)
  | 49 => ("MailWorksModel", "placeMessages", "[I", true)
  | 50 => ("MailWorksModel", "placeMails", "[I", true)
  | 51 => ("MailWorksModel", "oldFiles", "[I", true)
  | 52 => ("MailWorksModel", "oldMails", "[I", true)
  | 53 => ("MailWorksModel", "went", "[Z", true)
  | 54 => ("MailWorksModel", "message", "[B", true)
  | 55 => ("MailWorksModel", "messageSize", "I", false)
  | 56 => ("MailWorksModel", "keyFrom", "I", false)
  | 57 => ("MailWorksModel", "keySize", "I", false)
  | 58 => ("MailWorksModel", "told", "[I", true)
  | 59 => ("MailWorksModel", "documents", "I", false)
  | 60 => ("MailWorksModel", "buffered", "I", false)
  | 61 => ("MailWorksModel", "ever", "I", false)
  | 62 => ("MailWorksModel", "everPieces", "I", false)
  | 63 => ("MailWorksModel", "segments", "I", false)
  | 64 => ("MailWorksModel", "documentMails", "[I", true)
  | 65 => ("MailWorksModel", "documentVersions", "[I", true)
  | 66 => ("MailWorksModel", "levels", "[I", true)
  | 67 => ("MailWorksModel", "many", "[I", true)
  | 68 => ("MailWorksModel", "taken", "[Z", true)
  | 69 => ("MailWorksModel", "loaded", "I", false)
  | 70 => ("MailWorksModel", "tokens", "I", false)
  | 71 => ("MailWorksModel", "letters", "I", false)
  | 72 => ("MailWorksModel", "tokenFields", "[I", true)
  | 73 => ("MailWorksModel", "tokenPlaces", "[I", true)
  | 74 => ("MailWorksModel", "tokenFroms", "[I", true)
  | 75 => ("MailWorksModel", "tokenSizes", "[I", true)
  | 76 => ("MailWorksModel", "stemFroms", "[I", true)
  | 77 => ("MailWorksModel", "stemSizes", "[I", true)
  | 78 => ("MailWorksModel", "addresses", "[Z", true)
  | 79 => ("MailWorksModel", "text", "[I", true)
  | 80 => ("MailWorksModel", "fieldBases", "[I", true)
  | 81 => ("MailWorksModel", "fieldPieces", "[I", true)
  | 82 => ("MailWorksModel", "pieces", "I", false)
  | 83 => ("MailWorksModel", "pieceLetters", "I", false)
  | 84 => ("MailWorksModel", "pieceFroms", "[I", true)
  | 85 => ("MailWorksModel", "pieceSizes", "[I", true)
  | 86 => ("MailWorksModel", "pieceStemFroms", "[I", true)
  | 87 => ("MailWorksModel", "pieceStemSizes", "[I", true)
  | 88 => ("MailWorksModel", "pieceText", "[I", true)
  | 89 => ("MailWorksModel", "words", "I", false)
  | 90 => ("MailWorksModel", "wordLetters", "I", false)
  | 91 => ("MailWorksModel", "wordSorts", "[I", true)
  | 92 => ("MailWorksModel", "wordFroms", "[I", true)
  | 93 => ("MailWorksModel", "wordSizes", "[I", true)
  | 94 => ("MailWorksModel", "wordText", "[I", true)
  | 95 => ("MailWorksModel", "foundMany", "I", false)
  | 96 => ("MailWorksModel", "today", "I", false)
  | 97 => ("MailWorksModel", "foundMails", "[I", true)
  | 98 => ("MailWorksModel", "ids", "I", false)
  | 99 => ("MailWorksModel", "idBytes", "I", false)
  | 100 => ("MailWorksModel", "subjects", "I", false)
  | 101 => ("MailWorksModel", "subjectLetters", "I", false)
  | 102 => ("MailWorksModel", "idFroms", "[I", true)
  | 103 => ("MailWorksModel", "idSizes", "[I", true)
  | 104 => ("MailWorksModel", "subjectFroms", "[I", true)
  | 105 => ("MailWorksModel", "subjectSizes", "[I", true)
  | 106 => ("MailWorksModel", "idText", "[B", true)
  | 107 => ("MailWorksModel", "subjectText", "[I", true)
  | 108 => ("MailWorksModel", "subject", "[I", true)
  | 109 => ("MailWorksModel", "subjectSize", "I", false)
  | 110 => ("MailWorksModel", "referenceFrom", "I", false)
  | 111 => ("MailWorksModel", "referenceMany", "I", false)
  | 112 => ("MailWorksModel", "isAnswer", "Z", false)
  | 113 => ("MailWorksModel", "shown", "[B", true)
  | 114 => ("MailWorksModel", "shownSize", "I", false)
  | 115 => ("MailWorksModel", "full", "Z", false)
  | 116 => ("MailWorksModel", "output", "[B", true)
  | 117 => ("MailWorksModel", "outputSize", "I", false)
  | 118 => ("MailWorksModel", "hValueAt", "[I", true)
  | 119 => ("MailWorksModel", "hValueLong", "[I", true)
  | 120 => ("MailWorksModel", "hKept", "[I", true)
  | 121 => ("MailWorksModel", "hWords", "I", false)
  | 122 => ("MailWorksModel", "hKind", "[I", true)
  | 123 => ("MailWorksModel", "hSign", "[I", true)
  | 124 => ("MailWorksModel", "hFrom", "[I", true)
  | 125 => ("MailWorksModel", "hTo", "[I", true)
  | 126 => ("MailWorksModel", "hBytes", "[I", true)
  | 127 => ("MailWorksModel", "hBytesLong", "I", false)
  | 128 => ("MailWorksModel", "hMade", "[I", true)
  | 129 => ("MailWorksModel", "hMadeLong", "[I", true)
  | 130 => ("MailWorksModel", "hMany", "[I", true)
  | 131 => ("MailWorksModel", "hPartAt", "[I", true)
  | 132 => ("MailWorksModel", "hPartLong", "[I", true)
  | 133 => ("MailWorksModel", "hGroups", "I", false)
  | 134 => ("MailWorksModel", "hBadOnes", "I", false)
  | 135 => ("MailWorksModel", "hGroupOf", "[I", true)
  | 136 => ("MailWorksModel", "hP", "I", false)
  | 137 => ("MailWorksModel", "hValueEnd", "I", false)
  | 138 => ("MailWorksModel", "hOfType", "Z", false)
  | 139 => ("MailWorksModel", "hLocalEnd", "I", false)
  | 140 => ("MailWorksModel", "hDomainFrom", "I", false)
  | 141 => ("MailWorksModel", "hW", "I", false)
  | 142 => ("MailWorksModel", "cNameHead", "[J", true)
  | 143 => ("MailWorksModel", "cNameTail", "[J", true)
  | 144 => ("MailWorksModel", "cNameOf", "[I", true)
  | 145 => ("MailWorksModel", "cWindows", "[I", true)
  | 146 => ("MailWorksModel", "cKoi", "[I", true)
  | 147 => ("MailWorksModel", "cTape", "[B", true)
  | 148 => ("MailWorksModel", "cTaped", "I", false)
  | 149 => ("MailWorksModel", "cText", "[I", true)
  | 150 => ("MailWorksModel", "cTexted", "I", false)
  | 151 => ("MailWorksModel", "cOut", "[B", true)
  | 152 => ("MailWorksModel", "cSrc", "[B", true)
  | 153 => ("MailWorksModel", "cOutSize", "I", false)
  | 154 => ("MailWorksModel", "cSrcSize", "I", false)
  | 155 => ("MailWorksModel", "cAt", "I", false)
  | 156 => ("MailWorksModel", "cBitMany", "I", false)
  | 157 => ("MailWorksModel", "cBits", "I", false)
  | 158 => ("MailWorksModel", "cPair", "I", false)
  | 159 => ("MailWorksModel", "cWordCharset", "I", false)
  | 160 => ("MailWorksModel", "cWordKind", "I", false)
  | 161 => ("MailWorksModel", "cWordFrom", "I", false)
  | 162 => ("MailWorksModel", "cWordTo", "I", false)
  | 163 => ("MailWorksModel", "P_CONTENT", "[I", true)
  | 164 => ("MailWorksModel", "P_TRANSFER", "[I", true)
  | 165 => ("MailWorksModel", "P_DISPOSITION", "[I", true)
  | 166 => ("MailWorksModel", "P_BOUNDARY_NAME", "[I", true)
  | 167 => ("MailWorksModel", "P_FILE_NAME", "[I", true)
  | 168 => ("MailWorksModel", "P_NAME", "[I", true)
  | 169 => ("MailWorksModel", "P_PLAIN", "[I", true)
  | 170 => ("MailWorksModel", "P_HTML", "[I", true)
  | 171 => ("MailWorksModel", "P_TEXT", "[I", true)
  | 172 => ("MailWorksModel", "P_MULTIPART", "[I", true)
  | 173 => ("MailWorksModel", "P_DIGEST", "[I", true)
  | 174 => ("MailWorksModel", "P_ALTERNATIVE", "[I", true)
  | 175 => ("MailWorksModel", "P_MESSAGE", "[I", true)
  | 176 => ("MailWorksModel", "P_ATTACHMENT", "[I", true)
  | 177 => ("MailWorksModel", "P_SEVEN", "[I", true)
  | 178 => ("MailWorksModel", "P_EIGHT", "[I", true)
  | 179 => ("MailWorksModel", "P_BINARY", "[I", true)
  | 180 => ("MailWorksModel", "pMail", "[B", true)
  | 181 => ("MailWorksModel", "pSize", "I", false)
  | 182 => ("MailWorksModel", "pLines", "I", false)
  | 183 => ("MailWorksModel", "pLineFrom", "[I", true)
  | 184 => ("MailWorksModel", "pLineTo", "[I", true)
  | 185 => ("MailWorksModel", "pEntities", "I", false)
  | 186 => ("MailWorksModel", "pLost", "I", false)
  | 187 => ("MailWorksModel", "pFirst", "[I", true)
  | 188 => ("MailWorksModel", "pEnd", "[I", true)
  | 189 => ("MailWorksModel", "pHeadEnd", "[I", true)
  | 190 => ("MailWorksModel", "pBody", "[I", true)
  | 191 => ("MailWorksModel", "pAround", "[I", true)
  | 192 => ("MailWorksModel", "pDepth", "[I", true)
  | 193 => ("MailWorksModel", "pKind", "[I", true)
  | 194 => ("MailWorksModel", "pTexts", "[J", true)
  | 195 => ("MailWorksModel", "pShown", "J", false)
  | 196 => ("MailWorksModel", "pHtml", "J", false)
  | 197 => ("MailWorksModel", "pTasks", "I", false)
  | 198 => ("MailWorksModel", "pTaskFrom", "[I", true)
  | 199 => ("MailWorksModel", "pTaskTo", "[I", true)
  | 200 => ("MailWorksModel", "pTaskIn", "[I", true)
  | 201 => ("MailWorksModel", "pParts", "I", false)
  | 202 => ("MailWorksModel", "pPartFrom", "[I", true)
  | 203 => ("MailWorksModel", "pPartTo", "[I", true)
  | 204 => ("MailWorksModel", "pValue", "[B", true)
  | 205 => ("MailWorksModel", "pValueSize", "I", false)
  | 206 => ("MailWorksModel", "pItems", "I", false)
  | 207 => ("MailWorksModel", "pFrom", "I", false)
  | 208 => ("MailWorksModel", "pTo", "I", false)
  | 209 => ("MailWorksModel", "pItemFrom", "[I", true)
  | 210 => ("MailWorksModel", "pItemTo", "[I", true)
  | 211 => ("MailWorksModel", "pGot", "[B", true)
  | 212 => ("MailWorksModel", "pGotSize", "I", false)
  | 213 => ("MailWorksModel", "pMark", "[B", true)
  | 214 => ("MailWorksModel", "pMarkSize", "I", false)
  | 215 => ("MailWorksModel", "wText", "[I", true)
  | 216 => ("MailWorksModel", "wSize", "I", false)
  | 217 => ("MailWorksModel", "wOut", "[I", true)
  | 218 => ("MailWorksModel", "wOutLong", "I", false)
  | 219 => ("MailWorksModel", "wLines", "I", false)
  | 220 => ("MailWorksModel", "wLineAt", "[I", true)
  | 221 => ("MailWorksModel", "wLineLong", "[I", true)
  | 222 => ("MailWorksModel", "wDepth", "[I", true)
  | 223 => ("MailWorksModel", "wSigned", "[Z", true)
  | 224 => ("MailWorksModel", "wLed", "[Z", true)
  | 225 => ("MailWorksModel", "wTokenLong", "[I", true)
  | 226 => ("MailWorksModel", "wStemLong", "[I", true)
  | 227 => ("MailWorksModel", "wLetters", "[I", true)
  | 228 => ("MailWorksModel", "wStems", "[I", true)
  | 229 => ("MailWorksModel", "wP", "I", false)
  | 230 => ("MailWorksModel", "wPre", "Z", false)
  | 231 => ("MailWorksModel", "wS", "[I", true)
  | 232 => ("MailWorksModel", "wEnd", "I", false)
  | 233 => ("MailWorksModel", "tCame", "I", false)
  | 234 => ("MailWorksModel", "tTime", "[J", true)
  | 235 => ("MailWorksModel", "tLeast", "[J", true)
  | 236 => ("MailWorksModel", "tId", "[I", true)
  | 237 => ("MailWorksModel", "tSubject", "[I", true)
  | 238 => ("MailWorksModel", "tMany", "[I", true)
  | 239 => ("MailWorksModel", "tReferences", "[I", true)
  | 240 => ("MailWorksModel", "tReply", "[Z", true)
  | 241 => ("MailWorksModel", "tThere", "[Z", true)
  | 242 => ("MailWorksModel", "tBoxes", "I", false)
  | 243 => ("MailWorksModel", "tBoxId", "[I", true)
  | 244 => ("MailWorksModel", "tMessage", "[I", true)
  | 245 => ("MailWorksModel", "tUp", "[I", true)
  | 246 => ("MailWorksModel", "tFirst", "[I", true)
  | 247 => ("MailWorksModel", "tLast", "[I", true)
  | 248 => ("MailWorksModel", "tBefore", "[I", true)
  | 249 => ("MailWorksModel", "tBehind", "[I", true)
  | 250 => ("MailWorksModel", "tDeep", "[I", true)
  | 251 => ("MailWorksModel", "tLeader", "[I", true)
  | 252 => ("MailWorksModel", "tGone", "[Z", true)
  | 253 => ("MailWorksModel", "tOrder", "[I", true)
  | 254 => ("MailWorksModel", "tRoots", "[I", true)
  | 255 => ("MailWorksModel", "tSubjects", "I", false)
  | 256 => ("MailWorksModel", "tSubjectOf", "[I", true)
  | 257 => ("MailWorksModel", "tChief", "[I", true)
  | 258 => ("MailWorksModel", "tFresh", "Z", false)
  | 259 => ("MailWorksModel", "tRows", "I", false)
  | 260 => ("MailWorksModel", "tRowBox", "[I", true)
  | 261 => ("MailWorksModel", "tRowOf", "[I", true)
  | 262 => ("MailWorksModel", "qSrc", "[B", true)
  | 263 => ("MailWorksModel", "qSize", "I", false)
  | 264 => ("MailWorksModel", "qAt", "I", false)
  | 265 => ("MailWorksModel", "qFault", "I", false)
  | 266 => ("MailWorksModel", "qPlace", "I", false)
  | 267 => ("MailWorksModel", "qToldFault", "I", false)
  | 268 => ("MailWorksModel", "qToldPlace", "I", false)
  | 269 => ("MailWorksModel", "qFieldNames", "[J", true)
  | 270 => ("MailWorksModel", "qWord", "I", false)
  | 271 => ("MailWorksModel", "qFrom", "I", false)
  | 272 => ("MailWorksModel", "qField", "I", false)
  | 273 => ("MailWorksModel", "qTextFrom", "I", false)
  | 274 => ("MailWorksModel", "qTextTo", "I", false)
  | 275 => ("MailWorksModel", "qPhrase", "Z", false)
  | 276 => ("MailWorksModel", "qAtoms", "I", false)
  | 277 => ("MailWorksModel", "qCame", "I", false)
  | 278 => ("MailWorksModel", "qAtomField", "[I", true)
  | 279 => ("MailWorksModel", "qAtomFrom", "[I", true)
  | 280 => ("MailWorksModel", "qAtomSize", "[I", true)
  | 281 => ("MailWorksModel", "qAtomStar", "[I", true)
  | 282 => ("MailWorksModel", "qAtomTimes", "[I", true)
  | 283 => ("MailWorksModel", "qLow", "[I", true)
  | 284 => ("MailWorksModel", "qHigh", "[I", true)
  | 285 => ("MailWorksModel", "qAtomPhrase", "[Z", true)
  | 286 => ("MailWorksModel", "qNodes", "I", false)
  | 287 => ("MailWorksModel", "qRoot", "I", false)
  | 288 => ("MailWorksModel", "qKind", "[I", true)
  | 289 => ("MailWorksModel", "qLeft", "[I", true)
  | 290 => ("MailWorksModel", "qRight", "[I", true)
  | 291 => ("MailWorksModel", "qValues", "I", false)
  | 292 => ("MailWorksModel", "qWaits", "I", false)
  | 293 => ("MailWorksModel", "qOpened", "I", false)
  | 294 => ("MailWorksModel", "qValue", "[I", true)
  | 295 => ("MailWorksModel", "qWait", "[I", true)
  | 296 => ("MailWorksModel", "qTruth", "[Z", true)
  | 297 => ("MailWorksModel", "qBound", "I", false)
  | 298 => ("MailWorksModel", "qWide", "J", false)
  | 299 => ("MailWorksModel", "qLeast", "I", false)
  | _ => ("MailWorksModel", "qGreatest", "I", false)
def tyX11 : Nat → FieldType := fun k => match k with
  | 0 => .array .int
  | 1 => .array .int
  | 2 => .array .int
  | 3 => .array .int
  | 4 => .array .int
  | 5 => .array .int
  | 6 => .array .int
  | 7 => .array .int
  | 8 => .array .int
  | 9 => .array .int
  | 10 => .array .int
  | 11 => .array .int
  | 12 => .array .int
  | 13 => .int
  | 14 => .array .byte
  | 15 => .array .byte
  | 16 => .int
  | 17 => .array .byte
  | 18 => .int
  | 19 => .int
  | 20 => .int
  | 21 => .array .byte
  | 22 => .array .byte
  | 23 => .array .int
  | 24 => .array .int
  | 25 => .array .int
  | 26 => .array .int
  | 27 => .array .int
  | 28 => .array .int
  | 29 => .array .byte
  | 30 => .array .byte
  | 31 => .int
  | 32 => .array .byte
  | 33 => .array .byte
  | 34 => .array .int
  | 35 => .array .int
  | 36 => .array .int
  | 37 => .array .int
  | 38 => .array .boolean
  | 39 => .array .boolean
  | 40 => .array .boolean
  | 41 => .int
  | 42 => .int
  | 43 => .array .int
  | 44 => .array .int
  | 45 => .array .byte
  | 46 => .int
  | 47 => .int
  | 48 => .array .int
  | 49 => .array .int
  | 50 => .array .int
  | 51 => .array .int
  | 52 => .array .int
  | 53 => .array .boolean
  | 54 => .array .byte
  | 55 => .int
  | 56 => .int
  | 57 => .int
  | 58 => .array .int
  | 59 => .int
  | 60 => .int
  | 61 => .int
  | 62 => .int
  | 63 => .int
  | 64 => .array .int
  | 65 => .array .int
  | 66 => .array .int
  | 67 => .array .int
  | 68 => .array .boolean
  | 69 => .int
  | 70 => .int
  | 71 => .int
  | 72 => .array .int
  | 73 => .array .int
  | 74 => .array .int
  | 75 => .array .int
  | 76 => .array .int
  | 77 => .array .int
  | 78 => .array .boolean
  | 79 => .array .int
  | 80 => .array .int
  | 81 => .array .int
  | 82 => .int
  | 83 => .int
  | 84 => .array .int
  | 85 => .array .int
  | 86 => .array .int
  | 87 => .array .int
  | 88 => .array .int
  | 89 => .int
  | 90 => .int
  | 91 => .array .int
  | 92 => .array .int
  | 93 => .array .int
  | 94 => .array .int
  | 95 => .int
  | 96 => .int
  | 97 => .array .int
  | 98 => .int
  | 99 => .int
  | 100 => .int
  | 101 => .int
  | 102 => .array .int
  | 103 => .array .int
  | 104 => .array .int
  | 105 => .array .int
  | 106 => .array .byte
  | 107 => .array .int
  | 108 => .array .int
  | 109 => .int
  | 110 => .int
  | 111 => .int
  | 112 => .boolean
  | 113 => .array .byte
  | 114 => .int
  | 115 => .boolean
  | 116 => .array .byte
  | 117 => .int
  | 118 => .array .int
  | 119 => .array .int
  | 120 => .array .int
  | 121 => .int
  | 122 => .array .int
  | 123 => .array .int
  | 124 => .array .int
  | 125 => .array .int
  | 126 => .array .int
  | 127 => .int
  | 128 => .array .int
  | 129 => .array .int
  | 130 => .array .int
  | 131 => .array .int
  | 132 => .array .int
  | 133 => .int
  | 134 => .int
  | 135 => .array .int
  | 136 => .int
  | 137 => .int
  | 138 => .boolean
  | 139 => .int
  | 140 => .int
  | 141 => .int
  | 142 => .array .long
  | 143 => .array .long
  | 144 => .array .int
  | 145 => .array .int
  | 146 => .array .int
  | 147 => .array .byte
  | 148 => .int
  | 149 => .array .int
  | 150 => .int
  | 151 => .array .byte
  | 152 => .array .byte
  | 153 => .int
  | 154 => .int
  | 155 => .int
  | 156 => .int
  | 157 => .int
  | 158 => .int
  | 159 => .int
  | 160 => .int
  | 161 => .int
  | 162 => .int
  | 163 => .array .int
  | 164 => .array .int
  | 165 => .array .int
  | 166 => .array .int
  | 167 => .array .int
  | 168 => .array .int
  | 169 => .array .int
  | 170 => .array .int
  | 171 => .array .int
  | 172 => .array .int
  | 173 => .array .int
  | 174 => .array .int
  | 175 => .array .int
  | 176 => .array .int
  | 177 => .array .int
  | 178 => .array .int
  | 179 => .array .int
  | 180 => .array .byte
  | 181 => .int
  | 182 => .int
  | 183 => .array .int
  | 184 => .array .int
  | 185 => .int
  | 186 => .int
  | 187 => .array .int
  | 188 => .array .int
  | 189 => .array .int
  | 190 => .array .int
  | 191 => .array .int
  | 192 => .array .int
  | 193 => .array .int
  | 194 => .array .long
  | 195 => .long
  | 196 => .long
  | 197 => .int
  | 198 => .array .int
  | 199 => .array .int
  | 200 => .array .int
  | 201 => .int
  | 202 => .array .int
  | 203 => .array .int
  | 204 => .array .byte
  | 205 => .int
  | 206 => .int
  | 207 => .int
  | 208 => .int
  | 209 => .array .int
  | 210 => .array .int
  | 211 => .array .byte
  | 212 => .int
  | 213 => .array .byte
  | 214 => .int
  | 215 => .array .int
  | 216 => .int
  | 217 => .array .int
  | 218 => .int
  | 219 => .int
  | 220 => .array .int
  | 221 => .array .int
  | 222 => .array .int
  | 223 => .array .boolean
  | 224 => .array .boolean
  | 225 => .array .int
  | 226 => .array .int
  | 227 => .array .int
  | 228 => .array .int
  | 229 => .int
  | 230 => .boolean
  | 231 => .array .int
  | 232 => .int
  | 233 => .int
  | 234 => .array .long
  | 235 => .array .long
  | 236 => .array .int
  | 237 => .array .int
  | 238 => .array .int
  | 239 => .array .int
  | 240 => .array .boolean
  | 241 => .array .boolean
  | 242 => .int
  | 243 => .array .int
  | 244 => .array .int
  | 245 => .array .int
  | 246 => .array .int
  | 247 => .array .int
  | 248 => .array .int
  | 249 => .array .int
  | 250 => .array .int
  | 251 => .array .int
  | 252 => .array .boolean
  | 253 => .array .int
  | 254 => .array .int
  | 255 => .int
  | 256 => .array .int
  | 257 => .array .int
  | 258 => .boolean
  | 259 => .int
  | 260 => .array .int
  | 261 => .array .int
  | 262 => .array .byte
  | 263 => .int
  | 264 => .int
  | 265 => .int
  | 266 => .int
  | 267 => .int
  | 268 => .int
  | 269 => .array .long
  | 270 => .int
  | 271 => .int
  | 272 => .int
  | 273 => .int
  | 274 => .int
  | 275 => .boolean
  | 276 => .int
  | 277 => .int
  | 278 => .array .int
  | 279 => .array .int
  | 280 => .array .int
  | 281 => .array .int
  | 282 => .array .int
  | 283 => .array .int
  | 284 => .array .int
  | 285 => .array .boolean
  | 286 => .int
  | 287 => .int
  | 288 => .array .int
  | 289 => .array .int
  | 290 => .array .int
  | 291 => .int
  | 292 => .int
  | 293 => .int
  | 294 => .array .int
  | 295 => .array .int
  | 296 => .array .boolean
  | 297 => .int
  | 298 => .long
  | 299 => .int
  | _ => .int
abbrev wsX110 : List Cond := u_ws RX11 TX11 301
theorem tyX11_ok : ∀ k, k < 301 → parseFieldDescriptor (TX11 k).2.2.1 = some (tyX11 k) := by decide +kernel
def RX12 : String := "MailWorks$Bytes"
def RX13 : String := "MailWorks$Stored"
def TX13 : u_T := fun k => match k with
  | 0 => ("MailWorks$Stored", "name", "Ljava/lang/String;", true)
  | 1 => ("MailWorks$Stored", "label", "LMailWorks$Label;", true)
  | 2 => ("MailWorks$Stored", "content", "Ljava/lang/String;", false)
  | 3 => ("MailWorks$Stored", "stamp", "I", false)
  | 4 => ("MailWorks$Stored", "seen", "Ljava/lang/String;", false)
  | 5 => ("MailWorks$Stored", "seenStamp", "I", false)
  | _ => ("MailWorks$Stored", "isThere", "Z", false)
def tyX13 : Nat → FieldType := fun k => match k with
  | 0 => .object "java/lang/String"
  | 1 => .object "MailWorks$Label"
  | 2 => .object "java/lang/String"
  | 3 => .int
  | 4 => .object "java/lang/String"
  | 5 => .int
  | _ => .boolean
abbrev wsX130 : List Cond := u_ws RX13 TX13 7
theorem nmX13 : ∀ a, a < 7 → ∀ b, b < 7 → a ≠ b → (TX13 a).2.1 ≠ (TX13 b).2.1 := by decide +kernel
theorem tyX13_ok : ∀ k, k < 7 → parseFieldDescriptor (TX13 k).2.2.1 = some (tyX13 k) := by decide +kernel
theorem in_X13 : ∀ w ∈ wsX130, w ∈ lw_all := lw_in wsX130 [2895, 2897, 2899, 2901, 2903, 2905, 2907] (by decide +kernel) (by decide +kernel)
def RX14 : String := "MailWorks$Label"
def TX14 : u_T := fun k => match k with
  | 0 => ("MailWorks$Label", "sort", "I", true)
  | _ => ("MailWorks$Label", "flags", "I", true)
def tyX14 : Nat → FieldType := fun k => match k with
  | 0 => .int
  | _ => .int
abbrev wsX140 : List Cond := u_ws RX14 TX14 2
theorem nmX14 : ∀ a, a < 2 → ∀ b, b < 2 → a ≠ b → (TX14 a).2.1 ≠ (TX14 b).2.1 := by decide +kernel
theorem tyX14_ok : ∀ k, k < 2 → parseFieldDescriptor (TX14 k).2.2.1 = some (tyX14 k) := by decide +kernel
theorem in_X14 : ∀ w ∈ wsX140, w ∈ lw_all := lw_in wsX140 [2874, 2876] (by decide +kernel) (by decide +kernel)
def RX15 : String := "MailWorks$Message"
def TX15 : u_T := fun k => match k with
  | 0 => ("MailWorks$Message", "key", "Ljava/lang/String;", true)
  | _ => ("MailWorks$Message", "bytes", "Ljava/lang/String;", true)
def tyX15 : Nat → FieldType := fun k => match k with
  | 0 => .object "java/lang/String"
  | _ => .object "java/lang/String"
abbrev wsX150 : List Cond := u_ws RX15 TX15 2
theorem nmX15 : ∀ a, a < 2 → ∀ b, b < 2 → a ≠ b → (TX15 a).2.1 ≠ (TX15 b).2.1 := by decide +kernel
theorem tyX15_ok : ∀ k, k < 2 → parseFieldDescriptor (TX15 k).2.2.1 = some (tyX15 k) := by decide +kernel
theorem in_X15 : ∀ w ∈ wsX150, w ∈ lw_all := lw_in wsX150 [3062, 3064] (by decide +kernel) (by decide +kernel)
def RX16 : String := "MailWorks$Mail"
def TX16 : u_T := fun k => match k with
  | 0 => ("MailWorks$Mail", "number", "I", true)
  | 1 => ("MailWorks$Mail", "key", "Ljava/lang/String;", true)
  | 2 => ("MailWorks$Mail", "bytes", "Ljava/lang/String;", false)
  | 3 => ("MailWorks$Mail", "content", "LMailWorks$Content;", false)
  | 4 => ("MailWorks$Mail", "places", "Ljava/util/ArrayList;", true)
  | 5 => ("MailWorks$Mail", "tags", "LMailWorks$Sorted;", true)
  | 6 => ("MailWorks$Mail", "had", "Ljava/util/ArrayList;", true)
  | 7 => ("MailWorks$Mail", "lost", "Z", false)
  | 8 => ("MailWorks$Mail", "isAltered", "Z", false)
  | 9 => ("MailWorks$Mail", "document", "I", false)
  | _ => ("MailWorks$Mail", "box", "LMailWorks$Box;", false)
def tyX16 : Nat → FieldType := fun k => match k with
  | 0 => .int
  | 1 => .object "java/lang/String"
  | 2 => .object "java/lang/String"
  | 3 => .object "MailWorks$Content"
  | 4 => .object "java/util/ArrayList"
  | 5 => .object "MailWorks$Sorted"
  | 6 => .object "java/util/ArrayList"
  | 7 => .boolean
  | 8 => .boolean
  | 9 => .int
  | _ => .object "MailWorks$Box"
abbrev wsX160 : List Cond := u_ws RX16 TX16 11
theorem nmX16 : ∀ a, a < 11 → ∀ b, b < 11 → a ≠ b → (TX16 a).2.1 ≠ (TX16 b).2.1 := by decide +kernel
theorem tyX16_ok : ∀ k, k < 11 → parseFieldDescriptor (TX16 k).2.2.1 = some (tyX16 k) := by decide +kernel
theorem in_X16 : ∀ w ∈ wsX160, w ∈ lw_all := lw_in wsX160 [3143, 3145, 3147, 3149, 3151, 3153, 3155, 3157, 3159, 3161, 3163] (by decide +kernel) (by decide +kernel)
def RX17 : String := "MailWorks$Sorted"
def TX17 : u_T := fun k => match k with
  | 0 => ("MailWorks$Sorted", "keys", "Ljava/util/ArrayList;", true)
  | _ => ("MailWorks$Sorted", "values", "Ljava/util/ArrayList;", true)
def tyX17 : Nat → FieldType := fun k => match k with
  | 0 => .object "java/util/ArrayList"
  | _ => .object "java/util/ArrayList"
abbrev wsX170 : List Cond := u_ws RX17 TX17 2
theorem nmX17 : ∀ a, a < 2 → ∀ b, b < 2 → a ≠ b → (TX17 a).2.1 ≠ (TX17 b).2.1 := by decide +kernel
theorem tyX17_ok : ∀ k, k < 2 → parseFieldDescriptor (TX17 k).2.2.1 = some (tyX17 k) := by decide +kernel
theorem in_X17 : ∀ w ∈ wsX170, w ∈ lw_all := lw_in wsX170 [3106, 3108] (by decide +kernel) (by decide +kernel)
def RX18 : String := "MailWorks$Place"
def TX18 : u_T := fun k => match k with
  | 0 => ("MailWorks$Place", "file", "LMailWorks$Stored;", true)
  | _ => ("MailWorks$Place", "message", "I", true)
def tyX18 : Nat → FieldType := fun k => match k with
  | 0 => .object "MailWorks$Stored"
  | _ => .int
abbrev wsX180 : List Cond := u_ws RX18 TX18 2
theorem nmX18 : ∀ a, a < 2 → ∀ b, b < 2 → a ≠ b → (TX18 a).2.1 ≠ (TX18 b).2.1 := by decide +kernel
theorem tyX18_ok : ∀ k, k < 2 → parseFieldDescriptor (TX18 k).2.2.1 = some (tyX18 k) := by decide +kernel
theorem in_X18 : ∀ w ∈ wsX180, w ∈ lw_all := lw_in wsX180 [3185, 3187] (by decide +kernel) (by decide +kernel)
def RX19 : String := "MailWorks$Content"
def TX19 : u_T := fun k => match k with
  | 0 => ("MailWorks$Content", "parts", "LMailWorks$Parts;", true)
  | 1 => ("MailWorks$Content", "from", "Ljava/util/ArrayList;", true)
  | 2 => ("MailWorks$Content", "to", "Ljava/util/ArrayList;", true)
  | 3 => ("MailWorks$Content", "texts", "Ljava/util/ArrayList;", true)
  | 4 => ("MailWorks$Content", "names", "Ljava/util/ArrayList;", true)
  | 5 => ("MailWorks$Content", "references", "Ljava/util/ArrayList;", true)
  | 6 => ("MailWorks$Content", "fields", "Ljava/util/ArrayList;", true)
  | 7 => ("MailWorks$Content", "subject", "LMailWorks$Text;", true)
  | 8 => ("MailWorks$Content", "words", "LMailWorks$Words;", true)
  | 9 => ("MailWorks$Content", "base", "Ljava/lang/String;", true)
  | 10 => ("MailWorks$Content", "isReply", "Z", true)
  | _ => ("MailWorks$Content", "date", "J", true)
def tyX19 : Nat → FieldType := fun k => match k with
  | 0 => .object "MailWorks$Parts"
  | 1 => .object "java/util/ArrayList"
  | 2 => .object "java/util/ArrayList"
  | 3 => .object "java/util/ArrayList"
  | 4 => .object "java/util/ArrayList"
  | 5 => .object "java/util/ArrayList"
  | 6 => .object "java/util/ArrayList"
  | 7 => .object "MailWorks$Text"
  | 8 => .object "MailWorks$Words"
  | 9 => .object "java/lang/String"
  | 10 => .boolean
  | _ => .long
abbrev wsX190 : List Cond := u_ws RX19 TX19 12
theorem nmX19 : ∀ a, a < 12 → ∀ b, b < 12 → a ≠ b → (TX19 a).2.1 ≠ (TX19 b).2.1 := by decide +kernel
theorem tyX19_ok : ∀ k, k < 12 → parseFieldDescriptor (TX19 k).2.2.1 = some (tyX19 k) := by decide +kernel
theorem in_X19 : ∀ w ∈ wsX190, w ∈ lw_all := lw_in wsX190 [4865, 4867, 4869, 4871, 4873, 4875, 4877, 4879, 4881, 4883, 4885, 4887] (by decide +kernel) (by decide +kernel)
def RX20 : String := "MailWorks$Parts"
def TX20 : u_T := fun k => match k with
  | 0 => ("MailWorks$Parts", "entities", "Ljava/util/ArrayList;", true)
  | 1 => ("MailWorks$Parts", "shown", "Ljava/util/ArrayList;", true)
  | 2 => ("MailWorks$Parts", "hanging", "Ljava/util/ArrayList;", true)
  | _ => ("MailWorks$Parts", "lines", "LMailWorks$Lines;", true)
def tyX20 : Nat → FieldType := fun k => match k with
  | 0 => .object "java/util/ArrayList"
  | 1 => .object "java/util/ArrayList"
  | 2 => .object "java/util/ArrayList"
  | _ => .object "MailWorks$Lines"
abbrev wsX200 : List Cond := u_ws RX20 TX20 4
theorem nmX20 : ∀ a, a < 4 → ∀ b, b < 4 → a ≠ b → (TX20 a).2.1 ≠ (TX20 b).2.1 := by decide +kernel
theorem tyX20_ok : ∀ k, k < 4 → parseFieldDescriptor (TX20 k).2.2.1 = some (tyX20 k) := by decide +kernel
theorem in_X20 : ∀ w ∈ wsX200, w ∈ lw_all := lw_in wsX200 [3595, 3597, 3599, 3601] (by decide +kernel) (by decide +kernel)
def RX21 : String := "MailWorks$Lines"
def TX21 : u_T := fun k => match k with
  | _ => ("MailWorks$Lines", "texts", "Ljava/util/ArrayList;", true)
def tyX21 : Nat → FieldType := fun k => match k with
  | _ => .object "java/util/ArrayList"
abbrev wsX210 : List Cond := u_ws RX21 TX21 1
theorem nmX21 : ∀ a, a < 1 → ∀ b, b < 1 → a ≠ b → (TX21 a).2.1 ≠ (TX21 b).2.1 := by decide +kernel
theorem tyX21_ok : ∀ k, k < 1 → parseFieldDescriptor (TX21 k).2.2.1 = some (tyX21 k) := by decide +kernel
theorem in_X21 : ∀ w ∈ wsX210, w ∈ lw_all := lw_in wsX210 [3240] (by decide +kernel) (by decide +kernel)
def RX22 : String := "MailWorks$Entity"
def TX22 : u_T := fun k => match k with
  | 0 => ("MailWorks$Entity", "in", "LMailWorks$Entity;", true)
  | 1 => ("MailWorks$Entity", "number", "I", true)
  | 2 => ("MailWorks$Entity", "deep", "I", true)
  | 3 => ("MailWorks$Entity", "from", "I", true)
  | 4 => ("MailWorks$Entity", "to", "I", true)
  | 5 => ("MailWorks$Entity", "parts", "Ljava/util/ArrayList;", true)
  | 6 => ("MailWorks$Entity", "fields", "Ljava/util/ArrayList;", true)
  | 7 => ("MailWorks$Entity", "body", "I", false)
  | 8 => ("MailWorks$Entity", "kind", "I", false)
  | 9 => ("MailWorks$Entity", "type", "Ljava/lang/String;", false)
  | 10 => ("MailWorks$Entity", "coding", "Ljava/lang/String;", false)
  | 11 => ("MailWorks$Entity", "name", "Ljava/lang/String;", false)
  | 12 => ("MailWorks$Entity", "content", "LMailWorks$Value;", false)
  | _ => ("MailWorks$Entity", "isHung", "Z", false)
def tyX22 : Nat → FieldType := fun k => match k with
  | 0 => .object "MailWorks$Entity"
  | 1 => .int
  | 2 => .int
  | 3 => .int
  | 4 => .int
  | 5 => .object "java/util/ArrayList"
  | 6 => .object "java/util/ArrayList"
  | 7 => .int
  | 8 => .int
  | 9 => .object "java/lang/String"
  | 10 => .object "java/lang/String"
  | 11 => .object "java/lang/String"
  | 12 => .object "MailWorks$Value"
  | _ => .boolean
abbrev wsX220 : List Cond := u_ws RX22 TX22 14
theorem nmX22 : ∀ a, a < 14 → ∀ b, b < 14 → a ≠ b → (TX22 a).2.1 ≠ (TX22 b).2.1 := by decide +kernel
theorem tyX22_ok : ∀ k, k < 14 → parseFieldDescriptor (TX22 k).2.2.1 = some (tyX22 k) := by decide +kernel
theorem in_X22 : ∀ w ∈ wsX220, w ∈ lw_all := lw_in wsX220 [3441, 3443, 3445, 3447, 3449, 3451, 3453, 3455, 3457, 3459, 3461, 3463, 3465, 3467] (by decide +kernel) (by decide +kernel)
def RX23 : String := "MailWorks$Pair"
def TX23 : u_T := fun k => match k with
  | 0 => ("MailWorks$Pair", "name", "Ljava/lang/String;", true)
  | _ => ("MailWorks$Pair", "value", "Ljava/lang/String;", true)
def tyX23 : Nat → FieldType := fun k => match k with
  | 0 => .object "java/lang/String"
  | _ => .object "java/lang/String"
abbrev wsX230 : List Cond := u_ws RX23 TX23 2
theorem nmX23 : ∀ a, a < 2 → ∀ b, b < 2 → a ≠ b → (TX23 a).2.1 ≠ (TX23 b).2.1 := by decide +kernel
theorem tyX23_ok : ∀ k, k < 2 → parseFieldDescriptor (TX23 k).2.2.1 = some (tyX23 k) := by decide +kernel
theorem in_X23 : ∀ w ∈ wsX230, w ∈ lw_all := lw_in wsX230 [3293, 3295] (by decide +kernel) (by decide +kernel)
def RX24 : String := "MailWorks$Value"
def TX24 : u_T := fun k => match k with
  | 0 => ("MailWorks$Value", "first", "Ljava/lang/String;", false)
  | _ => ("MailWorks$Value", "parameters", "Ljava/util/ArrayList;", true)
def tyX24 : Nat → FieldType := fun k => match k with
  | 0 => .object "java/lang/String"
  | _ => .object "java/util/ArrayList"
abbrev wsX240 : List Cond := u_ws RX24 TX24 2
theorem nmX24 : ∀ a, a < 2 → ∀ b, b < 2 → a ≠ b → (TX24 a).2.1 ≠ (TX24 b).2.1 := by decide +kernel
theorem tyX24_ok : ∀ k, k < 2 → parseFieldDescriptor (TX24 k).2.2.1 = some (tyX24 k) := by decide +kernel
theorem in_X24 : ∀ w ∈ wsX240, w ∈ lw_all := lw_in wsX240 [3374, 3376] (by decide +kernel) (by decide +kernel)
def RX25 : String := "MailWorks$Shown"
def TX25 : u_T := fun k => match k with
  | _ => ("MailWorks$Shown", "all", "Ljava/util/ArrayList;", true)
def tyX25 : Nat → FieldType := fun k => match k with
  | _ => .object "java/util/ArrayList"
abbrev wsX250 : List Cond := u_ws RX25 TX25 1
theorem nmX25 : ∀ a, a < 1 → ∀ b, b < 1 → a ≠ b → (TX25 a).2.1 ≠ (TX25 b).2.1 := by decide +kernel
theorem tyX25_ok : ∀ k, k < 1 → parseFieldDescriptor (TX25 k).2.2.1 = some (tyX25 k) := by decide +kernel
theorem in_X25 : ∀ w ∈ wsX250, w ∈ lw_all := lw_in wsX250 [3499] (by decide +kernel) (by decide +kernel)
def RX26 : String := "MailWorks$Addresses"
def TX26 : u_T := fun k => match k with
  | 0 => ("MailWorks$Addresses", "mailboxes", "Ljava/util/ArrayList;", true)
  | 1 => ("MailWorks$Addresses", "gathered", "Ljava/util/ArrayList;", true)
  | 2 => ("MailWorks$Addresses", "comment", "Ljava/lang/String;", false)
  | 3 => ("MailWorks$Addresses", "inAngle", "Z", false)
  | _ => ("MailWorks$Addresses", "inGroup", "Z", false)
def tyX26 : Nat → FieldType := fun k => match k with
  | 0 => .object "java/util/ArrayList"
  | 1 => .object "java/util/ArrayList"
  | 2 => .object "java/lang/String"
  | 3 => .boolean
  | _ => .boolean
abbrev wsX260 : List Cond := u_ws RX26 TX26 5
theorem nmX26 : ∀ a, a < 5 → ∀ b, b < 5 → a ≠ b → (TX26 a).2.1 ≠ (TX26 b).2.1 := by decide +kernel
theorem tyX26_ok : ∀ k, k < 5 → parseFieldDescriptor (TX26 k).2.2.1 = some (tyX26 k) := by decide +kernel
theorem in_X26 : ∀ w ∈ wsX260, w ∈ lw_all := lw_in wsX260 [3623, 3625, 3627, 3629, 3631] (by decide +kernel) (by decide +kernel)
def RX27 : String := "MailWorks$Cutter"
def TX27 : u_T := fun k => match k with
  | 0 => ("MailWorks$Cutter", "s", "Ljava/lang/String;", true)
  | 1 => ("MailWorks$Cutter", "words", "Ljava/util/ArrayList;", true)
  | _ => ("MailWorks$Cutter", "at", "I", false)
def tyX27 : Nat → FieldType := fun k => match k with
  | 0 => .object "java/lang/String"
  | 1 => .object "java/util/ArrayList"
  | _ => .int
abbrev wsX270 : List Cond := u_ws RX27 TX27 3
theorem nmX27 : ∀ a, a < 3 → ∀ b, b < 3 → a ≠ b → (TX27 a).2.1 ≠ (TX27 b).2.1 := by decide +kernel
theorem tyX27_ok : ∀ k, k < 3 → parseFieldDescriptor (TX27 k).2.2.1 = some (tyX27 k) := by decide +kernel
theorem in_X27 : ∀ w ∈ wsX270, w ∈ lw_all := lw_in wsX270 [3652, 3654, 3656] (by decide +kernel) (by decide +kernel)
def RX28 : String := "MailWorks$Cut"
def TX28 : u_T := fun k => match k with
  | 0 => ("MailWorks$Cut", "kind", "LMailWorks$Kind;", true)
  | _ => ("MailWorks$Cut", "text", "Ljava/lang/String;", true)
def tyX28 : Nat → FieldType := fun k => match k with
  | 0 => .object "MailWorks$Kind"
  | _ => .object "java/lang/String"
abbrev wsX280 : List Cond := u_ws RX28 TX28 2
theorem nmX28 : ∀ a, a < 2 → ∀ b, b < 2 → a ≠ b → (TX28 a).2.1 ≠ (TX28 b).2.1 := by decide +kernel
theorem tyX28_ok : ∀ k, k < 2 → parseFieldDescriptor (TX28 k).2.2.1 = some (tyX28 k) := by decide +kernel
theorem in_X28 : ∀ w ∈ wsX280, w ∈ lw_all := lw_in wsX280 [3690, 3692] (by decide +kernel) (by decide +kernel)
def RX29 : String := "MailWorks$Mailbox"
def TX29 : u_T := fun k => match k with
  | 0 => ("MailWorks$Mailbox", "title", "Ljava/lang/String;", false)
  | 1 => ("MailWorks$Mailbox", "local", "Ljava/lang/String;", false)
  | 2 => ("MailWorks$Mailbox", "domain", "Ljava/lang/String;", false)
  | 3 => ("MailWorks$Mailbox", "shownTitle", "LMailWorks$Text;", false)
  | _ => ("MailWorks$Mailbox", "shownAddress", "LMailWorks$Text;", false)
def tyX29 : Nat → FieldType := fun k => match k with
  | 0 => .object "java/lang/String"
  | 1 => .object "java/lang/String"
  | 2 => .object "java/lang/String"
  | 3 => .object "MailWorks$Text"
  | _ => .object "MailWorks$Text"
abbrev wsX290 : List Cond := u_ws RX29 TX29 5
theorem nmX29 : ∀ a, a < 5 → ∀ b, b < 5 → a ≠ b → (TX29 a).2.1 ≠ (TX29 b).2.1 := by decide +kernel
theorem tyX29_ok : ∀ k, k < 5 → parseFieldDescriptor (TX29 k).2.2.1 = some (tyX29 k) := by decide +kernel
theorem in_X29 : ∀ w ∈ wsX290, w ∈ lw_all := lw_in wsX290 [3760, 3762, 3764, 3766, 3768] (by decide +kernel) (by decide +kernel)
def RX30 : String := "MailWorks$Encoded"
def TX30 : u_T := fun k => match k with
  | 0 => ("MailWorks$Encoded", "tape", "LMailWorks$Ints;", true)
  | 1 => ("MailWorks$Encoded", "text", "LMailWorks$Ints;", true)
  | _ => ("MailWorks$Encoded", "charsets", "LMailWorks$Charsets;", true)
def tyX30 : Nat → FieldType := fun k => match k with
  | 0 => .object "MailWorks$Ints"
  | 1 => .object "MailWorks$Ints"
  | _ => .object "MailWorks$Charsets"
abbrev wsX300 : List Cond := u_ws RX30 TX30 3
theorem nmX30 : ∀ a, a < 3 → ∀ b, b < 3 → a ≠ b → (TX30 a).2.1 ≠ (TX30 b).2.1 := by decide +kernel
theorem tyX30_ok : ∀ k, k < 3 → parseFieldDescriptor (TX30 k).2.2.1 = some (tyX30 k) := by decide +kernel
theorem in_X30 : ∀ w ∈ wsX300, w ∈ lw_all := lw_in wsX300 [3843, 3845, 3847] (by decide +kernel) (by decide +kernel)
def RX31 : String := "MailWorks$Charset"
def RX32 : String := "MailWorks$Eight"
def RX33 : String := "MailWorks$Sixteen"
def TX33 : u_T := fun k => match k with
  | _ => ("MailWorks$Sixteen", "set", "I", true)
def tyX33 : Nat → FieldType := fun k => match k with
  | _ => .int
abbrev wsX330 : List Cond := u_ws RX33 TX33 1
theorem nmX33 : ∀ a, a < 1 → ∀ b, b < 1 → a ≠ b → (TX33 a).2.1 ≠ (TX33 b).2.1 := by decide +kernel
theorem tyX33_ok : ∀ k, k < 1 → parseFieldDescriptor (TX33 k).2.2.1 = some (tyX33 k) := by decide +kernel
theorem in_X33 : ∀ w ∈ wsX330, w ∈ lw_all := lw_in wsX330 [3939] (by decide +kernel) (by decide +kernel)
def RX34 : String := "MailWorks$Seven"
def RX35 : String := "MailWorks$ByTable"
def TX35 : u_T := fun k => match k with
  | _ => ("MailWorks$ByTable", "table", "[I", true)
def tyX35 : Nat → FieldType := fun k => match k with
  | _ => .array .int
abbrev wsX350 : List Cond := u_ws RX35 TX35 1
theorem nmX35 : ∀ a, a < 1 → ∀ b, b < 1 → a ≠ b → (TX35 a).2.1 ≠ (TX35 b).2.1 := by decide +kernel
theorem tyX35_ok : ∀ k, k < 1 → parseFieldDescriptor (TX35 k).2.2.1 = some (tyX35 k) := by decide +kernel
theorem in_X35 : ∀ w ∈ wsX350, w ∈ lw_all := lw_in wsX350 [3963] (by decide +kernel) (by decide +kernel)
def RX36 : String := "MailWorks$Units"
def TX36 : u_T := fun k => match k with
  | 0 => ("MailWorks$Units", "to", "LMailWorks$Ints;", true)
  | _ => ("MailWorks$Units", "high", "I", false)
def tyX36 : Nat → FieldType := fun k => match k with
  | 0 => .object "MailWorks$Ints"
  | _ => .int
abbrev wsX360 : List Cond := u_ws RX36 TX36 2
theorem nmX36 : ∀ a, a < 2 → ∀ b, b < 2 → a ≠ b → (TX36 a).2.1 ≠ (TX36 b).2.1 := by decide +kernel
theorem tyX36_ok : ∀ k, k < 2 → parseFieldDescriptor (TX36 k).2.2.1 = some (tyX36 k) := by decide +kernel
theorem in_X36 : ∀ w ∈ wsX360, w ∈ lw_all := lw_in wsX360 [4002, 4004] (by decide +kernel) (by decide +kernel)
def RX37 : String := "MailWorks$Coding"
def RX38 : String := "MailWorks$Base64"
def RX39 : String := "MailWorks$Dates"
def TX39 : u_T := fun k => match k with
  | 0 => ("MailWorks$Dates", "all", "Ljava/util/ArrayList;", true)
  | 1 => ("MailWorks$Dates", "now", "LMailWorks$Cut;", false)
  | _ => ("MailWorks$Dates", "at", "I", false)
def tyX39 : Nat → FieldType := fun k => match k with
  | 0 => .object "java/util/ArrayList"
  | 1 => .object "MailWorks$Cut"
  | _ => .int
abbrev wsX390 : List Cond := u_ws RX39 TX39 3
theorem nmX39 : ∀ a, a < 3 → ∀ b, b < 3 → a ≠ b → (TX39 a).2.1 ≠ (TX39 b).2.1 := by decide +kernel
theorem tyX39_ok : ∀ k, k < 3 → parseFieldDescriptor (TX39 k).2.2.1 = some (tyX39 k) := by decide +kernel
theorem in_X39 : ∀ w ∈ wsX390, w ∈ lw_all := lw_in wsX390 [4120, 4122, 4124] (by decide +kernel) (by decide +kernel)
def RX40 : String := "MailWorks$ByLines"
def RX41 : String := "MailWorks$Quoted"
def RX42 : String := "MailWorks$Hexed"
def TX42 : u_T := fun k => match k with
  | _ => ("MailWorks$Hexed", "begun", "Z", false)
def tyX42 : Nat → FieldType := fun k => match k with
  | _ => .boolean
abbrev wsX420 : List Cond := u_ws RX42 TX42 1
theorem nmX42 : ∀ a, a < 1 → ∀ b, b < 1 → a ≠ b → (TX42 a).2.1 ≠ (TX42 b).2.1 := by decide +kernel
theorem tyX42_ok : ∀ k, k < 1 → parseFieldDescriptor (TX42 k).2.2.1 = some (tyX42 k) := by decide +kernel
theorem in_X42 : ∀ w ∈ wsX420, w ∈ lw_all := lw_in wsX420 [4252] (by decide +kernel) (by decide +kernel)
def RX43 : String := "MailWorks$Page"
def TX43 : u_T := fun k => match k with
  | 0 => ("MailWorks$Page", "from", "LMailWorks$Text;", true)
  | 1 => ("MailWorks$Page", "to", "LMailWorks$Text;", true)
  | 2 => ("MailWorks$Page", "at", "I", false)
  | _ => ("MailWorks$Page", "inPre", "Z", false)
def tyX43 : Nat → FieldType := fun k => match k with
  | 0 => .object "MailWorks$Text"
  | 1 => .object "MailWorks$Text"
  | 2 => .int
  | _ => .boolean
abbrev wsX430 : List Cond := u_ws RX43 TX43 4
theorem nmX43 : ∀ a, a < 4 → ∀ b, b < 4 → a ≠ b → (TX43 a).2.1 ≠ (TX43 b).2.1 := by decide +kernel
theorem tyX43_ok : ∀ k, k < 4 → parseFieldDescriptor (TX43 k).2.2.1 = some (tyX43 k) := by decide +kernel
theorem in_X43 : ∀ w ∈ wsX430, w ∈ lw_all := lw_in wsX430 [4306, 4308, 4310, 4312] (by decide +kernel) (by decide +kernel)
def RX44 : String := "MailWorks$Letters"
def RX45 : String := "MailWorks$Field"
def TX45 : u_T := fun k => match k with
  | 0 => ("MailWorks$Field", "pieces", "Ljava/util/ArrayList;", true)
  | 1 => ("MailWorks$Field", "stemmer", "LMailWorks$Stemmer;", true)
  | 2 => ("MailWorks$Field", "most", "I", true)
  | 3 => ("MailWorks$Field", "places", "I", false)
  | 4 => ("MailWorks$Field", "many", "I", false)
  | _ => ("MailWorks$Field", "begun", "Z", false)
def tyX45 : Nat → FieldType := fun k => match k with
  | 0 => .object "java/util/ArrayList"
  | 1 => .object "MailWorks$Stemmer"
  | 2 => .int
  | 3 => .int
  | 4 => .int
  | _ => .boolean
abbrev wsX450 : List Cond := u_ws RX45 TX45 6
theorem nmX45 : ∀ a, a < 6 → ∀ b, b < 6 → a ≠ b → (TX45 a).2.1 ≠ (TX45 b).2.1 := by decide +kernel
theorem tyX45_ok : ∀ k, k < 6 → parseFieldDescriptor (TX45 k).2.2.1 = some (tyX45 k) := by decide +kernel
theorem in_X45 : ∀ w ∈ wsX450, w ∈ lw_all := lw_in wsX450 [4466, 4468, 4470, 4472, 4474, 4476] (by decide +kernel) (by decide +kernel)
def RX46 : String := "MailWorks$Piece"
def TX46 : u_T := fun k => match k with
  | 0 => ("MailWorks$Piece", "text", "Ljava/lang/String;", true)
  | 1 => ("MailWorks$Piece", "stem", "Ljava/lang/String;", true)
  | 2 => ("MailWorks$Piece", "place", "I", true)
  | _ => ("MailWorks$Piece", "isAddress", "Z", true)
def tyX46 : Nat → FieldType := fun k => match k with
  | 0 => .object "java/lang/String"
  | 1 => .object "java/lang/String"
  | 2 => .int
  | _ => .boolean
abbrev wsX460 : List Cond := u_ws RX46 TX46 4
theorem nmX46 : ∀ a, a < 4 → ∀ b, b < 4 → a ≠ b → (TX46 a).2.1 ≠ (TX46 b).2.1 := by decide +kernel
theorem tyX46_ok : ∀ k, k < 4 → parseFieldDescriptor (TX46 k).2.2.1 = some (tyX46 k) := by decide +kernel
theorem in_X46 : ∀ w ∈ wsX460, w ∈ lw_all := lw_in wsX460 [4679, 4681, 4683, 4685] (by decide +kernel) (by decide +kernel)
def RX47 : String := "MailWorks$Line"
def TX47 : u_T := fun k => match k with
  | 0 => ("MailWorks$Line", "from", "I", true)
  | 1 => ("MailWorks$Line", "length", "I", true)
  | 2 => ("MailWorks$Line", "depth", "I", false)
  | 3 => ("MailWorks$Line", "isSigned", "Z", false)
  | _ => ("MailWorks$Line", "isLed", "Z", false)
def tyX47 : Nat → FieldType := fun k => match k with
  | 0 => .int
  | 1 => .int
  | 2 => .int
  | 3 => .boolean
  | _ => .boolean
abbrev wsX470 : List Cond := u_ws RX47 TX47 5
theorem nmX47 : ∀ a, a < 5 → ∀ b, b < 5 → a ≠ b → (TX47 a).2.1 ≠ (TX47 b).2.1 := by decide +kernel
theorem tyX47_ok : ∀ k, k < 5 → parseFieldDescriptor (TX47 k).2.2.1 = some (tyX47 k) := by decide +kernel
theorem in_X47 : ∀ w ∈ wsX470, w ∈ lw_all := lw_in wsX470 [4716, 4718, 4720, 4722, 4724] (by decide +kernel) (by decide +kernel)
def RX48 : String := "MailWorks$Words"
def TX48 : u_T := fun k => match k with
  | 0 => ("MailWorks$Words", "words", "Ljava/util/ArrayList;", true)
  | _ => ("MailWorks$Words", "places", "Ljava/util/ArrayList;", true)
def tyX48 : Nat → FieldType := fun k => match k with
  | 0 => .object "java/util/ArrayList"
  | _ => .object "java/util/ArrayList"
abbrev wsX480 : List Cond := u_ws RX48 TX48 2
theorem nmX48 : ∀ a, a < 2 → ∀ b, b < 2 → a ≠ b → (TX48 a).2.1 ≠ (TX48 b).2.1 := by decide +kernel
theorem tyX48_ok : ∀ k, k < 2 → parseFieldDescriptor (TX48 k).2.2.1 = some (tyX48 k) := by decide +kernel
theorem in_X48 : ∀ w ∈ wsX480, w ∈ lw_all := lw_in wsX480 [4808, 4810] (by decide +kernel) (by decide +kernel)
def RX49 : String := "MailWorks$Segment"
def TX49 : u_T := fun k => match k with
  | 0 => ("MailWorks$Segment", "level", "I", false)
  | 1 => ("MailWorks$Segment", "documents", "Ljava/util/ArrayList;", false)
  | 2 => ("MailWorks$Segment", "words", "Ljava/util/ArrayList;", true)
  | 3 => ("MailWorks$Segment", "starts", "[I", false)
  | 4 => ("MailWorks$Segment", "bytes", "LMailWorks$Store;", true)
  | 5 => ("MailWorks$Segment", "walk", "LMailWorks$Walk;", true)
  | 6 => ("MailWorks$Segment", "different", "I", false)
  | _ => ("MailWorks$Segment", "tokens", "I", false)
def tyX49 : Nat → FieldType := fun k => match k with
  | 0 => .int
  | 1 => .object "java/util/ArrayList"
  | 2 => .object "java/util/ArrayList"
  | 3 => .array .int
  | 4 => .object "MailWorks$Store"
  | 5 => .object "MailWorks$Walk"
  | 6 => .int
  | _ => .int
abbrev wsX490 : List Cond := u_ws RX49 TX49 8
theorem nmX49 : ∀ a, a < 8 → ∀ b, b < 8 → a ≠ b → (TX49 a).2.1 ≠ (TX49 b).2.1 := by decide +kernel
theorem tyX49_ok : ∀ k, k < 8 → parseFieldDescriptor (TX49 k).2.2.1 = some (tyX49 k) := by decide +kernel
theorem in_X49 : ∀ w ∈ wsX490, w ∈ lw_all := lw_in wsX490 [2565, 2567, 2569, 2571, 2573, 2575, 2577, 2579] (by decide +kernel) (by decide +kernel)
def RX50 : String := "MailWorks$Store"
def TX50 : u_T := fun k => match k with
  | 0 => ("MailWorks$Store", "cells", "[B", false)
  | _ => ("MailWorks$Store", "many", "I", false)
def tyX50 : Nat → FieldType := fun k => match k with
  | 0 => .array .byte
  | _ => .int
abbrev wsX500 : List Cond := u_ws RX50 TX50 2
theorem nmX50 : ∀ a, a < 2 → ∀ b, b < 2 → a ≠ b → (TX50 a).2.1 ≠ (TX50 b).2.1 := by decide +kernel
theorem tyX50_ok : ∀ k, k < 2 → parseFieldDescriptor (TX50 k).2.2.1 = some (tyX50 k) := by decide +kernel
theorem in_X50 : ∀ w ∈ wsX500, w ∈ lw_all := lw_in wsX500 [2531, 2533] (by decide +kernel) (by decide +kernel)
def RX51 : String := "MailWorks$Walk"
def TX51 : u_T := fun k => match k with
  | 0 => ("MailWorks$Walk", "bytes", "LMailWorks$Store;", true)
  | _ => ("MailWorks$Walk", "at", "I", false)
def tyX51 : Nat → FieldType := fun k => match k with
  | 0 => .object "MailWorks$Store"
  | _ => .int
abbrev wsX510 : List Cond := u_ws RX51 TX51 2
theorem nmX51 : ∀ a, a < 2 → ∀ b, b < 2 → a ≠ b → (TX51 a).2.1 ≠ (TX51 b).2.1 := by decide +kernel
theorem tyX51_ok : ∀ k, k < 2 → parseFieldDescriptor (TX51 k).2.2.1 = some (tyX51 k) := by decide +kernel
theorem in_X51 : ∀ w ∈ wsX510, w ∈ lw_all := lw_in wsX510 [2545, 2547] (by decide +kernel) (by decide +kernel)
def RX52 : String := "MailWorks$Told"
def TX52 : u_T := fun k => match k with
  | 0 => ("MailWorks$Told", "key", "Ljava/lang/String;", true)
  | 1 => ("MailWorks$Told", "tags", "LMailWorks$Sorted;", true)
  | _ => ("MailWorks$Told", "isGood", "Z", false)
def tyX52 : Nat → FieldType := fun k => match k with
  | 0 => .object "java/lang/String"
  | 1 => .object "MailWorks$Sorted"
  | _ => .boolean
abbrev wsX520 : List Cond := u_ws RX52 TX52 3
theorem nmX52 : ∀ a, a < 3 → ∀ b, b < 3 → a ≠ b → (TX52 a).2.1 ≠ (TX52 b).2.1 := by decide +kernel
theorem tyX52_ok : ∀ k, k < 3 → parseFieldDescriptor (TX52 k).2.2.1 = some (tyX52 k) := by decide +kernel
theorem in_X52 : ∀ w ∈ wsX520, w ∈ lw_all := lw_in wsX520 [5014, 5016, 5018] (by decide +kernel) (by decide +kernel)
def RX53 : String := "MailWorks$Reader"
def TX53 : u_T := fun k => match k with
  | 0 => ("MailWorks$Reader", "s", "Ljava/lang/String;", true)
  | 1 => ("MailWorks$Reader", "at", "I", false)
  | _ => ("MailWorks$Reader", "count", "I", false)
def tyX53 : Nat → FieldType := fun k => match k with
  | 0 => .object "java/lang/String"
  | 1 => .int
  | _ => .int
abbrev wsX530 : List Cond := u_ws RX53 TX53 3
theorem nmX53 : ∀ a, a < 3 → ∀ b, b < 3 → a ≠ b → (TX53 a).2.1 ≠ (TX53 b).2.1 := by decide +kernel
theorem tyX53_ok : ∀ k, k < 3 → parseFieldDescriptor (TX53 k).2.2.1 = some (tyX53 k) := by decide +kernel
theorem in_X53 : ∀ w ∈ wsX530, w ∈ lw_all := lw_in wsX530 [5043, 5045, 5047] (by decide +kernel) (by decide +kernel)
def RX54 : String := "MailWorks$Fault"
def TX54 : u_T := fun k => match k with
  | 0 => ("java/lang/Throwable", "cause", "Ljava/lang/Throwable;", false)
  | 1 => ("java/lang/Throwable", "stackTrace", "[Ljava/lang/StackTraceElement;", false)
  | 2 => ("java/lang/Throwable", "suppressedExceptions", "Ljava/util/List;", false)
  | 3 => ("java/lang/Throwable", "detailMessage", "Ljava/lang/String;", false)
  | 4 => ("java/lang/Throwable", "backtrace", "Ljava/lang/Object;", false)
  | 5 => ("java/lang/Throwable", "depth", "I", false)
  | 6 => ("MailWorks$Fault", "what", "I", true)
  | _ => ("MailWorks$Fault", "place", "I", true)
def tyX54 : Nat → FieldType := fun k => match k with
  | 0 => .object "java/lang/Throwable"
  | 1 => .array (.object "java/lang/StackTraceElement")
  | 2 => .object "java/util/List"
  | 3 => .object "java/lang/String"
  | 4 => .object "java/lang/Object"
  | 5 => .int
  | 6 => .int
  | _ => .int
abbrev wsX540 : List Cond := u_ws RX54 TX54 8
theorem nmX54 : ∀ a, a < 8 → ∀ b, b < 8 → a ≠ b → (TX54 a).2.1 ≠ (TX54 b).2.1 := by decide +kernel
theorem tyX54_ok : ∀ k, k < 8 → parseFieldDescriptor (TX54 k).2.2.1 = some (tyX54 k) := by decide +kernel
theorem in_X54 : ∀ w ∈ wsX540, w ∈ lw_all := lw_in wsX540 [5097, 5098, 5099, 5100, 5101, 5114, 5110, 5112] (by decide +kernel) (by decide +kernel)
def RX55 : String := "MailWorks$Atom"
def TX55 : u_T := fun k => match k with
  | 0 => ("MailWorks$Atom", "field", "I", true)
  | 1 => ("MailWorks$Atom", "text", "Ljava/lang/String;", true)
  | _ => ("MailWorks$Atom", "isPhrase", "Z", true)
def tyX55 : Nat → FieldType := fun k => match k with
  | 0 => .int
  | 1 => .object "java/lang/String"
  | _ => .boolean
abbrev wsX550 : List Cond := u_ws RX55 TX55 3
theorem nmX55 : ∀ a, a < 3 → ∀ b, b < 3 → a ≠ b → (TX55 a).2.1 ≠ (TX55 b).2.1 := by decide +kernel
theorem tyX55_ok : ∀ k, k < 3 → parseFieldDescriptor (TX55 k).2.2.1 = some (tyX55 k) := by decide +kernel
theorem in_X55 : ∀ w ∈ wsX550, w ∈ lw_all := lw_in wsX550 [5168, 5170, 5172] (by decide +kernel) (by decide +kernel)
def RX56 : String := "MailWorks$Range"
def TX56 : u_T := fun k => match k with
  | 0 => ("MailWorks$Range", "ofDays", "Z", true)
  | 1 => ("MailWorks$Range", "low", "I", false)
  | 2 => ("MailWorks$Range", "high", "I", false)
  | _ => ("MailWorks$Range", "isGood", "Z", false)
def tyX56 : Nat → FieldType := fun k => match k with
  | 0 => .boolean
  | 1 => .int
  | 2 => .int
  | _ => .boolean
abbrev wsX560 : List Cond := u_ws RX56 TX56 4
theorem nmX56 : ∀ a, a < 4 → ∀ b, b < 4 → a ≠ b → (TX56 a).2.1 ≠ (TX56 b).2.1 := by decide +kernel
theorem tyX56_ok : ∀ k, k < 4 → parseFieldDescriptor (TX56 k).2.2.1 = some (tyX56 k) := by decide +kernel
theorem in_X56 : ∀ w ∈ wsX560, w ∈ lw_all := lw_in wsX560 [5254, 5256, 5258, 5260] (by decide +kernel) (by decide +kernel)
def RX57 : String := "MailWorks$Tree"
def RX58 : String := "MailWorks$Leaf"
def TX58 : u_T := fun k => match k with
  | 0 => ("MailWorks$Leaf", "atom", "LMailWorks$Atom;", true)
  | 1 => ("MailWorks$Leaf", "small", "Ljava/lang/String;", true)
  | 2 => ("MailWorks$Leaf", "range", "LMailWorks$Range;", true)
  | 3 => ("MailWorks$Leaf", "pieces", "Ljava/util/ArrayList;", false)
  | _ => ("MailWorks$Leaf", "stem", "Ljava/lang/String;", false)
def tyX58 : Nat → FieldType := fun k => match k with
  | 0 => .object "MailWorks$Atom"
  | 1 => .object "java/lang/String"
  | 2 => .object "MailWorks$Range"
  | 3 => .object "java/util/ArrayList"
  | _ => .object "java/lang/String"
abbrev wsX580 : List Cond := u_ws RX58 TX58 5
theorem nmX58 : ∀ a, a < 5 → ∀ b, b < 5 → a ≠ b → (TX58 a).2.1 ≠ (TX58 b).2.1 := by decide +kernel
theorem tyX58_ok : ∀ k, k < 5 → parseFieldDescriptor (TX58 k).2.2.1 = some (tyX58 k) := by decide +kernel
theorem in_X58 : ∀ w ∈ wsX580, w ∈ lw_all := lw_in wsX580 [5280, 5282, 5284, 5286, 5288] (by decide +kernel) (by decide +kernel)
def RX59 : String := "MailWorks$Not"
def TX59 : u_T := fun k => match k with
  | _ => ("MailWorks$Not", "of", "LMailWorks$Tree;", true)
def tyX59 : Nat → FieldType := fun k => match k with
  | _ => .object "MailWorks$Tree"
abbrev wsX590 : List Cond := u_ws RX59 TX59 1
theorem nmX59 : ∀ a, a < 1 → ∀ b, b < 1 → a ≠ b → (TX59 a).2.1 ≠ (TX59 b).2.1 := by decide +kernel
theorem tyX59_ok : ∀ k, k < 1 → parseFieldDescriptor (TX59 k).2.2.1 = some (tyX59 k) := by decide +kernel
theorem in_X59 : ∀ w ∈ wsX590, w ∈ lw_all := lw_in wsX590 [5298] (by decide +kernel) (by decide +kernel)
def RX60 : String := "MailWorks$Several"
def TX60 : u_T := fun k => match k with
  | 0 => ("MailWorks$Several", "sign", "I", true)
  | _ => ("MailWorks$Several", "of", "Ljava/util/ArrayList;", true)
def tyX60 : Nat → FieldType := fun k => match k with
  | 0 => .int
  | _ => .object "java/util/ArrayList"
abbrev wsX600 : List Cond := u_ws RX60 TX60 2
theorem nmX60 : ∀ a, a < 2 → ∀ b, b < 2 → a ≠ b → (TX60 a).2.1 ≠ (TX60 b).2.1 := by decide +kernel
theorem tyX60_ok : ∀ k, k < 2 → parseFieldDescriptor (TX60 k).2.2.1 = some (tyX60 k) := by decide +kernel
theorem in_X60 : ∀ w ∈ wsX600, w ∈ lw_all := lw_in wsX600 [5316, 5318] (by decide +kernel) (by decide +kernel)
def RX61 : String := "MailWorks$Box"
def TX61 : u_T := fun k => match k with
  | 0 => ("MailWorks$Box", "mail", "LMailWorks$Mail;", false)
  | 1 => ("MailWorks$Box", "in", "LMailWorks$Box;", false)
  | 2 => ("MailWorks$Box", "inside", "Ljava/util/ArrayList;", true)
  | 3 => ("MailWorks$Box", "isUsed", "Z", false)
  | 4 => ("MailWorks$Box", "time", "J", false)
  | 5 => ("MailWorks$Box", "first", "I", false)
  | _ => ("MailWorks$Box", "row", "I", false)
def tyX61 : Nat → FieldType := fun k => match k with
  | 0 => .object "MailWorks$Mail"
  | 1 => .object "MailWorks$Box"
  | 2 => .object "java/util/ArrayList"
  | 3 => .boolean
  | 4 => .long
  | 5 => .int
  | _ => .int
abbrev wsX610 : List Cond := u_ws RX61 TX61 7
theorem nmX61 : ∀ a, a < 7 → ∀ b, b < 7 → a ≠ b → (TX61 a).2.1 ≠ (TX61 b).2.1 := by decide +kernel
theorem tyX61_ok : ∀ k, k < 7 → parseFieldDescriptor (TX61 k).2.2.1 = some (tyX61 k) := by decide +kernel
theorem in_X61 : ∀ w ∈ wsX610, w ∈ lw_all := lw_in wsX610 [2172, 2174, 2176, 2178, 2180, 2182, 2184] (by decide +kernel) (by decide +kernel)
