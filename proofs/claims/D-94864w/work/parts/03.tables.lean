/-! names of classes, their fields, their methods, the words by their places (out of claim/names) -/
set_option maxRecDepth 100000
/-! java/util/AbstractCollection -/
def RJ0 : String := "java/util/AbstractCollection"
abbrev cJ0_init : ByteArray := prog_42_method_1_code
def yJ0_init : MethodName := ⟨RJ0, "<init>", "()V"⟩
/-! java/util/AbstractList -/
def RJ1 : String := "java/util/AbstractList"
abbrev cJ1_init : ByteArray := prog_43_method_1_code
def yJ1_init : MethodName := ⟨RJ1, "<init>", "()V"⟩
/-! java/lang/Throwable -/
def RJ10 : String := "java/lang/Throwable"
def TJ10 : u_T := fun k => match k with
  | 0 => ("java/lang/Throwable", "cause", "Ljava/lang/Throwable;", false)
  | 1 => ("java/lang/Throwable", "stackTrace", "[Ljava/lang/StackTraceElement;", false)
  | 2 => ("java/lang/Throwable", "suppressedExceptions", "Ljava/util/List;", false)
  | 3 => ("java/lang/Throwable", "detailMessage", "Ljava/lang/String;", false)
  | _ => ("java/lang/Throwable", "backtrace", "Ljava/lang/Object;", false)
def tyJ10 : Nat → FieldType := fun k => match k with
  | 0 => .object "java/lang/Throwable"
  | 1 => .array (.object "java/lang/StackTraceElement")
  | 2 => .object "java/util/List"
  | 3 => .object "java/lang/String"
  | _ => .object "java/lang/Object"
abbrev wsJ100 : List Cond := u_ws RJ10 TJ10 5
theorem nmJ10 : ∀ a, a < 5 → ∀ b, b < 5 → a ≠ b → (TJ10 a).2.1 ≠ (TJ10 b).2.1 := by decide +kernel
theorem tyJ10_ok : ∀ k, k < 5 → parseFieldDescriptor (TJ10 k).2.2.1 = some (tyJ10 k) := by decide +kernel
abbrev cJ10_init : ByteArray := prog_39_method_1_code
def yJ10_init : MethodName := ⟨RJ10, "<init>", "()V"⟩
abbrev cJ10_init_2 : ByteArray := prog_39_method_5_code
def yJ10_init_2 : MethodName := ⟨RJ10, "<init>", "(Ljava/lang/String;Ljava/lang/Throwable;ZZ)V"⟩
abbrev cJ10_init_3 : ByteArray := prog_39_method_2_code
def yJ10_init_3 : MethodName := ⟨RJ10, "<init>", "(Ljava/lang/String;)V"⟩
/-! java/lang/Exception -/
def RJ11 : String := "java/lang/Exception"
abbrev cJ11_init : ByteArray := prog_29_method_5_code
def yJ11_init : MethodName := ⟨RJ11, "<init>", "(Ljava/lang/String;Ljava/lang/Throwable;ZZ)V"⟩
abbrev cJ11_init_2 : ByteArray := prog_29_method_2_code
def yJ11_init_2 : MethodName := ⟨RJ11, "<init>", "(Ljava/lang/String;)V"⟩
abbrev cJ11_init_3 : ByteArray := prog_29_method_1_code
def yJ11_init_3 : MethodName := ⟨RJ11, "<init>", "()V"⟩
/-! jdk/internal/util/ArraysSupport -/
def RJ12 : String := "jdk/internal/util/ArraysSupport"
abbrev cJ12_newLength : ByteArray := prog_52_method_27_code
def yJ12_newLength : MethodName := ⟨RJ12, "newLength", "(III)I"⟩
abbrev cJ12_hugeLength : ByteArray := prog_52_method_28_code
def yJ12_hugeLength : MethodName := ⟨RJ12, "hugeLength", "(II)I"⟩
/-! java/util/Arrays -/
def RJ13 : String := "java/util/Arrays"
abbrev cJ13_copyOf : ByteArray := prog_45_method_119_code
def yJ13_copyOf : MethodName := ⟨RJ13, "copyOf", "([Ljava/lang/Object;I)[Ljava/lang/Object;"⟩
abbrev cJ13_copyOf_2 : ByteArray := prog_45_method_120_code
def yJ13_copyOf_2 : MethodName := ⟨RJ13, "copyOf", "([Ljava/lang/Object;ILjava/lang/Class;)[Ljava/lang/Object;"⟩
/-! java/lang/RuntimeException -/
def RJ14 : String := "java/lang/RuntimeException"
abbrev cJ14_init : ByteArray := prog_34_method_2_code
def yJ14_init : MethodName := ⟨RJ14, "<init>", "(Ljava/lang/String;)V"⟩
abbrev cJ14_init_2 : ByteArray := prog_34_method_1_code
def yJ14_init_2 : MethodName := ⟨RJ14, "<init>", "()V"⟩
/-! java/lang/IndexOutOfBoundsException -/
def RJ15 : String := "java/lang/IndexOutOfBoundsException"
def TJ15 : u_T := fun k => match k with
  | 0 => ("java/lang/Throwable", "cause", "Ljava/lang/Throwable;", false)
  | 1 => ("java/lang/Throwable", "stackTrace", "[Ljava/lang/StackTraceElement;", false)
  | 2 => ("java/lang/Throwable", "suppressedExceptions", "Ljava/util/List;", false)
  | 3 => ("java/lang/Throwable", "detailMessage", "Ljava/lang/String;", false)
  | 4 => ("java/lang/Throwable", "backtrace", "Ljava/lang/Object;", false)
  | _ => ("java/lang/Throwable", "depth", "I", false)
def tyJ15 : Nat → FieldType := fun k => match k with
  | 0 => .object "java/lang/Throwable"
  | 1 => .array (.object "java/lang/StackTraceElement")
  | 2 => .object "java/util/List"
  | 3 => .object "java/lang/String"
  | 4 => .object "java/lang/Object"
  | _ => .int
abbrev wsJ150 : List Cond := u_ws RJ15 TJ15 6
theorem nmJ15 : ∀ a, a < 6 → ∀ b, b < 6 → a ≠ b → (TJ15 a).2.1 ≠ (TJ15 b).2.1 := by decide +kernel
theorem tyJ15_ok : ∀ k, k < 6 → parseFieldDescriptor (TJ15 k).2.2.1 = some (tyJ15 k) := by decide +kernel
abbrev cJ15_init : ByteArray := prog_30_method_2_code
def yJ15_init : MethodName := ⟨RJ15, "<init>", "(Ljava/lang/String;)V"⟩
abbrev cJ15_init_2 : ByteArray := prog_30_method_1_code
def yJ15_init_2 : MethodName := ⟨RJ15, "<init>", "()V"⟩
/-! java/lang/ArrayIndexOutOfBoundsException -/
def RJ16 : String := "java/lang/ArrayIndexOutOfBoundsException"
def TJ16 : u_T := fun k => match k with
  | 0 => ("java/lang/Throwable", "backtrace", "Ljava/lang/Object;", false)
  | 1 => ("java/lang/Throwable", "detailMessage", "Ljava/lang/String;", false)
  | 2 => ("java/lang/Throwable", "cause", "Ljava/lang/Throwable;", false)
  | 3 => ("java/lang/Throwable", "stackTrace", "[Ljava/lang/StackTraceElement;", false)
  | 4 => ("java/lang/Throwable", "depth", "I", false)
  | _ => ("java/lang/Throwable", "suppressedExceptions", "Ljava/util/List;", false)
def tyJ16 : Nat → FieldType := fun k => match k with
  | 0 => .object "java/lang/Object"
  | 1 => .object "java/lang/String"
  | 2 => .object "java/lang/Throwable"
  | 3 => .array (.object "java/lang/StackTraceElement")
  | 4 => .int
  | _ => .object "java/util/List"
abbrev wsJ160 : List Cond := u_ws RJ16 TJ16 6
theorem nmJ16 : ∀ a, a < 6 → ∀ b, b < 6 → a ≠ b → (TJ16 a).2.1 ≠ (TJ16 b).2.1 := by decide +kernel
theorem tyJ16_ok : ∀ k, k < 6 → parseFieldDescriptor (TJ16 k).2.2.1 = some (tyJ16 k) := by decide +kernel
abbrev cJ16_init : ByteArray := prog_24_method_2_code
def yJ16_init : MethodName := ⟨RJ16, "<init>", "(Ljava/lang/String;)V"⟩
/-! java/util/NoSuchElementException -/
def RJ17 : String := "java/util/NoSuchElementException"
def TJ17 : u_T := fun k => match k with
  | 0 => ("java/lang/Throwable", "cause", "Ljava/lang/Throwable;", false)
  | 1 => ("java/lang/Throwable", "stackTrace", "[Ljava/lang/StackTraceElement;", false)
  | 2 => ("java/lang/Throwable", "suppressedExceptions", "Ljava/util/List;", false)
  | 3 => ("java/lang/Throwable", "detailMessage", "Ljava/lang/String;", false)
  | 4 => ("java/lang/Throwable", "backtrace", "Ljava/lang/Object;", false)
  | _ => ("java/lang/Throwable", "depth", "I", false)
def tyJ17 : Nat → FieldType := fun k => match k with
  | 0 => .object "java/lang/Throwable"
  | 1 => .array (.object "java/lang/StackTraceElement")
  | 2 => .object "java/util/List"
  | 3 => .object "java/lang/String"
  | 4 => .object "java/lang/Object"
  | _ => .int
abbrev wsJ170 : List Cond := u_ws RJ17 TJ17 6
theorem nmJ17 : ∀ a, a < 6 → ∀ b, b < 6 → a ≠ b → (TJ17 a).2.1 ≠ (TJ17 b).2.1 := by decide +kernel
theorem tyJ17_ok : ∀ k, k < 6 → parseFieldDescriptor (TJ17 k).2.2.1 = some (tyJ17 k) := by decide +kernel
abbrev cJ17_init : ByteArray := prog_48_method_1_code
def yJ17_init : MethodName := ⟨RJ17, "<init>", "()V"⟩
/-! java/lang/Integer -/
def RJ18 : String := "java/lang/Integer"
abbrev cJ18_bitCount : ByteArray := prog_31_method_49_code
def yJ18_bitCount : MethodName := ⟨RJ18, "bitCount", "(I)I"⟩
/-! java/lang/Object -/
def RJ19 : String := "java/lang/Object"
abbrev cJ19_init : ByteArray := object_method_1_code
def yJ19_init : MethodName := ⟨RJ19, "<init>", "()V"⟩
/-! java/util/ArrayList -/
def RJ2 : String := "java/util/ArrayList"
def TJ2 : u_T := fun k => match k with
  | 0 => ("java/util/AbstractList", "modCount", "I", false)
  | 1 => ("java/util/ArrayList", "elementData", "[Ljava/lang/Object;", false)
  | _ => ("java/util/ArrayList", "size", "I", false)
def tyJ2 : Nat → FieldType := fun k => match k with
  | 0 => .int
  | 1 => .array (.object "java/lang/Object")
  | _ => .int
abbrev wsJ20 : List Cond := u_ws RJ2 TJ2 3
theorem nmJ2 : ∀ a, a < 3 → ∀ b, b < 3 → a ≠ b → (TJ2 a).2.1 ≠ (TJ2 b).2.1 := by decide +kernel
theorem tyJ2_ok : ∀ k, k < 3 → parseFieldDescriptor (TJ2 k).2.2.1 = some (tyJ2 k) := by decide +kernel
abbrev cJ2_init : ByteArray := prog_44_method_1_code
def yJ2_init : MethodName := ⟨RJ2, "<init>", "(I)V"⟩
abbrev cJ2_size : ByteArray := prog_44_method_8_code
def yJ2_size : MethodName := ⟨RJ2, "size", "()I"⟩
abbrev cJ2_get : ByteArray := prog_44_method_20_code
def yJ2_get : MethodName := ⟨RJ2, "get", "(I)Ljava/lang/Object;"⟩
abbrev cJ2_elementData : ByteArray := prog_44_method_18_code
def yJ2_elementData : MethodName := ⟨RJ2, "elementData", "(I)Ljava/lang/Object;"⟩
abbrev cJ2_add : ByteArray := prog_44_method_25_code
def yJ2_add : MethodName := ⟨RJ2, "add", "(Ljava/lang/Object;)Z"⟩
abbrev cJ2_add_2 : ByteArray := prog_44_method_24_code
def yJ2_add_2 : MethodName := ⟨RJ2, "add", "(Ljava/lang/Object;[Ljava/lang/Object;I)V"⟩
abbrev cJ2_grow : ByteArray := prog_44_method_7_code
def yJ2_grow : MethodName := ⟨RJ2, "grow", "()[Ljava/lang/Object;"⟩
abbrev cJ2_grow_2 : ByteArray := prog_44_method_6_code
def yJ2_grow_2 : MethodName := ⟨RJ2, "grow", "(I)[Ljava/lang/Object;"⟩
abbrev cJ2_isEmpty : ByteArray := prog_44_method_9_code
def yJ2_isEmpty : MethodName := ⟨RJ2, "isEmpty", "()Z"⟩
/-! java/util/Objects -/
def RJ3 : String := "java/util/Objects"
abbrev cJ3_checkIndex : ByteArray := prog_49_method_17_code
def yJ3_checkIndex : MethodName := ⟨RJ3, "checkIndex", "(II)I"⟩
/-! jdk/internal/util/Preconditions -/
def RJ4 : String := "jdk/internal/util/Preconditions"
abbrev cJ4_checkIndex : ByteArray := prog_53_method_11_code
def yJ4_checkIndex : MethodName := ⟨RJ4, "checkIndex", "(IILjava/util/function/BiFunction;)I"⟩
abbrev cJ4_checkFromToIndex : ByteArray := prog_53_method_12_code
def yJ4_checkFromToIndex : MethodName := ⟨RJ4, "checkFromToIndex", "(IIILjava/util/function/BiFunction;)I"⟩
/-! java/lang/String -/
def RJ5 : String := "java/lang/String"
def TJ5 : u_T := fun k => match k with
  | 0 => ("java/lang/String", "value", "[B", true)
  | _ => ("java/lang/String", "coder", "B", true)
def tyJ5 : Nat → FieldType := fun k => match k with
  | 0 => .array .byte
  | _ => .byte
abbrev wsJ50 : List Cond := u_ws RJ5 TJ5 2
theorem nmJ5 : ∀ a, a < 2 → ∀ b, b < 2 → a ≠ b → (TJ5 a).2.1 ≠ (TJ5 b).2.1 := by decide +kernel
theorem tyJ5_ok : ∀ k, k < 2 → parseFieldDescriptor (TJ5 k).2.2.1 = some (tyJ5 k) := by decide +kernel
abbrev cJ5_length : ByteArray := prog_35_method_54_code
def yJ5_length : MethodName := ⟨RJ5, "length", "()I"⟩
abbrev cJ5_coder : ByteArray := prog_35_method_152_code
def yJ5_coder : MethodName := ⟨RJ5, "coder", "()B"⟩
abbrev cJ5_charAt : ByteArray := prog_35_method_56_code
def yJ5_charAt : MethodName := ⟨RJ5, "charAt", "(I)C"⟩
abbrev cJ5_isLatin1 : ByteArray := prog_35_method_154_code
def yJ5_isLatin1 : MethodName := ⟨RJ5, "isLatin1", "()Z"⟩
abbrev cJ5_checkIndex : ByteArray := prog_35_method_155_code
def yJ5_checkIndex : MethodName := ⟨RJ5, "checkIndex", "(II)V"⟩
abbrev cJ5_indexOf : ByteArray := prog_35_method_79_code
def yJ5_indexOf : MethodName := ⟨RJ5, "indexOf", "(I)I"⟩
abbrev cJ5_indexOf_2 : ByteArray := prog_35_method_80_code
def yJ5_indexOf_2 : MethodName := ⟨RJ5, "indexOf", "(II)I"⟩
abbrev cJ5_checkBoundsBeginEnd : ByteArray := prog_35_method_158_code
def yJ5_checkBoundsBeginEnd : MethodName := ⟨RJ5, "checkBoundsBeginEnd", "(III)V"⟩
/-! java/lang/StringLatin1 -/
def RJ6 : String := "java/lang/StringLatin1"
abbrev cJ6_charAt : ByteArray := prog_36_method_2_code
def yJ6_charAt : MethodName := ⟨RJ6, "charAt", "([BI)C"⟩
abbrev cJ6_indexOf : ByteArray := prog_36_method_22_code
def yJ6_indexOf : MethodName := ⟨RJ6, "indexOf", "([BIII)I"⟩
abbrev cJ6_canEncode : ByteArray := prog_36_method_4_code
def yJ6_canEncode : MethodName := ⟨RJ6, "canEncode", "(I)Z"⟩
abbrev cJ6_indexOfChar : ByteArray := prog_36_method_23_code
def yJ6_indexOfChar : MethodName := ⟨RJ6, "indexOfChar", "([BIII)I"⟩
/-! java/lang/StringUTF16 -/
def RJ7 : String := "java/lang/StringUTF16"
abbrev cJ7_charAt : ByteArray := prog_37_method_83_code
def yJ7_charAt : MethodName := ⟨RJ7, "charAt", "([BI)C"⟩
abbrev cJ7_checkIndex : ByteArray := prog_37_method_91_code
def yJ7_checkIndex : MethodName := ⟨RJ7, "checkIndex", "(I[B)V"⟩
abbrev cJ7_length : ByteArray := prog_37_method_6_code
def yJ7_length : MethodName := ⟨RJ7, "length", "([B)I"⟩
abbrev cJ7_getChar : ByteArray := prog_37_method_5_code
def yJ7_getChar : MethodName := ⟨RJ7, "getChar", "([BI)C"⟩
abbrev cJ7_indexOf : ByteArray := prog_37_method_40_code
def yJ7_indexOf : MethodName := ⟨RJ7, "indexOf", "([BIII)I"⟩
abbrev cJ7_indexOfChar : ByteArray := prog_37_method_47_code
def yJ7_indexOfChar : MethodName := ⟨RJ7, "indexOfChar", "([BIII)I"⟩
abbrev cJ7_checkBoundsBeginEnd : ByteArray := prog_37_method_93_code
def yJ7_checkBoundsBeginEnd : MethodName := ⟨RJ7, "checkBoundsBeginEnd", "(II[B)V"⟩
abbrev cJ7_indexOfCharUnsafe : ByteArray := prog_37_method_48_code
def yJ7_indexOfCharUnsafe : MethodName := ⟨RJ7, "indexOfCharUnsafe", "([BIII)I"⟩
abbrev cJ7_indexOfSupplementary : ByteArray := prog_37_method_49_code
def yJ7_indexOfSupplementary : MethodName := ⟨RJ7, "indexOfSupplementary", "([BIII)I"⟩
/-! java/lang/Math -/
def RJ8 : String := "java/lang/Math"
abbrev cJ8_max : ByteArray := prog_33_method_65_code
def yJ8_max : MethodName := ⟨RJ8, "max", "(II)I"⟩
abbrev cJ8_min : ByteArray := prog_33_method_69_code
def yJ8_min : MethodName := ⟨RJ8, "min", "(II)I"⟩
abbrev cJ8_abs : ByteArray := prog_33_method_61_code
def yJ8_abs : MethodName := ⟨RJ8, "abs", "(J)J"⟩
abbrev cJ8_min_2 : ByteArray := prog_33_method_70_code
def yJ8_min_2 : MethodName := ⟨RJ8, "min", "(JJ)J"⟩
abbrev cJ8_max_2 : ByteArray := prog_33_method_66_code
def yJ8_max_2 : MethodName := ⟨RJ8, "max", "(JJ)J"⟩
/-! java/lang/Character -/
def RJ9 : String := "java/lang/Character"
abbrev cJ9_isValidCodePoint : ByteArray := prog_26_method_11_code
def yJ9_isValidCodePoint : MethodName := ⟨RJ9, "isValidCodePoint", "(I)Z"⟩
abbrev cJ9_highSurrogate : ByteArray := prog_26_method_28_code
def yJ9_highSurrogate : MethodName := ⟨RJ9, "highSurrogate", "(I)C"⟩
abbrev cJ9_lowSurrogate : ByteArray := prog_26_method_29_code
def yJ9_lowSurrogate : MethodName := ⟨RJ9, "lowSurrogate", "(I)C"⟩
/-! TwoTonguesLaw -/
def RX0 : String := "TwoTonguesLaw"
abbrev cX0_look : ByteArray := method_3_code
def yX0_look : MethodName := ⟨RX0, "look", "(LTwoTongues;II[J)I"⟩
/-! TwoTongues -/
def RX1 : String := "TwoTongues"
def TX1 : u_T := fun k => match k with
  | 0 => ("TwoTongues", "tape", "[B", true)
  | 1 => ("TwoTongues", "taped", "I", false)
  | 2 => ("TwoTongues", "faultKind", "I", false)
  | 3 => ("TwoTongues", "faultPlace", "I", false)
  | 4 => ("TwoTongues", "keptMany", "I", false)
  | 5 => ("TwoTongues", "number", "I", false)
  | 6 => ("TwoTongues", "imageNumber", "I", false)
  | 7 => ("TwoTongues", "reader", "LTwoTongues$Reader;", true)
  | 8 => ("TwoTongues", "street", "LTwoTongues$Street;", false)
  | 9 => ("TwoTongues", "kinds", "[LTwoTongues$Kind;", true)
  | 10 => ("TwoTongues", "now", "LTwoTongues$State;", true)
  | 11 => ("TwoTongues", "image", "LTwoTongues$State;", true)
  | 12 => ("TwoTongues", "kept", "[LTwoTongues$State;", true)
  | 13 => ("TwoTongues", "names", "[J", true)
  | 14 => ("TwoTongues", "hasImage", "Z", false)
  | 15 => ("TwoTongues", "waysFrom", "[J", true)
  | 16 => ("TwoTongues", "worthFrom", "[I", true)
  | 17 => ("TwoTongues", "nets", "[LTwoTongues$Net;", true)
  | 18 => ("TwoTongues", "yet", "[I", true)
  | 19 => ("TwoTongues", "sought", "LTwoTongues$Row;", true)
  | 20 => ("TwoTongues", "soughtMany", "I", false)
  | 21 => ("TwoTongues", "walked", "LTwoTongues$Row;", true)
  | 22 => ("TwoTongues", "found", "J", false)
  | 23 => ("TwoTongues", "many", "I", false)
  | 24 => ("TwoTongues", "free", "LTwoTongues$Row;", true)
  | 25 => ("TwoTongues", "takes", "[I", true)
  | 26 => ("TwoTongues", "bestTakes", "[I", true)
  | _ => ("TwoTongues", "fewest", "I", false)
def tyX1 : Nat → FieldType := fun k => match k with
  | 0 => .array .byte
  | 1 => .int
  | 2 => .int
  | 3 => .int
  | 4 => .int
  | 5 => .int
  | 6 => .int
  | 7 => .object "TwoTongues$Reader"
  | 8 => .object "TwoTongues$Street"
  | 9 => .array (.object "TwoTongues$Kind")
  | 10 => .object "TwoTongues$State"
  | 11 => .object "TwoTongues$State"
  | 12 => .array (.object "TwoTongues$State")
  | 13 => .array .long
  | 14 => .boolean
  | 15 => .array .long
  | 16 => .array .int
  | 17 => .array (.object "TwoTongues$Net")
  | 18 => .array .int
  | 19 => .object "TwoTongues$Row"
  | 20 => .int
  | 21 => .object "TwoTongues$Row"
  | 22 => .long
  | 23 => .int
  | 24 => .object "TwoTongues$Row"
  | 25 => .array .int
  | 26 => .array .int
  | _ => .int
abbrev wsX10 : List Cond := u_ws RX1 TX1 28
theorem nmX1 : ∀ a, a < 28 → ∀ b, b < 28 → a ≠ b → (TX1 a).2.1 ≠ (TX1 b).2.1 := by decide +kernel
theorem tyX1_ok : ∀ k, k < 28 → parseFieldDescriptor (TX1 k).2.2.1 = some (tyX1 k) := by decide +kernel
abbrev cX1_init : ByteArray := prog_1_method_3_code
def yX1_init : MethodName := ⟨RX1, "<init>", "()V"⟩
abbrev cX1_feed : ByteArray := prog_1_method_4_code
def yX1_feed : MethodName := ⟨RX1, "feed", "(IIIII)I"⟩
abbrev cX1_put : ByteArray := prog_1_method_5_code
def yX1_put : MethodName := ⟨RX1, "put", "(I)V"⟩
abbrev cX1_text : ByteArray := prog_1_method_6_code
def yX1_text : MethodName := ⟨RX1, "text", "(I)I"⟩
abbrev cX1_in : ByteArray := prog_1_method_1_code
def yX1_in : MethodName := ⟨RX1, "in", "(JJJ)Z"⟩
abbrev cX1_fault : ByteArray := prog_1_method_7_code
def yX1_fault : MethodName := ⟨RX1, "fault", "(I)I"⟩
abbrev cX1_named : ByteArray := prog_1_method_8_code
def yX1_named : MethodName := ⟨RX1, "named", "(II)I"⟩
abbrev cX1_letter : ByteArray := prog_1_method_15_code
def yX1_letter : MethodName := ⟨RX1, "letter", "(II)I"⟩
abbrev cX1_isLetter : ByteArray := prog_1_method_10_code
def yX1_isLetter : MethodName := ⟨RX1, "isLetter", "(II)Z"⟩
abbrev cX1_isSign : ByteArray := prog_1_method_9_code
def yX1_isSign : MethodName := ⟨RX1, "isSign", "(I)Z"⟩
abbrev cX1_word : ByteArray := prog_1_method_16_code
def yX1_word : MethodName := ⟨RX1, "word", "(III)I"⟩
abbrev cX1_isTongue : ByteArray := prog_1_method_11_code
def yX1_isTongue : MethodName := ⟨RX1, "isTongue", "(I)Z"⟩
abbrev cX1_ways : ByteArray := prog_1_method_21_code
def yX1_ways : MethodName := ⟨RX1, "ways", "(II)J"⟩
abbrev cX1_read : ByteArray := prog_1_method_19_code
def yX1_read : MethodName := ⟨RX1, "read", "(II)V"⟩
abbrev cX1_kindOf : ByteArray := prog_1_method_13_code
def yX1_kindOf : MethodName := ⟨RX1, "kindOf", "(I)LTwoTongues$Kind;"⟩
abbrev cX1_read_2 : ByteArray := prog_1_method_18_code
def yX1_read_2 : MethodName := ⟨RX1, "read", "(LTwoTongues$Store;LTwoTongues$Row;Z)V"⟩
abbrev cX1_stands : ByteArray := prog_1_method_17_code
def yX1_stands : MethodName := ⟨RX1, "stands", "(LTwoTongues$Store;ILTwoTongues$Row;ZI)Z"⟩
abbrev cX1_worth : ByteArray := prog_1_method_22_code
def yX1_worth : MethodName := ⟨RX1, "worth", "(II)I"⟩
abbrev cX1_said : ByteArray := prog_1_method_23_code
def yX1_said : MethodName := ⟨RX1, "said", "(III)I"⟩
abbrev cX1_says : ByteArray := prog_1_method_25_code
def yX1_says : MethodName := ⟨RX1, "says", "(III)I"⟩
abbrev cX1_isDay : ByteArray := prog_1_method_12_code
def yX1_isDay : MethodName := ⟨RX1, "isDay", "(I)Z"⟩
abbrev cX1_isSaid : ByteArray := prog_1_method_24_code
def yX1_isSaid : MethodName := ⟨RX1, "isSaid", "(III)Z"⟩
abbrev cX1_nights : ByteArray := prog_1_method_27_code
def yX1_nights : MethodName := ⟨RX1, "nights", "(I)I"⟩
abbrev cX1_draw : ByteArray := prog_1_method_26_code
def yX1_draw : MethodName := ⟨RX1, "draw", "(I)I"⟩
abbrev cX1_put_2 : ByteArray := prog_1_method_29_code
def yX1_put_2 : MethodName := ⟨RX1, "put", "(III)I"⟩
abbrev cX1_keepNow : ByteArray := prog_1_method_28_code
def yX1_keepNow : MethodName := ⟨RX1, "keepNow", "()V"⟩
abbrev cX1_lose : ByteArray := prog_1_method_30_code
def yX1_lose : MethodName := ⟨RX1, "lose", "(II)Z"⟩
abbrev cX1_coin : ByteArray := prog_1_method_32_code
def yX1_coin : MethodName := ⟨RX1, "coin", "(III)I"⟩
abbrev cX1_isWord : ByteArray := prog_1_method_31_code
def yX1_isWord : MethodName := ⟨RX1, "isWord", "(I)Z"⟩
abbrev cX1_serving : ByteArray := prog_1_method_43_code
def yX1_serving : MethodName := ⟨RX1, "serving", "(II)I"⟩
abbrev cX1_isKind : ByteArray := prog_1_method_39_code
def yX1_isKind : MethodName := ⟨RX1, "isKind", "(I)Z"⟩
abbrev cX1_isLength : ByteArray := prog_1_method_40_code
def yX1_isLength : MethodName := ⟨RX1, "isLength", "(I)Z"⟩
abbrev cX1_layFree : ByteArray := prog_1_method_41_code
def yX1_layFree : MethodName := ⟨RX1, "layFree", "(II)V"⟩
abbrev cX1_lay : ByteArray := prog_1_method_34_code
def yX1_lay : MethodName := ⟨RX1, "lay", "(LTwoTongues$Row;LTwoTongues$Kind;)V"⟩
abbrev cX1_at : ByteArray := prog_1_method_33_code
def yX1_at : MethodName := ⟨RX1, "at", "(III)I"⟩
abbrev cX1_least : ByteArray := prog_1_method_35_code
def yX1_least : MethodName := ⟨RX1, "least", "(IIII)I"⟩
abbrev cX1_walks : ByteArray := prog_1_method_38_code
def yX1_walks : MethodName := ⟨RX1, "walks", "(I)I"⟩
abbrev cX1_least_2 : ByteArray := prog_1_method_36_code
def yX1_least_2 : MethodName := ⟨RX1, "least", "(IJJ)I"⟩
abbrev cX1_walk : ByteArray := prog_1_method_37_code
def yX1_walk : MethodName := ⟨RX1, "walk", "(IJJI)V"⟩
abbrev cX1_orMany : ByteArray := prog_1_method_42_code
def yX1_orMany : MethodName := ⟨RX1, "orMany", "(I)I"⟩
abbrev cX1_serves : ByteArray := prog_1_method_45_code
def yX1_serves : MethodName := ⟨RX1, "serves", "(III)J"⟩
abbrev cX1_nth : ByteArray := prog_1_method_44_code
def yX1_nth : MethodName := ⟨RX1, "nth", "(I)J"⟩
abbrev cX1_lightest : ByteArray := prog_1_method_46_code
def yX1_lightest : MethodName := ⟨RX1, "lightest", "(II)I"⟩
abbrev cX1_light : ByteArray := prog_1_method_47_code
def yX1_light : MethodName := ⟨RX1, "light", "(II)J"⟩
abbrev cX1_charred : ByteArray := prog_1_method_48_code
def yX1_charred : MethodName := ⟨RX1, "charred", "(I)I"⟩
abbrev cX1_filled : ByteArray := prog_1_method_49_code
def yX1_filled : MethodName := ⟨RX1, "filled", "(II)J"⟩
abbrev cX1_told : ByteArray := prog_1_method_51_code
def yX1_told : MethodName := ⟨RX1, "told", "(II)I"⟩
abbrev cX1_toldBy : ByteArray := prog_1_method_50_code
def yX1_toldBy : MethodName := ⟨RX1, "toldBy", "(II)I"⟩
abbrev cX1_serves_2 : ByteArray := prog_1_method_20_code
def yX1_serves_2 : MethodName := ⟨RX1, "serves", "(LTwoTongues$Row;LTwoTongues$Kind;)Z"⟩
abbrev cX1_sure : ByteArray := prog_1_method_52_code
def yX1_sure : MethodName := ⟨RX1, "sure", "(I)I"⟩
abbrev cX1_broken : ByteArray := prog_1_method_57_code
def yX1_broken : MethodName := ⟨RX1, "broken", "()I"⟩
abbrev cX1_keepOwn : ByteArray := prog_1_method_56_code
def yX1_keepOwn : MethodName := ⟨RX1, "keepOwn", "()V"⟩
abbrev cX1_isAgreed : ByteArray := prog_1_method_54_code
def yX1_isAgreed : MethodName := ⟨RX1, "isAgreed", "(I)Z"⟩
abbrev cX1_rowOf : ByteArray := prog_1_method_53_code
def yX1_rowOf : MethodName := ⟨RX1, "rowOf", "(I)LTwoTongues$Row;"⟩
abbrev cX1_renamed : ByteArray := prog_1_method_60_code
def yX1_renamed : MethodName := ⟨RX1, "renamed", "()I"⟩
abbrev cX1_layRenamed : ByteArray := prog_1_method_59_code
def yX1_layRenamed : MethodName := ⟨RX1, "layRenamed", "()V"⟩
abbrev cX1_rename : ByteArray := prog_1_method_58_code
def yX1_rename : MethodName := ⟨RX1, "rename", "(III)V"⟩
abbrev cX1_areAgreed : ByteArray := prog_1_method_55_code
def yX1_areAgreed : MethodName := ⟨RX1, "areAgreed", "(I)Z"⟩
abbrev cX1_renames : ByteArray := prog_1_method_61_code
def yX1_renames : MethodName := ⟨RX1, "renames", "(I)I"⟩
abbrev cX1_fine : ByteArray := prog_1_method_63_code
def yX1_fine : MethodName := ⟨RX1, "fine", "(II)I"⟩
abbrev cX1_fineOf : ByteArray := prog_1_method_62_code
def yX1_fineOf : MethodName := ⟨RX1, "fineOf", "(II)I"⟩
abbrev cX1_sure_2 : ByteArray := prog_1_method_2_code
def yX1_sure_2 : MethodName := ⟨RX1, "sure", "(J)J"⟩
abbrev cX1_bought : ByteArray := prog_1_method_64_code
def yX1_bought : MethodName := ⟨RX1, "bought", "(II)I"⟩
abbrev cX1_undo : ByteArray := prog_1_method_65_code
def yX1_undo : MethodName := ⟨RX1, "undo", "()I"⟩
abbrev cX1_keep : ByteArray := prog_1_method_66_code
def yX1_keep : MethodName := ⟨RX1, "keep", "()I"⟩
abbrev cX1_back : ByteArray := prog_1_method_67_code
def yX1_back : MethodName := ⟨RX1, "back", "()I"⟩
abbrev cX1_count : ByteArray := prog_1_method_68_code
def yX1_count : MethodName := ⟨RX1, "count", "(I)I"⟩
abbrev cX1_look : ByteArray := prog_1_method_14_code
def yX1_look : MethodName := ⟨RX1, "look", "(II)I"⟩
/-! TwoTongues$State -/
def RX10 : String := "TwoTongues$State"
def TX10 : u_T := fun k => match k with
  | 0 => ("TwoTongues$State", "stores", "[LTwoTongues$Store;", true)
  | 1 => ("TwoTongues$State", "rows", "[LTwoTongues$Row;", true)
  | 2 => ("TwoTongues$State", "day", "I", false)
  | 3 => ("TwoTongues$State", "purse", "I", false)
  | _ => ("TwoTongues$State", "this$0", "LTwoTongues;", true)
def tyX10 : Nat → FieldType := fun k => match k with
  | 0 => .array (.object "TwoTongues$Store")
  | 1 => .array (.object "TwoTongues$Row")
  | 2 => .int
  | 3 => .int
  | _ => .object "TwoTongues"
abbrev wsX100 : List Cond := u_ws RX10 TX10 5
theorem nmX10 : ∀ a, a < 5 → ∀ b, b < 5 → a ≠ b → (TX10 a).2.1 ≠ (TX10 b).2.1 := by decide +kernel
theorem tyX10_ok : ∀ k, k < 5 → parseFieldDescriptor (TX10 k).2.2.1 = some (tyX10 k) := by decide +kernel
abbrev cX10_init : ByteArray := prog_16_method_1_code
def yX10_init : MethodName := ⟨RX10, "<init>", "(LTwoTongues;)V"⟩
abbrev cX10_begin : ByteArray := prog_16_method_2_code
def yX10_begin : MethodName := ⟨RX10, "begin", "()V"⟩
abbrev cX10_become : ByteArray := prog_16_method_3_code
def yX10_become : MethodName := ⟨RX10, "become", "(LTwoTongues$State;)V"⟩
/-! TwoTongues$Row -/
def RX11 : String := "TwoTongues$Row"
def TX11 : u_T := fun k => match k with
  | 0 => ("TwoTongues$Row", "letters", "[I", true)
  | _ => ("TwoTongues$Row", "many", "I", false)
def tyX11 : Nat → FieldType := fun k => match k with
  | 0 => .array .int
  | _ => .int
abbrev wsX110 : List Cond := u_ws RX11 TX11 2
theorem nmX11 : ∀ a, a < 2 → ∀ b, b < 2 → a ≠ b → (TX11 a).2.1 ≠ (TX11 b).2.1 := by decide +kernel
theorem tyX11_ok : ∀ k, k < 2 → parseFieldDescriptor (TX11 k).2.2.1 = some (tyX11 k) := by decide +kernel
abbrev cX11_init : ByteArray := prog_13_method_1_code
def yX11_init : MethodName := ⟨RX11, "<init>", "()V"⟩
abbrev cX11_become : ByteArray := prog_13_method_2_code
def yX11_become : MethodName := ⟨RX11, "become", "(LTwoTongues$Row;)V"⟩
abbrev cX11_code : ByteArray := prog_13_method_4_code
def yX11_code : MethodName := ⟨RX11, "code", "()J"⟩
abbrev cX11_lost : ByteArray := prog_13_method_3_code
def yX11_lost : MethodName := ⟨RX11, "lost", "()I"⟩
/-! TwoTongues$Net -/
def RX12 : String := "TwoTongues$Net"
def TX12 : u_T := fun k => match k with
  | 0 => ("TwoTongues$Net", "store", "LTwoTongues$Store;", false)
  | 1 => ("TwoTongues$Net", "isTurned", "Z", false)
  | _ => ("TwoTongues$Net", "this$0", "LTwoTongues;", true)
def tyX12 : Nat → FieldType := fun k => match k with
  | 0 => .object "TwoTongues$Store"
  | 1 => .boolean
  | _ => .object "TwoTongues"
abbrev wsX120 : List Cond := u_ws RX12 TX12 3
theorem nmX12 : ∀ a, a < 3 → ∀ b, b < 3 → a ≠ b → (TX12 a).2.1 ≠ (TX12 b).2.1 := by decide +kernel
theorem tyX12_ok : ∀ k, k < 3 → parseFieldDescriptor (TX12 k).2.2.1 = some (tyX12 k) := by decide +kernel
abbrev cX12_init : ByteArray := prog_7_method_1_code
def yX12_init : MethodName := ⟨RX12, "<init>", "(LTwoTongues;)V"⟩
abbrev cX12_lay : ByteArray := prog_7_method_2_code
def yX12_lay : MethodName := ⟨RX12, "lay", "(LTwoTongues$Store;Z)V"⟩
abbrev cX12_only : ByteArray := prog_7_method_7_code
def yX12_only : MethodName := ⟨RX12, "only", "(I)I"⟩
abbrev cX12_letter : ByteArray := prog_7_method_3_code
def yX12_letter : MethodName := ⟨RX12, "letter", "(II)I"⟩
abbrev cX12_goes : ByteArray := prog_7_method_5_code
def yX12_goes : MethodName := ⟨RX12, "goes", "(III)I"⟩
abbrev cX12_placeOf : ByteArray := prog_7_method_4_code
def yX12_placeOf : MethodName := ⟨RX12, "placeOf", "(II)I"⟩
abbrev cX12_goes_2 : ByteArray := prog_7_method_6_code
def yX12_goes_2 : MethodName := ⟨RX12, "goes", "(JI)J"⟩
/-! TwoTonguesModel -/
def RX13 : String := "TwoTonguesModel"
def TX13 : u_T := fun k => match k with
  | 0 => ("TwoTonguesModel", "tape", "[I", true)
  | 1 => ("TwoTonguesModel", "tapeSize", "I", false)
  | 2 => ("TwoTonguesModel", "thrown", "I", false)
  | 3 => ("TwoTonguesModel", "words", "[I", true)
  | 4 => ("TwoTonguesModel", "fault", "I", false)
  | 5 => ("TwoTonguesModel", "faultPlace", "I", false)
  | 6 => ("TwoTonguesModel", "stop", "I", false)
  | 7 => ("TwoTonguesModel", "next", "I", false)
  | 8 => ("TwoTonguesModel", "kind", "I", false)
  | 9 => ("TwoTonguesModel", "which", "I", false)
  | 10 => ("TwoTonguesModel", "at", "I", false)
  | 11 => ("TwoTonguesModel", "got", "I", false)
  | 12 => ("TwoTonguesModel", "signs", "I", false)
  | 13 => ("TwoTonguesModel", "corners", "I", false)
  | 14 => ("TwoTonguesModel", "feasts", "I", false)
  | 15 => ("TwoTonguesModel", "mays", "I", false)
  | 16 => ("TwoTonguesModel", "knots", "I", false)
  | 17 => ("TwoTonguesModel", "seedTold", "I", false)
  | 18 => ("TwoTonguesModel", "purseTold", "I", false)
  | 19 => ("TwoTonguesModel", "lawTold", "Z", false)
  | 20 => ("TwoTonguesModel", "signsRead", "I", false)
  | 21 => ("TwoTonguesModel", "cornersRead", "I", false)
  | 22 => ("TwoTonguesModel", "feastsRead", "I", false)
  | 23 => ("TwoTonguesModel", "maysRead", "I", false)
  | 24 => ("TwoTonguesModel", "knotsRead", "I", false)
  | 25 => ("TwoTonguesModel", "seedRead", "I", false)
  | 26 => ("TwoTonguesModel", "purseRead", "I", false)
  | 27 => ("TwoTonguesModel", "lawRead", "Z", false)
  | 28 => ("TwoTonguesModel", "purseSaid", "Z", false)
  | 29 => ("TwoTonguesModel", "seedSaid", "Z", false)
  | 30 => ("TwoTonguesModel", "store", "[I", true)
  | 31 => ("TwoTonguesModel", "storeNow", "[I", true)
  | 32 => ("TwoTonguesModel", "wordOf", "[I", true)
  | 33 => ("TwoTonguesModel", "worthOf", "[I", true)
  | 34 => ("TwoTonguesModel", "signName", "[I", true)
  | 35 => ("TwoTonguesModel", "signKind", "[I", true)
  | 36 => ("TwoTonguesModel", "signLong", "[I", true)
  | 37 => ("TwoTonguesModel", "signRow", "[I", true)
  | 38 => ("TwoTonguesModel", "corner", "[I", true)
  | 39 => ("TwoTonguesModel", "feast", "[I", true)
  | 40 => ("TwoTonguesModel", "mayLong", "[I", true)
  | 41 => ("TwoTonguesModel", "mayRow", "[I", true)
  | 42 => ("TwoTonguesModel", "weight", "[I", true)
  | 43 => ("TwoTonguesModel", "knot", "[I", true)
  | 44 => ("TwoTonguesModel", "part", "[I", true)
  | 45 => ("TwoTonguesModel", "other", "[I", true)
  | 46 => ("TwoTonguesModel", "wait", "[I", true)
  | 47 => ("TwoTonguesModel", "held", "[I", true)
  | 48 => ("TwoTonguesModel", "waits", "I", false)
  | 49 => ("TwoTonguesModel", "helds", "I", false)
  | 50 => ("TwoTonguesModel", "brackets", "I", false)
  | 51 => ("TwoTonguesModel", "counted", "I", false)
  | 52 => ("TwoTonguesModel", "wants", "Z", false)
  | 53 => ("TwoTonguesModel", "mayNot", "Z", false)
  | 54 => ("TwoTonguesModel", "names", "[J", true)
  | 55 => ("TwoTonguesModel", "value", "[J", true)
  | 56 => ("TwoTonguesModel", "isError", "Z", false)
  | 57 => ("TwoTonguesModel", "day", "I", false)
  | 58 => ("TwoTonguesModel", "purse", "I", false)
  | 59 => ("TwoTonguesModel", "drawn", "J", false)
  | 60 => ("TwoTonguesModel", "row", "[I", true)
  | 61 => ("TwoTonguesModel", "met", "[I", true)
  | 62 => ("TwoTonguesModel", "metMany", "I", false)
  | 63 => ("TwoTonguesModel", "hasGap", "Z", false)
  | 64 => ("TwoTonguesModel", "waysFrom", "[J", true)
  | 65 => ("TwoTonguesModel", "bestFrom", "[I", true)
  | 66 => ("TwoTonguesModel", "undos", "I", false)
  | 67 => ("TwoTonguesModel", "undo", "[I", true)
  | 68 => ("TwoTonguesModel", "rowMany", "I", false)
  | 69 => ("TwoTonguesModel", "rowKind", "I", false)
  | 70 => ("TwoTonguesModel", "fixed", "[I", true)
  | 71 => ("TwoTonguesModel", "least", "[I", true)
  | 72 => ("TwoTonguesModel", "atEast", "[Z", true)
  | 73 => ("TwoTonguesModel", "atWest", "[Z", true)
  | 74 => ("TwoTonguesModel", "tried", "[I", true)
  | 75 => ("TwoTonguesModel", "rows", "I", false)
  | 76 => ("TwoTonguesModel", "rowAsked", "J", false)
  | 77 => ("TwoTonguesModel", "take", "[I", true)
  | 78 => ("TwoTonguesModel", "takeBest", "[I", true)
  | 79 => ("TwoTonguesModel", "takes", "I", false)
  | 80 => ("TwoTonguesModel", "fits", "[Z", true)
  | 81 => ("TwoTonguesModel", "hasImage", "Z", false)
  | 82 => ("TwoTonguesModel", "imageDay", "I", false)
  | 83 => ("TwoTonguesModel", "imagePurse", "I", false)
  | 84 => ("TwoTonguesModel", "imageDrawn", "J", false)
  | 85 => ("TwoTonguesModel", "imageRow", "[I", true)
  | 86 => ("TwoTonguesModel", "imageStore", "[I", true)
  | 87 => ("TwoTonguesModel", "imageWord", "[I", true)
  | _ => ("TwoTonguesModel", "imageWorth", "[I", true)
def tyX13 : Nat → FieldType := fun k => match k with
  | 0 => .array .int
  | 1 => .int
  | 2 => .int
  | 3 => .array .int
  | 4 => .int
  | 5 => .int
  | 6 => .int
  | 7 => .int
  | 8 => .int
  | 9 => .int
  | 10 => .int
  | 11 => .int
  | 12 => .int
  | 13 => .int
  | 14 => .int
  | 15 => .int
  | 16 => .int
  | 17 => .int
  | 18 => .int
  | 19 => .boolean
  | 20 => .int
  | 21 => .int
  | 22 => .int
  | 23 => .int
  | 24 => .int
  | 25 => .int
  | 26 => .int
  | 27 => .boolean
  | 28 => .boolean
  | 29 => .boolean
  | 30 => .array .int
  | 31 => .array .int
  | 32 => .array .int
  | 33 => .array .int
  | 34 => .array .int
  | 35 => .array .int
  | 36 => .array .int
  | 37 => .array .int
  | 38 => .array .int
  | 39 => .array .int
  | 40 => .array .int
  | 41 => .array .int
  | 42 => .array .int
  | 43 => .array .int
  | 44 => .array .int
  | 45 => .array .int
  | 46 => .array .int
  | 47 => .array .int
  | 48 => .int
  | 49 => .int
  | 50 => .int
  | 51 => .int
  | 52 => .boolean
  | 53 => .boolean
  | 54 => .array .long
  | 55 => .array .long
  | 56 => .boolean
  | 57 => .int
  | 58 => .int
  | 59 => .long
  | 60 => .array .int
  | 61 => .array .int
  | 62 => .int
  | 63 => .boolean
  | 64 => .array .long
  | 65 => .array .int
  | 66 => .int
  | 67 => .array .int
  | 68 => .int
  | 69 => .int
  | 70 => .array .int
  | 71 => .array .int
  | 72 => .array .boolean
  | 73 => .array .boolean
  | 74 => .array .int
  | 75 => .int
  | 76 => .long
  | 77 => .array .int
  | 78 => .array .int
  | 79 => .int
  | 80 => .array .boolean
  | 81 => .boolean
  | 82 => .int
  | 83 => .int
  | 84 => .long
  | 85 => .array .int
  | 86 => .array .int
  | 87 => .array .int
  | _ => .array .int
abbrev wsX130 : List Cond := u_ws RX13 TX13 89
theorem nmX13 : ∀ a, a < 89 → ∀ b, b < 89 → a ≠ b → (TX13 a).2.1 ≠ (TX13 b).2.1 := by decide +kernel
theorem tyX13_ok : ∀ k, k < 89 → parseFieldDescriptor (TX13 k).2.2.1 = some (tyX13 k) := by decide +kernel
abbrev cX13_init : ByteArray := prog_22_method_1_code
def yX13_init : MethodName := ⟨RX13, "<init>", "()V"⟩
abbrev cX13_plain : ByteArray := prog_22_method_17_code
def yX13_plain : MethodName := ⟨RX13, "plain", "()V"⟩
abbrev cX13_keepText : ByteArray := prog_22_method_19_code
def yX13_keepText : MethodName := ⟨RX13, "keepText", "()V"⟩
abbrev cX13_copies : ByteArray := prog_22_method_18_code
def yX13_copies : MethodName := ⟨RX13, "copies", "([II)V"⟩
abbrev cX13_begin : ByteArray := prog_22_method_48_code
def yX13_begin : MethodName := ⟨RX13, "begin", "()V"⟩
abbrev cX13_thrown : ByteArray := prog_22_method_2_code
def yX13_thrown : MethodName := ⟨RX13, "thrown", "()I"⟩
abbrev cX13_feed : ByteArray := prog_22_method_3_code
def yX13_feed : MethodName := ⟨RX13, "feed", "(IIIII)I"⟩
abbrev cX13_text : ByteArray := prog_22_method_31_code
def yX13_text : MethodName := ⟨RX13, "text", "(I)I"⟩
abbrev cX13_token : ByteArray := prog_22_method_10_code
def yX13_token : MethodName := ⟨RX13, "token", "()V"⟩
abbrev cX13_isSmall : ByteArray := prog_22_method_8_code
def yX13_isSmall : MethodName := ⟨RX13, "isSmall", "(I)Z"⟩
abbrev cX13_wordAt : ByteArray := prog_22_method_7_code
def yX13_wordAt : MethodName := ⟨RX13, "wordAt", "(II)I"⟩
abbrev cX13_packed : ByteArray := prog_22_method_12_code
def yX13_packed : MethodName := ⟨RX13, "packed", "(II)I"⟩
abbrev cX13_isDigit : ByteArray := prog_22_method_9_code
def yX13_isDigit : MethodName := ⟨RX13, "isDigit", "(I)Z"⟩
abbrev cX13_signToken : ByteArray := prog_22_method_11_code
def yX13_signToken : MethodName := ⟨RX13, "signToken", "()V"⟩
abbrev cX13_lineRead : ByteArray := prog_22_method_30_code
def yX13_lineRead : MethodName := ⟨RX13, "lineRead", "()Z"⟩
abbrev cX13_wrong : ByteArray := prog_22_method_6_code
def yX13_wrong : MethodName := ⟨RX13, "wrong", "(I)Z"⟩
abbrev cX13_wordLine : ByteArray := prog_22_method_23_code
def yX13_wordLine : MethodName := ⟨RX13, "wordLine", "(I)Z"⟩
abbrev cX13_find : ByteArray := prog_22_method_20_code
def yX13_find : MethodName := ⟨RX13, "find", "([IIII)I"⟩
abbrev cX13_number : ByteArray := prog_22_method_15_code
def yX13_number : MethodName := ⟨RX13, "number", "(II)Z"⟩
abbrev cX13_isIn : ByteArray := prog_22_method_4_code
def yX13_isIn : MethodName := ⟨RX13, "isIn", "(III)Z"⟩
abbrev cX13_signLine : ByteArray := prog_22_method_25_code
def yX13_signLine : MethodName := ⟨RX13, "signLine", "()Z"⟩
abbrev cX13_rowRead : ByteArray := prog_22_method_24_code
def yX13_rowRead : MethodName := ⟨RX13, "rowRead", "([II)Z"⟩
abbrev cX13_longOf : ByteArray := prog_22_method_21_code
def yX13_longOf : MethodName := ⟨RX13, "longOf", "(I)I"⟩
abbrev cX13_letterOf : ByteArray := prog_22_method_22_code
def yX13_letterOf : MethodName := ⟨RX13, "letterOf", "(II)I"⟩
abbrev cX13_cornerLine : ByteArray := prog_22_method_27_code
def yX13_cornerLine : MethodName := ⟨RX13, "cornerLine", "()Z"⟩
abbrev cX13_signThere : ByteArray := prog_22_method_26_code
def yX13_signThere : MethodName := ⟨RX13, "signThere", "(I)Z"⟩
abbrev cX13_weighLine : ByteArray := prog_22_method_28_code
def yX13_weighLine : MethodName := ⟨RX13, "weighLine", "()Z"⟩
abbrev cX13_feastLine : ByteArray := prog_22_method_29_code
def yX13_feastLine : MethodName := ⟨RX13, "feastLine", "()Z"⟩
abbrev cX13_isKey : ByteArray := prog_22_method_13_code
def yX13_isKey : MethodName := ⟨RX13, "isKey", "(I)Z"⟩
abbrev cX13_sumRead : ByteArray := prog_22_method_43_code
def yX13_sumRead : MethodName := ⟨RX13, "sumRead", "()Z"⟩
abbrev cX13_isSign : ByteArray := prog_22_method_14_code
def yX13_isSign : MethodName := ⟨RX13, "isSign", "(I)Z"⟩
abbrev cX13_leafRead : ByteArray := prog_22_method_41_code
def yX13_leafRead : MethodName := ⟨RX13, "leafRead", "()Z"⟩
abbrev cX13_waitsFor : ByteArray := prog_22_method_39_code
def yX13_waitsFor : MethodName := ⟨RX13, "waitsFor", "(I)V"⟩
abbrev cX13_isCounted : ByteArray := prog_22_method_38_code
def yX13_isCounted : MethodName := ⟨RX13, "isCounted", "()Z"⟩
abbrev cX13_nameMet : ByteArray := prog_22_method_40_code
def yX13_nameMet : MethodName := ⟨RX13, "nameMet", "()I"⟩
abbrev cX13_grown : ByteArray := prog_22_method_35_code
def yX13_grown : MethodName := ⟨RX13, "grown", "(III)V"⟩
abbrev cX13_signs : ByteArray := prog_22_method_42_code
def yX13_signs : MethodName := ⟨RX13, "signs", "()Z"⟩
abbrev cX13_bind : ByteArray := prog_22_method_37_code
def yX13_bind : MethodName := ⟨RX13, "bind", "(I)V"⟩
abbrev cX13_rank : ByteArray := prog_22_method_34_code
def yX13_rank : MethodName := ⟨RX13, "rank", "(I)I"⟩
abbrev cX13_dropHeld : ByteArray := prog_22_method_36_code
def yX13_dropHeld : MethodName := ⟨RX13, "dropHeld", "()I"⟩
abbrev cX13_fault : ByteArray := prog_22_method_32_code
def yX13_fault : MethodName := ⟨RX13, "fault", "(I)I"⟩
abbrev cX13_named : ByteArray := prog_22_method_33_code
def yX13_named : MethodName := ⟨RX13, "named", "(II)I"⟩
abbrev cX13_look : ByteArray := prog_22_method_55_code
def yX13_look : MethodName := ⟨RX13, "look", "(II)I"⟩
abbrev cX13_isBoard : ByteArray := prog_22_method_49_code
def yX13_isBoard : MethodName := ⟨RX13, "isBoard", "(I)Z"⟩
abbrev cX13_fails : ByteArray := prog_22_method_54_code
def yX13_fails : MethodName := ⟨RX13, "fails", "(I)I"⟩
abbrev cX13_lostOf : ByteArray := prog_22_method_52_code
def yX13_lostOf : MethodName := ⟨RX13, "lostOf", "(I)I"⟩
abbrev cX13_ironOf : ByteArray := prog_22_method_53_code
def yX13_ironOf : MethodName := ⟨RX13, "ironOf", "(I)I"⟩
abbrev cX13_letter : ByteArray := prog_22_method_56_code
def yX13_letter : MethodName := ⟨RX13, "letter", "(II)I"⟩
abbrev cX13_isLetter : ByteArray := prog_22_method_50_code
def yX13_isLetter : MethodName := ⟨RX13, "isLetter", "(II)Z"⟩
abbrev cX13_word : ByteArray := prog_22_method_57_code
def yX13_word : MethodName := ⟨RX13, "word", "(III)I"⟩
abbrev cX13_isTongue : ByteArray := prog_22_method_51_code
def yX13_isTongue : MethodName := ⟨RX13, "isTongue", "(I)Z"⟩
abbrev cX13_ways : ByteArray := prog_22_method_63_code
def yX13_ways : MethodName := ⟨RX13, "ways", "(II)J"⟩
abbrev cX13_reads : ByteArray := prog_22_method_62_code
def yX13_reads : MethodName := ⟨RX13, "reads", "(II)V"⟩
abbrev cX13_isLeft : ByteArray := prog_22_method_58_code
def yX13_isLeft : MethodName := ⟨RX13, "isLeft", "(II)Z"⟩
abbrev cX13_layMet : ByteArray := prog_22_method_59_code
def yX13_layMet : MethodName := ⟨RX13, "layMet", "([IIIZ)V"⟩
abbrev cX13_layReadings : ByteArray := prog_22_method_61_code
def yX13_layReadings : MethodName := ⟨RX13, "layReadings", "(I)V"⟩
abbrev cX13_standsAt : ByteArray := prog_22_method_60_code
def yX13_standsAt : MethodName := ⟨RX13, "standsAt", "(II)Z"⟩
abbrev cX13_worth : ByteArray := prog_22_method_64_code
def yX13_worth : MethodName := ⟨RX13, "worth", "(II)I"⟩
abbrev cX13_said : ByteArray := prog_22_method_65_code
def yX13_said : MethodName := ⟨RX13, "said", "(III)I"⟩
abbrev cX13_says : ByteArray := prog_22_method_69_code
def yX13_says : MethodName := ⟨RX13, "says", "(III)I"⟩
abbrev cX13_isDay : ByteArray := prog_22_method_68_code
def yX13_isDay : MethodName := ⟨RX13, "isDay", "(I)Z"⟩
abbrev cX13_saysOn : ByteArray := prog_22_method_67_code
def yX13_saysOn : MethodName := ⟨RX13, "saysOn", "(III)Z"⟩
abbrev cX13_isCovered : ByteArray := prog_22_method_66_code
def yX13_isCovered : MethodName := ⟨RX13, "isCovered", "(II)Z"⟩
abbrev cX13_nights : ByteArray := prog_22_method_73_code
def yX13_nights : MethodName := ⟨RX13, "nights", "(I)I"⟩
abbrev cX13_number1 : ByteArray := prog_22_method_72_code
def yX13_number1 : MethodName := ⟨RX13, "number1", "(I)I"⟩
abbrev cX13_put : ByteArray := prog_22_method_74_code
def yX13_put : MethodName := ⟨RX13, "put", "(III)I"⟩
abbrev cX13_remember : ByteArray := prog_22_method_71_code
def yX13_remember : MethodName := ⟨RX13, "remember", "(III)V"⟩
abbrev cX13_lose : ByteArray := prog_22_method_75_code
def yX13_lose : MethodName := ⟨RX13, "lose", "(II)Z"⟩
abbrev cX13_coin : ByteArray := prog_22_method_77_code
def yX13_coin : MethodName := ⟨RX13, "coin", "(III)I"⟩
abbrev cX13_isName : ByteArray := prog_22_method_76_code
def yX13_isName : MethodName := ⟨RX13, "isName", "(I)Z"⟩
abbrev cX13_undo : ByteArray := prog_22_method_78_code
def yX13_undo : MethodName := ⟨RX13, "undo", "()I"⟩
abbrev cX13_serving : ByteArray := prog_22_method_95_code
def yX13_serving : MethodName := ⟨RX13, "serving", "(II)I"⟩
abbrev cX13_areRows : ByteArray := prog_22_method_92_code
def yX13_areRows : MethodName := ⟨RX13, "areRows", "(II)Z"⟩
abbrev cX13_anyLetters : ByteArray := prog_22_method_86_code
def yX13_anyLetters : MethodName := ⟨RX13, "anyLetters", "()V"⟩
abbrev cX13_layRows : ByteArray := prog_22_method_85_code
def yX13_layRows : MethodName := ⟨RX13, "layRows", "(II)V"⟩
abbrev cX13_slot : ByteArray := prog_22_method_82_code
def yX13_slot : MethodName := ⟨RX13, "slot", "(III)I"⟩
abbrev cX13_isSpot : ByteArray := prog_22_method_83_code
def yX13_isSpot : MethodName := ⟨RX13, "isSpot", "(II)Z"⟩
abbrev cX13_leastOf : ByteArray := prog_22_method_84_code
def yX13_leastOf : MethodName := ⟨RX13, "leastOf", "(III)I"⟩
abbrev cX13_letterTo : ByteArray := prog_22_method_79_code
def yX13_letterTo : MethodName := ⟨RX13, "letterTo", "(III)I"⟩
abbrev cX13_goes : ByteArray := prog_22_method_81_code
def yX13_goes : MethodName := ⟨RX13, "goes", "(IIII)I"⟩
abbrev cX13_behind : ByteArray := prog_22_method_80_code
def yX13_behind : MethodName := ⟨RX13, "behind", "(III)I"⟩
abbrev cX13_manyRows : ByteArray := prog_22_method_93_code
def yX13_manyRows : MethodName := ⟨RX13, "manyRows", "()I"⟩
abbrev cX13_layAll : ByteArray := prog_22_method_91_code
def yX13_layAll : MethodName := ⟨RX13, "layAll", "(II)V"⟩
abbrev cX13_step : ByteArray := prog_22_method_89_code
def yX13_step : MethodName := ⟨RX13, "step", "(II)I"⟩
abbrev cX13_layStep : ByteArray := prog_22_method_87_code
def yX13_layStep : MethodName := ⟨RX13, "layStep", "([ZIII)V"⟩
abbrev cX13_stillOf : ByteArray := prog_22_method_88_code
def yX13_stillOf : MethodName := ⟨RX13, "stillOf", "(I)I"⟩
abbrev cX13_rowTold : ByteArray := prog_22_method_90_code
def yX13_rowTold : MethodName := ⟨RX13, "rowTold", "(I)J"⟩
abbrev cX13_serves : ByteArray := prog_22_method_96_code
def yX13_serves : MethodName := ⟨RX13, "serves", "(III)J"⟩
abbrev cX13_rowAt : ByteArray := prog_22_method_94_code
def yX13_rowAt : MethodName := ⟨RX13, "rowAt", "(I)J"⟩
abbrev cX13_lightest : ByteArray := prog_22_method_97_code
def yX13_lightest : MethodName := ⟨RX13, "lightest", "(II)I"⟩
abbrev cX13_light : ByteArray := prog_22_method_98_code
def yX13_light : MethodName := ⟨RX13, "light", "(II)J"⟩
abbrev cX13_charred : ByteArray := prog_22_method_100_code
def yX13_charred : MethodName := ⟨RX13, "charred", "(I)I"⟩
abbrev cX13_layCharred : ByteArray := prog_22_method_99_code
def yX13_layCharred : MethodName := ⟨RX13, "layCharred", "(I)V"⟩
abbrev cX13_filled : ByteArray := prog_22_method_101_code
def yX13_filled : MethodName := ⟨RX13, "filled", "(II)J"⟩
abbrev cX13_told : ByteArray := prog_22_method_103_code
def yX13_told : MethodName := ⟨RX13, "told", "(II)I"⟩
abbrev cX13_toldBy : ByteArray := prog_22_method_102_code
def yX13_toldBy : MethodName := ⟨RX13, "toldBy", "(II)I"⟩
abbrev cX13_servesBy : ByteArray := prog_22_method_70_code
def yX13_servesBy : MethodName := ⟨RX13, "servesBy", "([IIII)Z"⟩
abbrev cX13_sure : ByteArray := prog_22_method_104_code
def yX13_sure : MethodName := ⟨RX13, "sure", "(I)I"⟩
abbrev cX13_broken : ByteArray := prog_22_method_109_code
def yX13_broken : MethodName := ⟨RX13, "broken", "()I"⟩
abbrev cX13_noTakes : ByteArray := prog_22_method_108_code
def yX13_noTakes : MethodName := ⟨RX13, "noTakes", "()V"⟩
abbrev cX13_firstBroken : ByteArray := prog_22_method_107_code
def yX13_firstBroken : MethodName := ⟨RX13, "firstBroken", "()I"⟩
abbrev cX13_isAgreed : ByteArray := prog_22_method_106_code
def yX13_isAgreed : MethodName := ⟨RX13, "isAgreed", "(I)Z"⟩
abbrev cX13_letterBy : ByteArray := prog_22_method_105_code
def yX13_letterBy : MethodName := ⟨RX13, "letterBy", "(II)I"⟩
abbrev cX13_renamed : ByteArray := prog_22_method_114_code
def yX13_renamed : MethodName := ⟨RX13, "renamed", "()I"⟩
abbrev cX13_layRenamed : ByteArray := prog_22_method_113_code
def yX13_layRenamed : MethodName := ⟨RX13, "layRenamed", "()V"⟩
abbrev cX13_takesNow : ByteArray := prog_22_method_111_code
def yX13_takesNow : MethodName := ⟨RX13, "takesNow", "()I"⟩
abbrev cX13_areTakes : ByteArray := prog_22_method_110_code
def yX13_areTakes : MethodName := ⟨RX13, "areTakes", "()Z"⟩
abbrev cX13_nextTakes : ByteArray := prog_22_method_112_code
def yX13_nextTakes : MethodName := ⟨RX13, "nextTakes", "()Z"⟩
abbrev cX13_renames : ByteArray := prog_22_method_115_code
def yX13_renames : MethodName := ⟨RX13, "renames", "(I)I"⟩
abbrev cX13_fine : ByteArray := prog_22_method_117_code
def yX13_fine : MethodName := ⟨RX13, "fine", "(II)I"⟩
abbrev cX13_fineOn : ByteArray := prog_22_method_116_code
def yX13_fineOn : MethodName := ⟨RX13, "fineOn", "(II)I"⟩
abbrev cX13_valueOf : ByteArray := prog_22_method_47_code
def yX13_valueOf : MethodName := ⟨RX13, "valueOf", "(I)J"⟩
abbrev cX13_bounded : ByteArray := prog_22_method_44_code
def yX13_bounded : MethodName := ⟨RX13, "bounded", "(J)J"⟩
abbrev cX13_times : ByteArray := prog_22_method_46_code
def yX13_times : MethodName := ⟨RX13, "times", "(JJ)J"⟩
abbrev cX13_compares : ByteArray := prog_22_method_45_code
def yX13_compares : MethodName := ⟨RX13, "compares", "(IJJ)Z"⟩
abbrev cX13_bought : ByteArray := prog_22_method_118_code
def yX13_bought : MethodName := ⟨RX13, "bought", "(II)I"⟩
abbrev cX13_isOf : ByteArray := prog_22_method_5_code
def yX13_isOf : MethodName := ⟨RX13, "isOf", "(II)Z"⟩
abbrev cX13_keep : ByteArray := prog_22_method_119_code
def yX13_keep : MethodName := ⟨RX13, "keep", "()I"⟩
abbrev cX13_back : ByteArray := prog_22_method_120_code
def yX13_back : MethodName := ⟨RX13, "back", "()I"⟩
abbrev cX13_count : ByteArray := prog_22_method_122_code
def yX13_count : MethodName := ⟨RX13, "count", "(I)I"⟩
abbrev cX13_allLost : ByteArray := prog_22_method_121_code
def yX13_allLost : MethodName := ⟨RX13, "allLost", "()I"⟩
/-! TwoTongues$Fault -/
def RX14 : String := "TwoTongues$Fault"
def TX14 : u_T := fun k => match k with
  | 0 => ("java/lang/Throwable", "cause", "Ljava/lang/Throwable;", false)
  | 1 => ("java/lang/Throwable", "stackTrace", "[Ljava/lang/StackTraceElement;", false)
  | 2 => ("java/lang/Throwable", "suppressedExceptions", "Ljava/util/List;", false)
  | 3 => ("java/lang/Throwable", "detailMessage", "Ljava/lang/String;", false)
  | 4 => ("java/lang/Throwable", "backtrace", "Ljava/lang/Object;", false)
  | 5 => ("java/lang/Throwable", "depth", "I", false)
  | 6 => ("TwoTongues$Fault", "kind", "I", true)
  | _ => ("TwoTongues$Fault", "place", "I", true)
def tyX14 : Nat → FieldType := fun k => match k with
  | 0 => .object "java/lang/Throwable"
  | 1 => .array (.object "java/lang/StackTraceElement")
  | 2 => .object "java/util/List"
  | 3 => .object "java/lang/String"
  | 4 => .object "java/lang/Object"
  | 5 => .int
  | 6 => .int
  | _ => .int
abbrev wsX140 : List Cond := u_ws RX14 TX14 8
theorem nmX14 : ∀ a, a < 8 → ∀ b, b < 8 → a ≠ b → (TX14 a).2.1 ≠ (TX14 b).2.1 := by decide +kernel
theorem tyX14_ok : ∀ k, k < 8 → parseFieldDescriptor (TX14 k).2.2.1 = some (tyX14 k) := by decide +kernel
abbrev cX14_init : ByteArray := prog_3_method_1_code
def yX14_init : MethodName := ⟨RX14, "<init>", "(II)V"⟩
/-! TwoTongues$Sign -/
def RX15 : String := "TwoTongues$Sign"
def TX15 : u_T := fun k => match k with
  | 0 => ("TwoTongues$Sign", "name", "I", true)
  | 1 => ("TwoTongues$Sign", "kind", "I", true)
  | _ => ("TwoTongues$Sign", "row", "LTwoTongues$Row;", true)
def tyX15 : Nat → FieldType := fun k => match k with
  | 0 => .int
  | 1 => .int
  | _ => .object "TwoTongues$Row"
abbrev wsX150 : List Cond := u_ws RX15 TX15 3
theorem nmX15 : ∀ a, a < 3 → ∀ b, b < 3 → a ≠ b → (TX15 a).2.1 ≠ (TX15 b).2.1 := by decide +kernel
theorem tyX15_ok : ∀ k, k < 3 → parseFieldDescriptor (TX15 k).2.2.1 = some (tyX15 k) := by decide +kernel
abbrev cX15_init : ByteArray := prog_15_method_1_code
def yX15_init : MethodName := ⟨RX15, "<init>", "(II)V"⟩
/-! TwoTongues$Part -/
def RX16 : String := "TwoTongues$Part"
abbrev cX16_init : ByteArray := prog_10_method_1_code
def yX16_init : MethodName := ⟨RX16, "<init>", "()V"⟩
/-! TwoTongues$Number -/
def RX17 : String := "TwoTongues$Number"
def TX17 : u_T := fun k => match k with
  | _ => ("TwoTongues$Number", "n", "I", true)
def tyX17 : Nat → FieldType := fun k => match k with
  | _ => .int
abbrev wsX170 : List Cond := u_ws RX17 TX17 1
theorem nmX17 : ∀ a, a < 1 → ∀ b, b < 1 → a ≠ b → (TX17 a).2.1 ≠ (TX17 b).2.1 := by decide +kernel
theorem tyX17_ok : ∀ k, k < 1 → parseFieldDescriptor (TX17 k).2.2.1 = some (tyX17 k) := by decide +kernel
abbrev cX17_init : ByteArray := prog_9_method_1_code
def yX17_init : MethodName := ⟨RX17, "<init>", "(I)V"⟩
abbrev cX17_of : ByteArray := prog_9_method_2_code
def yX17_of : MethodName := ⟨RX17, "of", "([J)J"⟩
/-! TwoTongues$Name -/
def RX18 : String := "TwoTongues$Name"
def TX18 : u_T := fun k => match k with
  | _ => ("TwoTongues$Name", "which", "I", true)
def tyX18 : Nat → FieldType := fun k => match k with
  | _ => .int
abbrev wsX180 : List Cond := u_ws RX18 TX18 1
theorem nmX18 : ∀ a, a < 1 → ∀ b, b < 1 → a ≠ b → (TX18 a).2.1 ≠ (TX18 b).2.1 := by decide +kernel
theorem tyX18_ok : ∀ k, k < 1 → parseFieldDescriptor (TX18 k).2.2.1 = some (tyX18 k) := by decide +kernel
abbrev cX18_init : ByteArray := prog_6_method_1_code
def yX18_init : MethodName := ⟨RX18, "<init>", "(I)V"⟩
abbrev cX18_of : ByteArray := prog_6_method_2_code
def yX18_of : MethodName := ⟨RX18, "of", "([J)J"⟩
/-! TwoTongues$Not -/
def RX19 : String := "TwoTongues$Not"
def TX19 : u_T := fun k => match k with
  | _ => ("TwoTongues$Not", "a", "LTwoTongues$Part;", true)
def tyX19 : Nat → FieldType := fun k => match k with
  | _ => .object "TwoTongues$Part"
abbrev wsX190 : List Cond := u_ws RX19 TX19 1
theorem nmX19 : ∀ a, a < 1 → ∀ b, b < 1 → a ≠ b → (TX19 a).2.1 ≠ (TX19 b).2.1 := by decide +kernel
theorem tyX19_ok : ∀ k, k < 1 → parseFieldDescriptor (TX19 k).2.2.1 = some (tyX19 k) := by decide +kernel
abbrev cX19_init : ByteArray := prog_8_method_1_code
def yX19_init : MethodName := ⟨RX19, "<init>", "(LTwoTongues$Part;)V"⟩
abbrev cX19_of : ByteArray := prog_8_method_2_code
def yX19_of : MethodName := ⟨RX19, "of", "([J)J"⟩
/-! TwoTongues$Reader -/
def RX2 : String := "TwoTongues$Reader"
def TX2 : u_T := fun k => match k with
  | 0 => ("TwoTongues$Reader", "at", "I", false)
  | 1 => ("TwoTongues$Reader", "size", "I", false)
  | 2 => ("TwoTongues$Reader", "place", "I", false)
  | 3 => ("TwoTongues$Reader", "sort", "I", false)
  | 4 => ("TwoTongues$Reader", "value", "I", false)
  | 5 => ("TwoTongues$Reader", "open", "I", false)
  | 6 => ("TwoTongues$Reader", "told", "I", false)
  | 7 => ("TwoTongues$Reader", "made", "LTwoTongues$Street;", false)
  | _ => ("TwoTongues$Reader", "this$0", "LTwoTongues;", true)
def tyX2 : Nat → FieldType := fun k => match k with
  | 0 => .int
  | 1 => .int
  | 2 => .int
  | 3 => .int
  | 4 => .int
  | 5 => .int
  | 6 => .int
  | 7 => .object "TwoTongues$Street"
  | _ => .object "TwoTongues"
abbrev wsX20 : List Cond := u_ws RX2 TX2 9
theorem nmX2 : ∀ a, a < 9 → ∀ b, b < 9 → a ≠ b → (TX2 a).2.1 ≠ (TX2 b).2.1 := by decide +kernel
theorem tyX2_ok : ∀ k, k < 9 → parseFieldDescriptor (TX2 k).2.2.1 = some (tyX2 k) := by decide +kernel
abbrev cX2_init : ByteArray := prog_12_method_1_code
def yX2_init : MethodName := ⟨RX2, "<init>", "(LTwoTongues;)V"⟩
abbrev cX2_read : ByteArray := prog_12_method_11_code
def yX2_read : MethodName := ⟨RX2, "read", "(I)LTwoTongues$Street;"⟩
abbrev cX2_next : ByteArray := prog_12_method_3_code
def yX2_next : MethodName := ⟨RX2, "next", "()V"⟩
abbrev cX2_here : ByteArray := prog_12_method_2_code
def yX2_here : MethodName := ⟨RX2, "here", "()I"⟩
abbrev cX2_word : ByteArray := prog_12_method_5_code
def yX2_word : MethodName := ⟨RX2, "word", "()I"⟩
abbrev cX2_name : ByteArray := prog_12_method_6_code
def yX2_name : MethodName := ⟨RX2, "name", "()V"⟩
abbrev cX2_sign : ByteArray := prog_12_method_4_code
def yX2_sign : MethodName := ⟨RX2, "sign", "()V"⟩
abbrev cX2_line : ByteArray := prog_12_method_13_code
def yX2_line : MethodName := ⟨RX2, "line", "()V"⟩
abbrev cX2_isWord : ByteArray := prog_12_method_8_code
def yX2_isWord : MethodName := ⟨RX2, "isWord", "(II)Z"⟩
abbrev cX2_wrong : ByteArray := prog_12_method_7_code
def yX2_wrong : MethodName := ⟨RX2, "wrong", "(I)LTwoTongues$Fault;"⟩
abbrev cX2_isFull : ByteArray := prog_12_method_12_code
def yX2_isFull : MethodName := ⟨RX2, "isFull", "(I)Z"⟩
abbrev cX2_storeLine : ByteArray := prog_12_method_14_code
def yX2_storeLine : MethodName := ⟨RX2, "storeLine", "(LTwoTongues$Store;)V"⟩
abbrev cX2_number : ByteArray := prog_12_method_10_code
def yX2_number : MethodName := ⟨RX2, "number", "(II)I"⟩
abbrev cX2_signLine : ByteArray := prog_12_method_16_code
def yX2_signLine : MethodName := ⟨RX2, "signLine", "()V"⟩
abbrev cX2_row : ByteArray := prog_12_method_15_code
def yX2_row : MethodName := ⟨RX2, "row", "(LTwoTongues$Row;)V"⟩
abbrev cX2_corner : ByteArray := prog_12_method_18_code
def yX2_corner : MethodName := ⟨RX2, "corner", "()V"⟩
abbrev cX2_ahead : ByteArray := prog_12_method_17_code
def yX2_ahead : MethodName := ⟨RX2, "ahead", "(I)I"⟩
abbrev cX2_weigh : ByteArray := prog_12_method_19_code
def yX2_weigh : MethodName := ⟨RX2, "weigh", "()V"⟩
abbrev cX2_feast : ByteArray := prog_12_method_20_code
def yX2_feast : MethodName := ⟨RX2, "feast", "()V"⟩
abbrev cX2_or : ByteArray := prog_12_method_22_code
def yX2_or : MethodName := ⟨RX2, "or", "()LTwoTongues$Part;"⟩
abbrev cX2_and : ByteArray := prog_12_method_23_code
def yX2_and : MethodName := ⟨RX2, "and", "()LTwoTongues$Part;"⟩
abbrev cX2_not : ByteArray := prog_12_method_24_code
def yX2_not : MethodName := ⟨RX2, "not", "()LTwoTongues$Part;"⟩
abbrev cX2_compare : ByteArray := prog_12_method_25_code
def yX2_compare : MethodName := ⟨RX2, "compare", "()LTwoTongues$Part;"⟩
abbrev cX2_sum : ByteArray := prog_12_method_26_code
def yX2_sum : MethodName := ⟨RX2, "sum", "()LTwoTongues$Part;"⟩
abbrev cX2_product : ByteArray := prog_12_method_27_code
def yX2_product : MethodName := ⟨RX2, "product", "()LTwoTongues$Part;"⟩
abbrev cX2_one : ByteArray := prog_12_method_28_code
def yX2_one : MethodName := ⟨RX2, "one", "()LTwoTongues$Part;"⟩
abbrev cX2_isSign : ByteArray := prog_12_method_9_code
def yX2_isSign : MethodName := ⟨RX2, "isSign", "(I)Z"⟩
abbrev cX2_knot : ByteArray := prog_12_method_21_code
def yX2_knot : MethodName := ⟨RX2, "knot", "()I"⟩
/-! TwoTongues$Two -/
def RX20 : String := "TwoTongues$Two"
def TX20 : u_T := fun k => match k with
  | 0 => ("TwoTongues$Not", "a", "LTwoTongues$Part;", true)
  | 1 => ("TwoTongues$Two", "sign", "I", true)
  | _ => ("TwoTongues$Two", "b", "LTwoTongues$Part;", true)
def tyX20 : Nat → FieldType := fun k => match k with
  | 0 => .object "TwoTongues$Part"
  | 1 => .int
  | _ => .object "TwoTongues$Part"
abbrev wsX200 : List Cond := u_ws RX20 TX20 3
theorem nmX20 : ∀ a, a < 3 → ∀ b, b < 3 → a ≠ b → (TX20 a).2.1 ≠ (TX20 b).2.1 := by decide +kernel
theorem tyX20_ok : ∀ k, k < 3 → parseFieldDescriptor (TX20 k).2.2.1 = some (tyX20 k) := by decide +kernel
abbrev cX20_init : ByteArray := prog_20_method_1_code
def yX20_init : MethodName := ⟨RX20, "<init>", "(ILTwoTongues$Part;LTwoTongues$Part;)V"⟩
abbrev cX20_of : ByteArray := prog_20_method_3_code
def yX20_of : MethodName := ⟨RX20, "of", "([J)J"⟩
abbrev cX20_times : ByteArray := prog_20_method_4_code
def yX20_times : MethodName := ⟨RX20, "times", "(JJ)J"⟩
abbrev cX20_is : ByteArray := prog_20_method_2_code
def yX20_is : MethodName := ⟨RX20, "is", "(Z)J"⟩
/-! TwoTongues$Street -/
def RX3 : String := "TwoTongues$Street"
def TX3 : u_T := fun k => match k with
  | 0 => ("TwoTongues$Street", "east", "LTwoTongues$Store;", true)
  | 1 => ("TwoTongues$Street", "west", "LTwoTongues$Store;", true)
  | 2 => ("TwoTongues$Street", "signs", "Ljava/util/ArrayList;", true)
  | 3 => ("TwoTongues$Street", "mays", "Ljava/util/ArrayList;", true)
  | 4 => ("TwoTongues$Street", "cornerA", "[I", true)
  | 5 => ("TwoTongues$Street", "atA", "[I", true)
  | 6 => ("TwoTongues$Street", "cornerB", "[I", true)
  | 7 => ("TwoTongues$Street", "atB", "[I", true)
  | 8 => ("TwoTongues$Street", "weigh", "[I", true)
  | 9 => ("TwoTongues$Street", "feastDay", "[I", true)
  | 10 => ("TwoTongues$Street", "feastTongue", "[I", true)
  | 11 => ("TwoTongues$Street", "law", "LTwoTongues$Part;", false)
  | 12 => ("TwoTongues$Street", "corners", "I", false)
  | 13 => ("TwoTongues$Street", "feasts", "I", false)
  | 14 => ("TwoTongues$Street", "purse", "I", false)
  | 15 => ("TwoTongues$Street", "seed", "I", false)
  | 16 => ("TwoTongues$Street", "knots", "I", false)
  | _ => ("TwoTongues$Street", "lines", "I", false)
def tyX3 : Nat → FieldType := fun k => match k with
  | 0 => .object "TwoTongues$Store"
  | 1 => .object "TwoTongues$Store"
  | 2 => .object "java/util/ArrayList"
  | 3 => .object "java/util/ArrayList"
  | 4 => .array .int
  | 5 => .array .int
  | 6 => .array .int
  | 7 => .array .int
  | 8 => .array .int
  | 9 => .array .int
  | 10 => .array .int
  | 11 => .object "TwoTongues$Part"
  | 12 => .int
  | 13 => .int
  | 14 => .int
  | 15 => .int
  | 16 => .int
  | _ => .int
abbrev wsX30 : List Cond := u_ws RX3 TX3 18
theorem nmX3 : ∀ a, a < 18 → ∀ b, b < 18 → a ≠ b → (TX3 a).2.1 ≠ (TX3 b).2.1 := by decide +kernel
theorem tyX3_ok : ∀ k, k < 18 → parseFieldDescriptor (TX3 k).2.2.1 = some (tyX3 k) := by decide +kernel
abbrev cX3_init : ByteArray := prog_18_method_1_code
def yX3_init : MethodName := ⟨RX3, "<init>", "()V"⟩
abbrev cX3_find : ByteArray := prog_18_method_2_code
def yX3_find : MethodName := ⟨RX3, "find", "(I)I"⟩
abbrev cX3_isCovered : ByteArray := prog_18_method_3_code
def yX3_isCovered : MethodName := ⟨RX3, "isCovered", "(II)Z"⟩
abbrev cX3_iron : ByteArray := prog_18_method_4_code
def yX3_iron : MethodName := ⟨RX3, "iron", "(LTwoTongues$Row;)I"⟩
/-! TwoTongues$Store -/
def RX4 : String := "TwoTongues$Store"
def TX4 : u_T := fun k => match k with
  | 0 => ("TwoTongues$Store", "words", "[I", true)
  | 1 => ("TwoTongues$Store", "worth", "[I", true)
  | _ => ("TwoTongues$Store", "many", "I", false)
def tyX4 : Nat → FieldType := fun k => match k with
  | 0 => .array .int
  | 1 => .array .int
  | _ => .int
abbrev wsX40 : List Cond := u_ws RX4 TX4 3
theorem nmX4 : ∀ a, a < 3 → ∀ b, b < 3 → a ≠ b → (TX4 a).2.1 ≠ (TX4 b).2.1 := by decide +kernel
theorem tyX4_ok : ∀ k, k < 3 → parseFieldDescriptor (TX4 k).2.2.1 = some (tyX4 k) := by decide +kernel
abbrev cX4_init : ByteArray := prog_17_method_1_code
def yX4_init : MethodName := ⟨RX4, "<init>", "()V"⟩
abbrev cX4_become : ByteArray := prog_17_method_2_code
def yX4_become : MethodName := ⟨RX4, "become", "(LTwoTongues$Store;)V"⟩
abbrev cX4_find : ByteArray := prog_17_method_3_code
def yX4_find : MethodName := ⟨RX4, "find", "(I)I"⟩
abbrev cX4_add : ByteArray := prog_17_method_4_code
def yX4_add : MethodName := ⟨RX4, "add", "(II)V"⟩
abbrev cX4_length : ByteArray := prog_17_method_5_code
def yX4_length : MethodName := ⟨RX4, "length", "(I)I"⟩
abbrev cX4_letter : ByteArray := prog_17_method_6_code
def yX4_letter : MethodName := ⟨RX4, "letter", "(II)I"⟩
/-! TwoTongues$Kind -/
def RX5 : String := "TwoTongues$Kind"
abbrev cX5_init : ByteArray := prog_4_method_1_code
def yX5_init : MethodName := ⟨RX5, "<init>", "()V"⟩
/-! TwoTongues$Plain -/
def RX6 : String := "TwoTongues$Plain"
abbrev cX6_init : ByteArray := prog_11_method_1_code
def yX6_init : MethodName := ⟨RX6, "<init>", "()V"⟩
abbrev cX6_isFromRight : ByteArray := prog_11_method_2_code
def yX6_isFromRight : MethodName := ⟨RX6, "isFromRight", "(I)Z"⟩
/-! TwoTongues$Mirror -/
def RX7 : String := "TwoTongues$Mirror"
abbrev cX7_init : ByteArray := prog_5_method_1_code
def yX7_init : MethodName := ⟨RX7, "<init>", "()V"⟩
abbrev cX7_isFromRight : ByteArray := prog_5_method_2_code
def yX7_isFromRight : MethodName := ⟨RX7, "isFromRight", "(I)Z"⟩
/-! TwoTongues$Royal -/
def RX8 : String := "TwoTongues$Royal"
abbrev cX8_init : ByteArray := prog_14_method_1_code
def yX8_init : MethodName := ⟨RX8, "<init>", "()V"⟩
abbrev cX8_isFromRight : ByteArray := prog_14_method_2_code
def yX8_isFromRight : MethodName := ⟨RX8, "isFromRight", "(I)Z"⟩
/-! TwoTongues$Blind -/
def RX9 : String := "TwoTongues$Blind"
abbrev cX9_init : ByteArray := prog_2_method_1_code
def yX9_init : MethodName := ⟨RX9, "<init>", "()V"⟩
abbrev cX9_isFromRight : ByteArray := prog_2_method_2_code
def yX9_isFromRight : MethodName := ⟨RX9, "isFromRight", "(I)Z"⟩
theorem q135 : (Jvm.Cond.initialized "java/util/AbstractCollection") ∈ lw_all := lw_g (lw_at lw_m1 5 rfl) rfl
theorem q251 : (Jvm.Cond.instanceMethod ({ cls := "java/util/AbstractCollection", name := "<init>", desc := "()V" } : Jvm.MethodName)) ∈ lw_all := lw_g (lw_at lw_m1 121 rfl) rfl
theorem q252 : (Jvm.Cond.code ({ cls := "java/util/AbstractCollection", name := "<init>", desc := "()V" } : Jvm.MethodName) prog_42_method_1_code (1 : Nat) (Option.none : Option Jvm.ClassFile.FieldType)) ∈ lw_all := lw_g (lw_at lw_m1 122 rfl) rfl
theorem q253 : (Jvm.Cond.methodLink "java/util/AbstractCollection" (1 : Nat) ({ cls := "java/lang/Object", name := "<init>", desc := "()V" } : Jvm.MethodName)) ∈ lw_all := lw_g (lw_at lw_m1 123 rfl) rfl
theorem q136 : (Jvm.Cond.initialized "java/util/AbstractList") ∈ lw_all := lw_g (lw_at lw_m1 6 rfl) rfl
theorem q248 : (Jvm.Cond.instanceMethod ({ cls := "java/util/AbstractList", name := "<init>", desc := "()V" } : Jvm.MethodName)) ∈ lw_all := lw_g (lw_at lw_m1 118 rfl) rfl
theorem q249 : (Jvm.Cond.code ({ cls := "java/util/AbstractList", name := "<init>", desc := "()V" } : Jvm.MethodName) prog_43_method_1_code (1 : Nat) (Option.none : Option Jvm.ClassFile.FieldType)) ∈ lw_all := lw_g (lw_at lw_m1 119 rfl) rfl
theorem q250 : (Jvm.Cond.methodLink "java/util/AbstractList" (1 : Nat) ({ cls := "java/util/AbstractCollection", name := "<init>", desc := "()V" } : Jvm.MethodName)) ∈ lw_all := lw_g (lw_at lw_m1 120 rfl) rfl
theorem q260 : (Jvm.Cond.fieldLink "java/util/AbstractList" (7 : Nat) "java/util/AbstractList" "modCount" "I") ∈ lw_all := lw_g (lw_at lw_m1 130 rfl) rfl
theorem q268 : (Jvm.Cond.soleField "java/util/AbstractList" "modCount") ∈ lw_all := lw_g (lw_at lw_m1 138 rfl) rfl
theorem q154 : (Jvm.Cond.initialized "java/lang/Throwable") ∈ lw_all := lw_g (lw_at lw_m1 24 rfl) rfl
theorem q748 : (Jvm.Cond.declares ({ cls := "java/lang/Throwable", name := "<init>", desc := "()V" } : Jvm.MethodName)) ∈ lw_tbl := lw_at lw_m3 138 rfl
theorem q749 : (Jvm.Cond.declares ({ cls := "java/lang/Throwable", name := "<init>", desc := "(Ljava/lang/String;)V" } : Jvm.MethodName)) ∈ lw_tbl := lw_at lw_m3 139 rfl
theorem q753 : (Jvm.Cond.lays "java/lang/Throwable" "java/lang/Throwable" "cause" "Ljava/lang/Throwable;") ∈ lw_all := lw_g (lw_at lw_m3 143 rfl) rfl
theorem q755 : (Jvm.Cond.lays "java/lang/Throwable" "java/lang/Throwable" "stackTrace" "[Ljava/lang/StackTraceElement;") ∈ lw_all := lw_g (lw_at lw_m3 145 rfl) rfl
theorem q757 : (Jvm.Cond.lays "java/lang/Throwable" "java/lang/Throwable" "suppressedExceptions" "Ljava/util/List;") ∈ lw_all := lw_g (lw_at lw_m3 147 rfl) rfl
theorem q759 : (Jvm.Cond.lays "java/lang/Throwable" "java/lang/Throwable" "detailMessage" "Ljava/lang/String;") ∈ lw_all := lw_g (lw_at lw_m3 149 rfl) rfl
theorem q761 : (Jvm.Cond.lays "java/lang/Throwable" "java/lang/Throwable" "backtrace" "Ljava/lang/Object;") ∈ lw_all := lw_g (lw_at lw_m3 151 rfl) rfl
theorem q762 : (Jvm.Cond.fieldLink "java/lang/Throwable" (198 : Nat) "java/lang/Throwable" "backtrace" "Ljava/lang/Object;") ∈ lw_all := lw_g (lw_at lw_m3 152 rfl) rfl
theorem q763 : (Jvm.Cond.superclass "java/lang/Throwable" "java/lang/Object") ∈ lw_all := lw_g (lw_at lw_m3 153 rfl) rfl
theorem q764 : (Jvm.Cond.instanceMethod ({ cls := "java/lang/Throwable", name := "<init>", desc := "()V" } : Jvm.MethodName)) ∈ lw_all := lw_g (lw_at lw_m3 154 rfl) rfl
theorem q765 : (Jvm.Cond.code ({ cls := "java/lang/Throwable", name := "<init>", desc := "()V" } : Jvm.MethodName) prog_39_method_1_code (1 : Nat) (Option.none : Option Jvm.ClassFile.FieldType)) ∈ lw_all := lw_g (lw_at lw_m3 155 rfl) rfl
theorem q766 : (Jvm.Cond.methodLink "java/lang/Throwable" (1 : Nat) ({ cls := "java/lang/Object", name := "<init>", desc := "()V" } : Jvm.MethodName)) ∈ lw_all := lw_g (lw_at lw_m3 156 rfl) rfl
theorem q767 : (Jvm.Cond.fieldLink "java/lang/Throwable" (13 : Nat) "java/lang/Throwable" "UNASSIGNED_STACK" "[Ljava/lang/StackTraceElement;") ∈ lw_all := lw_g (lw_at lw_m3 157 rfl) rfl
theorem q768 : (Jvm.Cond.laysStatic "java/lang/Throwable" "UNASSIGNED_STACK" "[Ljava/lang/StackTraceElement;") ∈ lw_tbl := lw_at lw_m3 158 rfl
theorem q769 : (Jvm.Cond.fieldLink "java/lang/Throwable" (20 : Nat) "java/lang/Throwable" "SUPPRESSED_SENTINEL" "Ljava/util/List;") ∈ lw_all := lw_g (lw_at lw_m3 159 rfl) rfl
theorem q770 : (Jvm.Cond.laysStatic "java/lang/Throwable" "SUPPRESSED_SENTINEL" "Ljava/util/List;") ∈ lw_tbl := lw_at lw_m3 160 rfl
theorem q771 : (Jvm.Cond.methodLink "java/lang/Throwable" (27 : Nat) ({ cls := "java/lang/Throwable", name := "fillInStackTrace", desc := "()Ljava/lang/Throwable;" } : Jvm.MethodName)) ∈ lw_all := lw_g (lw_at lw_m3 161 rfl) rfl
theorem q772 : (Jvm.Cond.instanceMethod ({ cls := "java/lang/Throwable", name := "fillInStackTrace", desc := "()Ljava/lang/Throwable;" } : Jvm.MethodName)) ∈ lw_all := lw_g (lw_at lw_m3 162 rfl) rfl
theorem q773 : (Jvm.Cond.sameMethod "java/lang/Throwable" "java/lang/Throwable" "fillInStackTrace" "()Ljava/lang/Throwable;") ∈ lw_all := lw_g (lw_at lw_m3 163 rfl) rfl
theorem q778 : (Jvm.Cond.codeSync ({ cls := "java/lang/Throwable", name := "fillInStackTrace", desc := "()Ljava/lang/Throwable;" } : Jvm.MethodName) prog_39_method_18_code (1 : Nat) (Option.some (Jvm.ClassFile.FieldType.object "java/lang/Throwable"))) ∈ lw_all := lw_g (lw_at lw_m3 168 rfl) rfl
theorem q779 : (Jvm.Cond.methodLink "java/lang/Throwable" (202 : Nat) ({ cls := "java/lang/Throwable", name := "fillInStackTrace", desc := "(I)Ljava/lang/Throwable;" } : Jvm.MethodName)) ∈ lw_all := lw_g (lw_at lw_m3 169 rfl) rfl
theorem q780 : (Jvm.Cond.privateMethod ({ cls := "java/lang/Throwable", name := "fillInStackTrace", desc := "(I)Ljava/lang/Throwable;" } : Jvm.MethodName)) ∈ lw_tbl := lw_at lw_m3 170 rfl
theorem q781 : (Jvm.Cond.instanceMethod ({ cls := "java/lang/Throwable", name := "fillInStackTrace", desc := "(I)Ljava/lang/Throwable;" } : Jvm.MethodName)) ∈ lw_all := lw_g (lw_at lw_m3 171 rfl) rfl
theorem q782 : (Jvm.Cond.instantiable "java/lang/Throwable" (6 : Nat)) ∈ lw_all := lw_g (lw_at lw_m3 172 rfl) rfl
theorem q783 : (Jvm.Cond.native ({ cls := "java/lang/Throwable", name := "fillInStackTrace", desc := "(I)Ljava/lang/Throwable;" } : Jvm.MethodName)) ∈ lw_all := lw_g (lw_at lw_m3 173 rfl) rfl
theorem q791 : (Jvm.Cond.instanceMethod ({ cls := "java/lang/Throwable", name := "<init>", desc := "(Ljava/lang/String;Ljava/lang/Throwable;ZZ)V" } : Jvm.MethodName)) ∈ lw_all := lw_g (lw_at lw_m3 181 rfl) rfl
theorem q792 : (Jvm.Cond.code ({ cls := "java/lang/Throwable", name := "<init>", desc := "(Ljava/lang/String;Ljava/lang/Throwable;ZZ)V" } : Jvm.MethodName) prog_39_method_5_code (5 : Nat) (Option.none : Option Jvm.ClassFile.FieldType)) ∈ lw_all := lw_g (lw_at lw_m3 182 rfl) rfl
theorem q797 : (Jvm.Cond.fieldLink "java/lang/Throwable" (198 : Nat) "java/lang/Throwable" "backtrace" "Ljava/lang/Object;") ∈ lw_all := lw_g (lw_at lw_m3 187 rfl) rfl
theorem q798 : (Jvm.Cond.fieldLink "java/lang/Throwable" (31 : Nat) "java/lang/Throwable" "detailMessage" "Ljava/lang/String;") ∈ lw_all := lw_g (lw_at lw_m3 188 rfl) rfl
theorem q799 : (Jvm.Cond.fieldLink "java/lang/Throwable" (7 : Nat) "java/lang/Throwable" "cause" "Ljava/lang/Throwable;") ∈ lw_all := lw_g (lw_at lw_m3 189 rfl) rfl
theorem q800 : (Jvm.Cond.fieldLink "java/lang/Throwable" (17 : Nat) "java/lang/Throwable" "stackTrace" "[Ljava/lang/StackTraceElement;") ∈ lw_all := lw_g (lw_at lw_m3 190 rfl) rfl
theorem q801 : (Jvm.Cond.fieldLink "java/lang/Throwable" (24 : Nat) "java/lang/Throwable" "suppressedExceptions" "Ljava/util/List;") ∈ lw_all := lw_g (lw_at lw_m3 191 rfl) rfl
theorem q806 : (Jvm.Cond.soleField "java/lang/Throwable" "backtrace") ∈ lw_all := lw_g (lw_at lw_m3 196 rfl) rfl
theorem q807 : (Jvm.Cond.soleField "java/lang/Throwable" "detailMessage") ∈ lw_all := lw_g (lw_at lw_m3 197 rfl) rfl
theorem q808 : (Jvm.Cond.soleField "java/lang/Throwable" "cause") ∈ lw_all := lw_g (lw_at lw_m3 198 rfl) rfl
theorem q809 : (Jvm.Cond.soleField "java/lang/Throwable" "stackTrace") ∈ lw_all := lw_g (lw_at lw_m3 199 rfl) rfl
theorem q811 : (Jvm.Cond.soleField "java/lang/Throwable" "depth") ∈ lw_all := lw_g (lw_at lw_m3 201 rfl) rfl
theorem q812 : (Jvm.Cond.soleField "java/lang/Throwable" "suppressedExceptions") ∈ lw_all := lw_g (lw_at lw_m3 202 rfl) rfl
theorem q1445 : (Jvm.Cond.instanceMethod ({ cls := "java/lang/Throwable", name := "<init>", desc := "(Ljava/lang/String;)V" } : Jvm.MethodName)) ∈ lw_all := lw_g (lw_at lw_m6 115 rfl) rfl
theorem q1446 : (Jvm.Cond.code ({ cls := "java/lang/Throwable", name := "<init>", desc := "(Ljava/lang/String;)V" } : Jvm.MethodName) prog_39_method_2_code (2 : Nat) (Option.none : Option Jvm.ClassFile.FieldType)) ∈ lw_all := lw_g (lw_at lw_m6 116 rfl) rfl
theorem q2258 : (Jvm.Cond.sameMethod "java/lang/Throwable" "java/lang/Throwable" "fillInStackTrace" "(I)Ljava/lang/Throwable;") ∈ lw_all := lw_g (lw_at lw_m9 208 rfl) rfl
theorem q2288 : (Jvm.Cond.castable "java/lang/Throwable" "java/lang/Object") ∈ lw_tbl := lw_at lw_m9 238 rfl
theorem q155 : (Jvm.Cond.initialized "java/lang/Exception") ∈ lw_all := lw_g (lw_at lw_m1 25 rfl) rfl
theorem q746 : (Jvm.Cond.declares ({ cls := "java/lang/Exception", name := "<init>", desc := "()V" } : Jvm.MethodName)) ∈ lw_tbl := lw_at lw_m3 136 rfl
theorem q747 : (Jvm.Cond.declares ({ cls := "java/lang/Exception", name := "<init>", desc := "(Ljava/lang/String;)V" } : Jvm.MethodName)) ∈ lw_tbl := lw_at lw_m3 137 rfl
theorem q788 : (Jvm.Cond.instanceMethod ({ cls := "java/lang/Exception", name := "<init>", desc := "(Ljava/lang/String;Ljava/lang/Throwable;ZZ)V" } : Jvm.MethodName)) ∈ lw_all := lw_g (lw_at lw_m3 178 rfl) rfl
theorem q789 : (Jvm.Cond.code ({ cls := "java/lang/Exception", name := "<init>", desc := "(Ljava/lang/String;Ljava/lang/Throwable;ZZ)V" } : Jvm.MethodName) prog_29_method_5_code (5 : Nat) (Option.none : Option Jvm.ClassFile.FieldType)) ∈ lw_all := lw_g (lw_at lw_m3 179 rfl) rfl
theorem q790 : (Jvm.Cond.methodLink "java/lang/Exception" (16 : Nat) ({ cls := "java/lang/Throwable", name := "<init>", desc := "(Ljava/lang/String;Ljava/lang/Throwable;ZZ)V" } : Jvm.MethodName)) ∈ lw_all := lw_g (lw_at lw_m3 180 rfl) rfl
theorem q1442 : (Jvm.Cond.instanceMethod ({ cls := "java/lang/Exception", name := "<init>", desc := "(Ljava/lang/String;)V" } : Jvm.MethodName)) ∈ lw_all := lw_g (lw_at lw_m6 112 rfl) rfl
theorem q1443 : (Jvm.Cond.code ({ cls := "java/lang/Exception", name := "<init>", desc := "(Ljava/lang/String;)V" } : Jvm.MethodName) prog_29_method_2_code (2 : Nat) (Option.none : Option Jvm.ClassFile.FieldType)) ∈ lw_all := lw_g (lw_at lw_m6 113 rfl) rfl
theorem q1444 : (Jvm.Cond.methodLink "java/lang/Exception" (7 : Nat) ({ cls := "java/lang/Throwable", name := "<init>", desc := "(Ljava/lang/String;)V" } : Jvm.MethodName)) ∈ lw_all := lw_g (lw_at lw_m6 114 rfl) rfl
theorem q1486 : (Jvm.Cond.instanceMethod ({ cls := "java/lang/Exception", name := "<init>", desc := "()V" } : Jvm.MethodName)) ∈ lw_all := lw_g (lw_at lw_m6 156 rfl) rfl
theorem q1487 : (Jvm.Cond.code ({ cls := "java/lang/Exception", name := "<init>", desc := "()V" } : Jvm.MethodName) prog_29_method_1_code (1 : Nat) (Option.none : Option Jvm.ClassFile.FieldType)) ∈ lw_all := lw_g (lw_at lw_m6 157 rfl) rfl
theorem q1488 : (Jvm.Cond.methodLink "java/lang/Exception" (1 : Nat) ({ cls := "java/lang/Throwable", name := "<init>", desc := "()V" } : Jvm.MethodName)) ∈ lw_all := lw_g (lw_at lw_m6 158 rfl) rfl
theorem q158 : (Jvm.Cond.initialized "jdk/internal/util/ArraysSupport") ∈ lw_all := lw_g (lw_at lw_m1 28 rfl) rfl
theorem q893 : (Jvm.Cond.static ({ cls := "jdk/internal/util/ArraysSupport", name := "newLength", desc := "(III)I" } : Jvm.MethodName)) ∈ lw_all := lw_g (lw_at lw_m4 43 rfl) rfl
theorem q894 : (Jvm.Cond.code ({ cls := "jdk/internal/util/ArraysSupport", name := "newLength", desc := "(III)I" } : Jvm.MethodName) prog_52_method_27_code (4 : Nat) (Option.some Jvm.ClassFile.FieldType.int)) ∈ lw_all := lw_g (lw_at lw_m4 44 rfl) rfl
theorem q895 : (Jvm.Cond.methodLink "jdk/internal/util/ArraysSupport" (194 : Nat) ({ cls := "java/lang/Math", name := "max", desc := "(II)I" } : Jvm.MethodName)) ∈ lw_all := lw_g (lw_at lw_m4 45 rfl) rfl
theorem q896 : (Jvm.Cond.constant "jdk/internal/util/ArraysSupport" (200 : Nat) (2147483639 : Int32)) ∈ lw_all := lw_g (lw_at lw_m4 46 rfl) rfl
theorem q897 : (Jvm.Cond.methodLink "jdk/internal/util/ArraysSupport" (201 : Nat) ({ cls := "jdk/internal/util/ArraysSupport", name := "hugeLength", desc := "(II)I" } : Jvm.MethodName)) ∈ lw_all := lw_g (lw_at lw_m4 47 rfl) rfl
theorem q898 : (Jvm.Cond.static ({ cls := "jdk/internal/util/ArraysSupport", name := "hugeLength", desc := "(II)I" } : Jvm.MethodName)) ∈ lw_all := lw_g (lw_at lw_m4 48 rfl) rfl
theorem q899 : (Jvm.Cond.code ({ cls := "jdk/internal/util/ArraysSupport", name := "hugeLength", desc := "(II)I" } : Jvm.MethodName) prog_52_method_28_code (3 : Nat) (Option.some Jvm.ClassFile.FieldType.int)) ∈ lw_all := lw_g (lw_at lw_m4 49 rfl) rfl
theorem q159 : (Jvm.Cond.initialized "java/util/Arrays") ∈ lw_all := lw_g (lw_at lw_m1 29 rfl) rfl
theorem q901 : (Jvm.Cond.static ({ cls := "java/util/Arrays", name := "copyOf", desc := "([Ljava/lang/Object;I)[Ljava/lang/Object;" } : Jvm.MethodName)) ∈ lw_all := lw_g (lw_at lw_m4 51 rfl) rfl
theorem q902 : (Jvm.Cond.code ({ cls := "java/util/Arrays", name := "copyOf", desc := "([Ljava/lang/Object;I)[Ljava/lang/Object;" } : Jvm.MethodName) prog_45_method_119_code (2 : Nat) (Option.some (Jvm.ClassFile.FieldType.array (Jvm.ClassFile.FieldType.object "java/lang/Object")))) ∈ lw_all := lw_g (lw_at lw_m4 52 rfl) rfl
theorem q903 : (Jvm.Cond.methodLink "java/util/Arrays" (86 : Nat) ({ cls := "java/lang/Object", name := "getClass", desc := "()Ljava/lang/Class;" } : Jvm.MethodName)) ∈ lw_all := lw_g (lw_at lw_m4 53 rfl) rfl
theorem q930 : (Jvm.Cond.methodLink "java/util/Arrays" (300 : Nat) ({ cls := "java/util/Arrays", name := "copyOf", desc := "([Ljava/lang/Object;ILjava/lang/Class;)[Ljava/lang/Object;" } : Jvm.MethodName)) ∈ lw_all := lw_g (lw_at lw_m4 80 rfl) rfl
theorem q931 : (Jvm.Cond.static ({ cls := "java/util/Arrays", name := "copyOf", desc := "([Ljava/lang/Object;ILjava/lang/Class;)[Ljava/lang/Object;" } : Jvm.MethodName)) ∈ lw_all := lw_g (lw_at lw_m4 81 rfl) rfl
theorem q932 : (Jvm.Cond.code ({ cls := "java/util/Arrays", name := "copyOf", desc := "([Ljava/lang/Object;ILjava/lang/Class;)[Ljava/lang/Object;" } : Jvm.MethodName) prog_45_method_120_code (4 : Nat) (Option.some (Jvm.ClassFile.FieldType.array (Jvm.ClassFile.FieldType.object "java/lang/Object")))) ∈ lw_all := lw_g (lw_at lw_m4 82 rfl) rfl
theorem q933 : (Jvm.Cond.classLink "java/util/Arrays" (110 : Nat) "[Ljava/lang/Object;") ∈ lw_all := lw_g (lw_at lw_m4 83 rfl) rfl
theorem q934 : (Jvm.Cond.classLink "java/util/Arrays" (2 : Nat) "java/lang/Object") ∈ lw_all := lw_g (lw_at lw_m4 84 rfl) rfl
theorem q935 : (Jvm.Cond.methodLink "java/util/Arrays" (304 : Nat) ({ cls := "java/lang/Math", name := "min", desc := "(II)I" } : Jvm.MethodName)) ∈ lw_all := lw_g (lw_at lw_m4 85 rfl) rfl
theorem q936 : (Jvm.Cond.methodLink "java/util/Arrays" (150 : Nat) ({ cls := "java/lang/System", name := "arraycopy", desc := "(Ljava/lang/Object;ILjava/lang/Object;II)V" } : Jvm.MethodName)) ∈ lw_all := lw_g (lw_at lw_m4 86 rfl) rfl
theorem q166 : (Jvm.Cond.initialized "java/lang/RuntimeException") ∈ lw_all := lw_g (lw_at lw_m1 36 rfl) rfl
theorem q1439 : (Jvm.Cond.instanceMethod ({ cls := "java/lang/RuntimeException", name := "<init>", desc := "(Ljava/lang/String;)V" } : Jvm.MethodName)) ∈ lw_all := lw_g (lw_at lw_m6 109 rfl) rfl
theorem q1440 : (Jvm.Cond.code ({ cls := "java/lang/RuntimeException", name := "<init>", desc := "(Ljava/lang/String;)V" } : Jvm.MethodName) prog_34_method_2_code (2 : Nat) (Option.none : Option Jvm.ClassFile.FieldType)) ∈ lw_all := lw_g (lw_at lw_m6 110 rfl) rfl
theorem q1441 : (Jvm.Cond.methodLink "java/lang/RuntimeException" (7 : Nat) ({ cls := "java/lang/Exception", name := "<init>", desc := "(Ljava/lang/String;)V" } : Jvm.MethodName)) ∈ lw_all := lw_g (lw_at lw_m6 111 rfl) rfl
theorem q1457 : (Jvm.Cond.declares ({ cls := "java/lang/RuntimeException", name := "<init>", desc := "()V" } : Jvm.MethodName)) ∈ lw_tbl := lw_at lw_m6 127 rfl
theorem q1458 : (Jvm.Cond.declares ({ cls := "java/lang/RuntimeException", name := "<init>", desc := "(Ljava/lang/String;)V" } : Jvm.MethodName)) ∈ lw_tbl := lw_at lw_m6 128 rfl
theorem q1483 : (Jvm.Cond.instanceMethod ({ cls := "java/lang/RuntimeException", name := "<init>", desc := "()V" } : Jvm.MethodName)) ∈ lw_all := lw_g (lw_at lw_m6 153 rfl) rfl
theorem q1484 : (Jvm.Cond.code ({ cls := "java/lang/RuntimeException", name := "<init>", desc := "()V" } : Jvm.MethodName) prog_34_method_1_code (1 : Nat) (Option.none : Option Jvm.ClassFile.FieldType)) ∈ lw_all := lw_g (lw_at lw_m6 154 rfl) rfl
theorem q1485 : (Jvm.Cond.methodLink "java/lang/RuntimeException" (1 : Nat) ({ cls := "java/lang/Exception", name := "<init>", desc := "()V" } : Jvm.MethodName)) ∈ lw_all := lw_g (lw_at lw_m6 155 rfl) rfl
theorem q167 : (Jvm.Cond.initialized "java/lang/IndexOutOfBoundsException") ∈ lw_all := lw_g (lw_at lw_m1 37 rfl) rfl
theorem q776 : (Jvm.Cond.selects "java/lang/IndexOutOfBoundsException" ({ cls := "java/lang/Throwable", name := "fillInStackTrace", desc := "()Ljava/lang/Throwable;" } : Jvm.MethodName) ({ cls := "java/lang/Throwable", name := "fillInStackTrace", desc := "()Ljava/lang/Throwable;" } : Jvm.MethodName)) ∈ lw_all := lw_g (lw_at lw_m3 166 rfl) rfl
theorem q926 : (Jvm.Cond.selects "java/lang/IndexOutOfBoundsException" ({ cls := "java/lang/Object", name := "getClass", desc := "()Ljava/lang/Class;" } : Jvm.MethodName) ({ cls := "java/lang/Object", name := "getClass", desc := "()Ljava/lang/Class;" } : Jvm.MethodName)) ∈ lw_all := lw_g (lw_at lw_m4 76 rfl) rfl
theorem q1436 : (Jvm.Cond.instanceMethod ({ cls := "java/lang/IndexOutOfBoundsException", name := "<init>", desc := "(Ljava/lang/String;)V" } : Jvm.MethodName)) ∈ lw_all := lw_g (lw_at lw_m6 106 rfl) rfl
theorem q1437 : (Jvm.Cond.code ({ cls := "java/lang/IndexOutOfBoundsException", name := "<init>", desc := "(Ljava/lang/String;)V" } : Jvm.MethodName) prog_30_method_2_code (2 : Nat) (Option.none : Option Jvm.ClassFile.FieldType)) ∈ lw_all := lw_g (lw_at lw_m6 107 rfl) rfl
theorem q1438 : (Jvm.Cond.methodLink "java/lang/IndexOutOfBoundsException" (7 : Nat) ({ cls := "java/lang/RuntimeException", name := "<init>", desc := "(Ljava/lang/String;)V" } : Jvm.MethodName)) ∈ lw_all := lw_g (lw_at lw_m6 108 rfl) rfl
theorem q1455 : (Jvm.Cond.declares ({ cls := "java/lang/IndexOutOfBoundsException", name := "<init>", desc := "()V" } : Jvm.MethodName)) ∈ lw_tbl := lw_at lw_m6 125 rfl
theorem q1456 : (Jvm.Cond.declares ({ cls := "java/lang/IndexOutOfBoundsException", name := "<init>", desc := "(Ljava/lang/String;)V" } : Jvm.MethodName)) ∈ lw_tbl := lw_at lw_m6 126 rfl
theorem q1471 : (Jvm.Cond.instantiable "java/lang/IndexOutOfBoundsException" (6 : Nat)) ∈ lw_all := lw_g (lw_at lw_m6 141 rfl) rfl
theorem q1472 : (Jvm.Cond.castable "java/lang/IndexOutOfBoundsException" "java/lang/IndexOutOfBoundsException") ∈ lw_tbl := lw_at lw_m6 142 rfl
theorem q1473 : (Jvm.Cond.selects "java/lang/IndexOutOfBoundsException" ({ cls := "java/lang/Throwable", name := "fillInStackTrace", desc := "(I)Ljava/lang/Throwable;" } : Jvm.MethodName) ({ cls := "java/lang/Throwable", name := "fillInStackTrace", desc := "(I)Ljava/lang/Throwable;" } : Jvm.MethodName)) ∈ lw_all := lw_g (lw_at lw_m6 143 rfl) rfl
theorem q1474 : (Jvm.Cond.lays "java/lang/IndexOutOfBoundsException" "java/lang/Throwable" "cause" "Ljava/lang/Throwable;") ∈ lw_all := lw_g (lw_at lw_m6 144 rfl) rfl
theorem q1475 : (Jvm.Cond.lays "java/lang/IndexOutOfBoundsException" "java/lang/Throwable" "stackTrace" "[Ljava/lang/StackTraceElement;") ∈ lw_all := lw_g (lw_at lw_m6 145 rfl) rfl
theorem q1476 : (Jvm.Cond.lays "java/lang/IndexOutOfBoundsException" "java/lang/Throwable" "suppressedExceptions" "Ljava/util/List;") ∈ lw_all := lw_g (lw_at lw_m6 146 rfl) rfl
theorem q1477 : (Jvm.Cond.lays "java/lang/IndexOutOfBoundsException" "java/lang/Throwable" "detailMessage" "Ljava/lang/String;") ∈ lw_all := lw_g (lw_at lw_m6 147 rfl) rfl
theorem q1478 : (Jvm.Cond.lays "java/lang/IndexOutOfBoundsException" "java/lang/Throwable" "backtrace" "Ljava/lang/Object;") ∈ lw_all := lw_g (lw_at lw_m6 148 rfl) rfl
theorem q1480 : (Jvm.Cond.instanceMethod ({ cls := "java/lang/IndexOutOfBoundsException", name := "<init>", desc := "()V" } : Jvm.MethodName)) ∈ lw_all := lw_g (lw_at lw_m6 150 rfl) rfl
theorem q1481 : (Jvm.Cond.code ({ cls := "java/lang/IndexOutOfBoundsException", name := "<init>", desc := "()V" } : Jvm.MethodName) prog_30_method_1_code (1 : Nat) (Option.none : Option Jvm.ClassFile.FieldType)) ∈ lw_all := lw_g (lw_at lw_m6 151 rfl) rfl
theorem q1482 : (Jvm.Cond.methodLink "java/lang/IndexOutOfBoundsException" (1 : Nat) ({ cls := "java/lang/RuntimeException", name := "<init>", desc := "()V" } : Jvm.MethodName)) ∈ lw_all := lw_g (lw_at lw_m6 152 rfl) rfl
theorem q1489 : (Jvm.Cond.lays "java/lang/IndexOutOfBoundsException" "java/lang/Throwable" "depth" "I") ∈ lw_all := lw_g (lw_at lw_m6 159 rfl) rfl
theorem q1490 : (Jvm.Cond.superclass "java/lang/IndexOutOfBoundsException" "java/lang/RuntimeException") ∈ lw_all := lw_g (lw_at lw_m6 160 rfl) rfl
theorem q2285 : (Jvm.Cond.castable "java/lang/IndexOutOfBoundsException" "java/lang/Object") ∈ lw_tbl := lw_at lw_m9 235 rfl
theorem q168 : (Jvm.Cond.initialized "java/lang/ArrayIndexOutOfBoundsException") ∈ lw_all := lw_g (lw_at lw_m1 38 rfl) rfl
theorem q775 : (Jvm.Cond.selects "java/lang/ArrayIndexOutOfBoundsException" ({ cls := "java/lang/Throwable", name := "fillInStackTrace", desc := "()Ljava/lang/Throwable;" } : Jvm.MethodName) ({ cls := "java/lang/Throwable", name := "fillInStackTrace", desc := "()Ljava/lang/Throwable;" } : Jvm.MethodName)) ∈ lw_all := lw_g (lw_at lw_m3 165 rfl) rfl
theorem q925 : (Jvm.Cond.selects "java/lang/ArrayIndexOutOfBoundsException" ({ cls := "java/lang/Object", name := "getClass", desc := "()Ljava/lang/Class;" } : Jvm.MethodName) ({ cls := "java/lang/Object", name := "getClass", desc := "()Ljava/lang/Class;" } : Jvm.MethodName)) ∈ lw_all := lw_g (lw_at lw_m4 75 rfl) rfl
theorem q1432 : (Jvm.Cond.instantiable "java/lang/ArrayIndexOutOfBoundsException" (6 : Nat)) ∈ lw_all := lw_g (lw_at lw_m6 102 rfl) rfl
theorem q1433 : (Jvm.Cond.instanceMethod ({ cls := "java/lang/ArrayIndexOutOfBoundsException", name := "<init>", desc := "(Ljava/lang/String;)V" } : Jvm.MethodName)) ∈ lw_all := lw_g (lw_at lw_m6 103 rfl) rfl
theorem q1434 : (Jvm.Cond.code ({ cls := "java/lang/ArrayIndexOutOfBoundsException", name := "<init>", desc := "(Ljava/lang/String;)V" } : Jvm.MethodName) prog_24_method_2_code (2 : Nat) (Option.none : Option Jvm.ClassFile.FieldType)) ∈ lw_all := lw_g (lw_at lw_m6 104 rfl) rfl
theorem q1435 : (Jvm.Cond.methodLink "java/lang/ArrayIndexOutOfBoundsException" (7 : Nat) ({ cls := "java/lang/IndexOutOfBoundsException", name := "<init>", desc := "(Ljava/lang/String;)V" } : Jvm.MethodName)) ∈ lw_all := lw_g (lw_at lw_m6 105 rfl) rfl
theorem q1447 : (Jvm.Cond.lays "java/lang/ArrayIndexOutOfBoundsException" "java/lang/Throwable" "backtrace" "Ljava/lang/Object;") ∈ lw_all := lw_g (lw_at lw_m6 117 rfl) rfl
theorem q1448 : (Jvm.Cond.lays "java/lang/ArrayIndexOutOfBoundsException" "java/lang/Throwable" "detailMessage" "Ljava/lang/String;") ∈ lw_all := lw_g (lw_at lw_m6 118 rfl) rfl
theorem q1449 : (Jvm.Cond.lays "java/lang/ArrayIndexOutOfBoundsException" "java/lang/Throwable" "cause" "Ljava/lang/Throwable;") ∈ lw_all := lw_g (lw_at lw_m6 119 rfl) rfl
theorem q1450 : (Jvm.Cond.lays "java/lang/ArrayIndexOutOfBoundsException" "java/lang/Throwable" "stackTrace" "[Ljava/lang/StackTraceElement;") ∈ lw_all := lw_g (lw_at lw_m6 120 rfl) rfl
theorem q1451 : (Jvm.Cond.lays "java/lang/ArrayIndexOutOfBoundsException" "java/lang/Throwable" "depth" "I") ∈ lw_all := lw_g (lw_at lw_m6 121 rfl) rfl
theorem q1452 : (Jvm.Cond.lays "java/lang/ArrayIndexOutOfBoundsException" "java/lang/Throwable" "suppressedExceptions" "Ljava/util/List;") ∈ lw_all := lw_g (lw_at lw_m6 122 rfl) rfl
theorem q1453 : (Jvm.Cond.superclass "java/lang/ArrayIndexOutOfBoundsException" "java/lang/IndexOutOfBoundsException") ∈ lw_all := lw_g (lw_at lw_m6 123 rfl) rfl
theorem q1454 : (Jvm.Cond.castable "java/lang/ArrayIndexOutOfBoundsException" "java/lang/ArrayIndexOutOfBoundsException") ∈ lw_tbl := lw_at lw_m6 124 rfl
theorem q1459 : (Jvm.Cond.selects "java/lang/ArrayIndexOutOfBoundsException" ({ cls := "java/lang/Throwable", name := "fillInStackTrace", desc := "(I)Ljava/lang/Throwable;" } : Jvm.MethodName) ({ cls := "java/lang/Throwable", name := "fillInStackTrace", desc := "(I)Ljava/lang/Throwable;" } : Jvm.MethodName)) ∈ lw_all := lw_g (lw_at lw_m6 129 rfl) rfl
theorem q2262 : (Jvm.Cond.castable "java/lang/ArrayIndexOutOfBoundsException" "java/lang/IndexOutOfBoundsException") ∈ lw_tbl := lw_at lw_m9 212 rfl
theorem q2284 : (Jvm.Cond.castable "java/lang/ArrayIndexOutOfBoundsException" "java/lang/Object") ∈ lw_tbl := lw_at lw_m9 234 rfl
theorem q169 : (Jvm.Cond.initialized "java/util/NoSuchElementException") ∈ lw_all := lw_g (lw_at lw_m1 39 rfl) rfl
theorem q777 : (Jvm.Cond.selects "java/util/NoSuchElementException" ({ cls := "java/lang/Throwable", name := "fillInStackTrace", desc := "()Ljava/lang/Throwable;" } : Jvm.MethodName) ({ cls := "java/lang/Throwable", name := "fillInStackTrace", desc := "()Ljava/lang/Throwable;" } : Jvm.MethodName)) ∈ lw_all := lw_g (lw_at lw_m3 167 rfl) rfl
theorem q928 : (Jvm.Cond.selects "java/util/NoSuchElementException" ({ cls := "java/lang/Object", name := "getClass", desc := "()Ljava/lang/Class;" } : Jvm.MethodName) ({ cls := "java/lang/Object", name := "getClass", desc := "()Ljava/lang/Class;" } : Jvm.MethodName)) ∈ lw_all := lw_g (lw_at lw_m4 78 rfl) rfl
theorem q1492 : (Jvm.Cond.instantiable "java/util/NoSuchElementException" (6 : Nat)) ∈ lw_all := lw_g (lw_at lw_m6 162 rfl) rfl
theorem q1493 : (Jvm.Cond.castable "java/util/NoSuchElementException" "java/util/NoSuchElementException") ∈ lw_tbl := lw_at lw_m6 163 rfl
theorem q1494 : (Jvm.Cond.selects "java/util/NoSuchElementException" ({ cls := "java/lang/Throwable", name := "fillInStackTrace", desc := "(I)Ljava/lang/Throwable;" } : Jvm.MethodName) ({ cls := "java/lang/Throwable", name := "fillInStackTrace", desc := "(I)Ljava/lang/Throwable;" } : Jvm.MethodName)) ∈ lw_all := lw_g (lw_at lw_m6 164 rfl) rfl
theorem q1495 : (Jvm.Cond.lays "java/util/NoSuchElementException" "java/lang/Throwable" "cause" "Ljava/lang/Throwable;") ∈ lw_all := lw_g (lw_at lw_m6 165 rfl) rfl
theorem q1496 : (Jvm.Cond.lays "java/util/NoSuchElementException" "java/lang/Throwable" "stackTrace" "[Ljava/lang/StackTraceElement;") ∈ lw_all := lw_g (lw_at lw_m6 166 rfl) rfl
theorem q1497 : (Jvm.Cond.lays "java/util/NoSuchElementException" "java/lang/Throwable" "suppressedExceptions" "Ljava/util/List;") ∈ lw_all := lw_g (lw_at lw_m6 167 rfl) rfl
theorem q1498 : (Jvm.Cond.lays "java/util/NoSuchElementException" "java/lang/Throwable" "detailMessage" "Ljava/lang/String;") ∈ lw_all := lw_g (lw_at lw_m6 168 rfl) rfl
theorem q1499 : (Jvm.Cond.lays "java/util/NoSuchElementException" "java/lang/Throwable" "backtrace" "Ljava/lang/Object;") ∈ lw_all := lw_g (lw_at lw_m6 169 rfl) rfl
theorem q1501 : (Jvm.Cond.instanceMethod ({ cls := "java/util/NoSuchElementException", name := "<init>", desc := "()V" } : Jvm.MethodName)) ∈ lw_all := lw_g (lw_at lw_m6 171 rfl) rfl
theorem q1502 : (Jvm.Cond.code ({ cls := "java/util/NoSuchElementException", name := "<init>", desc := "()V" } : Jvm.MethodName) prog_48_method_1_code (1 : Nat) (Option.none : Option Jvm.ClassFile.FieldType)) ∈ lw_all := lw_g (lw_at lw_m6 172 rfl) rfl
theorem q1503 : (Jvm.Cond.methodLink "java/util/NoSuchElementException" (1 : Nat) ({ cls := "java/lang/RuntimeException", name := "<init>", desc := "()V" } : Jvm.MethodName)) ∈ lw_all := lw_g (lw_at lw_m6 173 rfl) rfl
theorem q1504 : (Jvm.Cond.lays "java/util/NoSuchElementException" "java/lang/Throwable" "depth" "I") ∈ lw_all := lw_g (lw_at lw_m6 174 rfl) rfl
theorem q1505 : (Jvm.Cond.superclass "java/util/NoSuchElementException" "java/lang/RuntimeException") ∈ lw_all := lw_g (lw_at lw_m6 175 rfl) rfl
theorem q2286 : (Jvm.Cond.castable "java/util/NoSuchElementException" "java/lang/Object") ∈ lw_tbl := lw_at lw_m9 236 rfl
theorem q170 : (Jvm.Cond.initialized "java/lang/Integer") ∈ lw_all := lw_g (lw_at lw_m1 40 rfl) rfl
theorem q1307 : (Jvm.Cond.static ({ cls := "java/lang/Integer", name := "bitCount", desc := "(I)I" } : Jvm.MethodName)) ∈ lw_all := lw_g (lw_at lw_m5 217 rfl) rfl
theorem q1308 : (Jvm.Cond.code ({ cls := "java/lang/Integer", name := "bitCount", desc := "(I)I" } : Jvm.MethodName) prog_31_method_49_code (1 : Nat) (Option.some Jvm.ClassFile.FieldType.int)) ∈ lw_all := lw_g (lw_at lw_m5 218 rfl) rfl
theorem q1309 : (Jvm.Cond.constant "java/lang/Integer" (265 : Nat) (1431655765 : Int32)) ∈ lw_all := lw_g (lw_at lw_m5 219 rfl) rfl
theorem q1310 : (Jvm.Cond.constant "java/lang/Integer" (266 : Nat) (858993459 : Int32)) ∈ lw_all := lw_g (lw_at lw_m5 220 rfl) rfl
theorem q1311 : (Jvm.Cond.constant "java/lang/Integer" (267 : Nat) (252645135 : Int32)) ∈ lw_all := lw_g (lw_at lw_m5 221 rfl) rfl
theorem q177 : (Jvm.Cond.instanceMethod ({ cls := "java/lang/Object", name := "<init>", desc := "()V" } : Jvm.MethodName)) ∈ lw_all := lw_g (lw_at lw_m1 47 rfl) rfl
theorem q178 : (Jvm.Cond.code ({ cls := "java/lang/Object", name := "<init>", desc := "()V" } : Jvm.MethodName) object_method_1_code (1 : Nat) (Option.none : Option Jvm.ClassFile.FieldType)) ∈ lw_all := lw_g (lw_at lw_m1 48 rfl) rfl
theorem q904 : (Jvm.Cond.instanceMethod ({ cls := "java/lang/Object", name := "getClass", desc := "()Ljava/lang/Class;" } : Jvm.MethodName)) ∈ lw_all := lw_g (lw_at lw_m4 54 rfl) rfl
theorem q905 : (Jvm.Cond.sameMethod "java/lang/Object" "java/lang/Object" "getClass" "()Ljava/lang/Class;") ∈ lw_all := lw_g (lw_at lw_m4 55 rfl) rfl
theorem q929 : (Jvm.Cond.native ({ cls := "java/lang/Object", name := "getClass", desc := "()Ljava/lang/Class;" } : Jvm.MethodName)) ∈ lw_all := lw_g (lw_at lw_m4 79 rfl) rfl
theorem q2260 : (Jvm.Cond.initialized "java/lang/Object") ∈ lw_all := lw_g (lw_at lw_m9 210 rfl) rfl
theorem q2295 : (Jvm.Cond.declares ({ cls := "java/lang/Object", name := "getClass", desc := "()Ljava/lang/Class;" } : Jvm.MethodName)) ∈ lw_tbl := lw_at lw_m10 5 rfl
theorem q137 : (Jvm.Cond.initialized "java/util/ArrayList") ∈ lw_all := lw_g (lw_at lw_m1 7 rfl) rfl
theorem q243 : (Jvm.Cond.instantiable "java/util/ArrayList" (3 : Nat)) ∈ lw_all := lw_g (lw_at lw_m1 113 rfl) rfl
theorem q245 : (Jvm.Cond.instanceMethod ({ cls := "java/util/ArrayList", name := "<init>", desc := "(I)V" } : Jvm.MethodName)) ∈ lw_all := lw_g (lw_at lw_m1 115 rfl) rfl
theorem q246 : (Jvm.Cond.code ({ cls := "java/util/ArrayList", name := "<init>", desc := "(I)V" } : Jvm.MethodName) prog_44_method_1_code (2 : Nat) (Option.none : Option Jvm.ClassFile.FieldType)) ∈ lw_all := lw_g (lw_at lw_m1 116 rfl) rfl
theorem q247 : (Jvm.Cond.methodLink "java/util/ArrayList" (1 : Nat) ({ cls := "java/util/AbstractList", name := "<init>", desc := "()V" } : Jvm.MethodName)) ∈ lw_all := lw_g (lw_at lw_m1 117 rfl) rfl
theorem q254 : (Jvm.Cond.classLink "java/util/ArrayList" (7 : Nat) "java/lang/Object") ∈ lw_all := lw_g (lw_at lw_m1 124 rfl) rfl
theorem q256 : (Jvm.Cond.fieldLink "java/util/ArrayList" (15 : Nat) "java/util/ArrayList" "EMPTY_ELEMENTDATA" "[Ljava/lang/Object;") ∈ lw_all := lw_g (lw_at lw_m1 126 rfl) rfl
theorem q257 : (Jvm.Cond.laysStatic "java/util/ArrayList" "EMPTY_ELEMENTDATA" "[Ljava/lang/Object;") ∈ lw_tbl := lw_at lw_m1 127 rfl
theorem q258 : (Jvm.Cond.fieldLink "java/util/ArrayList" (9 : Nat) "java/util/ArrayList" "elementData" "[Ljava/lang/Object;") ∈ lw_all := lw_g (lw_at lw_m1 128 rfl) rfl
theorem q259 : (Jvm.Cond.fieldLink "java/util/ArrayList" (48 : Nat) "java/util/ArrayList" "size" "I") ∈ lw_all := lw_g (lw_at lw_m1 129 rfl) rfl
theorem q261 : (Jvm.Cond.fieldLink "java/util/ArrayList" (63 : Nat) "java/util/ArrayList" "modCount" "I") ∈ lw_all := lw_g (lw_at lw_m1 131 rfl) rfl
theorem q262 : (Jvm.Cond.sameField "java/util/ArrayList" "java/util/AbstractList" "modCount" "I") ∈ lw_all := lw_g (lw_at lw_m1 132 rfl) rfl
theorem q263 : (Jvm.Cond.lays "java/util/ArrayList" "java/util/ArrayList" "elementData" "[Ljava/lang/Object;") ∈ lw_all := lw_g (lw_at lw_m1 133 rfl) rfl
theorem q264 : (Jvm.Cond.soleField "java/util/ArrayList" "elementData") ∈ lw_all := lw_g (lw_at lw_m1 134 rfl) rfl
theorem q265 : (Jvm.Cond.lays "java/util/ArrayList" "java/util/ArrayList" "size" "I") ∈ lw_all := lw_g (lw_at lw_m1 135 rfl) rfl
theorem q266 : (Jvm.Cond.soleField "java/util/ArrayList" "size") ∈ lw_all := lw_g (lw_at lw_m1 136 rfl) rfl
theorem q267 : (Jvm.Cond.lays "java/util/ArrayList" "java/util/AbstractList" "modCount" "I") ∈ lw_all := lw_g (lw_at lw_m1 137 rfl) rfl
theorem q269 : (Jvm.Cond.superclass "java/util/ArrayList" "java/util/AbstractList") ∈ lw_all := lw_g (lw_at lw_m1 139 rfl) rfl
theorem q466 : (Jvm.Cond.instanceMethod ({ cls := "java/util/ArrayList", name := "size", desc := "()I" } : Jvm.MethodName)) ∈ lw_all := lw_g (lw_at lw_m2 96 rfl) rfl
theorem q467 : (Jvm.Cond.selects "java/util/ArrayList" ({ cls := "java/util/ArrayList", name := "size", desc := "()I" } : Jvm.MethodName) ({ cls := "java/util/ArrayList", name := "size", desc := "()I" } : Jvm.MethodName)) ∈ lw_all := lw_g (lw_at lw_m2 97 rfl) rfl
theorem q468 : (Jvm.Cond.code ({ cls := "java/util/ArrayList", name := "size", desc := "()I" } : Jvm.MethodName) prog_44_method_8_code (1 : Nat) (Option.some Jvm.ClassFile.FieldType.int)) ∈ lw_all := lw_g (lw_at lw_m2 98 rfl) rfl
theorem q470 : (Jvm.Cond.instanceMethod ({ cls := "java/util/ArrayList", name := "get", desc := "(I)Ljava/lang/Object;" } : Jvm.MethodName)) ∈ lw_all := lw_g (lw_at lw_m2 100 rfl) rfl
theorem q471 : (Jvm.Cond.selects "java/util/ArrayList" ({ cls := "java/util/ArrayList", name := "get", desc := "(I)Ljava/lang/Object;" } : Jvm.MethodName) ({ cls := "java/util/ArrayList", name := "get", desc := "(I)Ljava/lang/Object;" } : Jvm.MethodName)) ∈ lw_all := lw_g (lw_at lw_m2 101 rfl) rfl
theorem q472 : (Jvm.Cond.code ({ cls := "java/util/ArrayList", name := "get", desc := "(I)Ljava/lang/Object;" } : Jvm.MethodName) prog_44_method_20_code (2 : Nat) (Option.some (Jvm.ClassFile.FieldType.object "java/lang/Object"))) ∈ lw_all := lw_g (lw_at lw_m2 102 rfl) rfl
theorem q473 : (Jvm.Cond.methodLink "java/util/ArrayList" (118 : Nat) ({ cls := "java/util/Objects", name := "checkIndex", desc := "(II)I" } : Jvm.MethodName)) ∈ lw_all := lw_g (lw_at lw_m2 103 rfl) rfl
theorem q479 : (Jvm.Cond.methodLink "java/util/ArrayList" (123 : Nat) ({ cls := "java/util/ArrayList", name := "elementData", desc := "(I)Ljava/lang/Object;" } : Jvm.MethodName)) ∈ lw_all := lw_g (lw_at lw_m2 109 rfl) rfl
theorem q480 : (Jvm.Cond.instanceMethod ({ cls := "java/util/ArrayList", name := "elementData", desc := "(I)Ljava/lang/Object;" } : Jvm.MethodName)) ∈ lw_all := lw_g (lw_at lw_m2 110 rfl) rfl
theorem q481 : (Jvm.Cond.selects "java/util/ArrayList" ({ cls := "java/util/ArrayList", name := "elementData", desc := "(I)Ljava/lang/Object;" } : Jvm.MethodName) ({ cls := "java/util/ArrayList", name := "elementData", desc := "(I)Ljava/lang/Object;" } : Jvm.MethodName)) ∈ lw_all := lw_g (lw_at lw_m2 111 rfl) rfl
theorem q482 : (Jvm.Cond.code ({ cls := "java/util/ArrayList", name := "elementData", desc := "(I)Ljava/lang/Object;" } : Jvm.MethodName) prog_44_method_18_code (2 : Nat) (Option.some (Jvm.ClassFile.FieldType.object "java/lang/Object"))) ∈ lw_all := lw_g (lw_at lw_m2 112 rfl) rfl
theorem q875 : (Jvm.Cond.instanceMethod ({ cls := "java/util/ArrayList", name := "add", desc := "(Ljava/lang/Object;)Z" } : Jvm.MethodName)) ∈ lw_all := lw_g (lw_at lw_m4 25 rfl) rfl
theorem q876 : (Jvm.Cond.selects "java/util/ArrayList" ({ cls := "java/util/ArrayList", name := "add", desc := "(Ljava/lang/Object;)Z" } : Jvm.MethodName) ({ cls := "java/util/ArrayList", name := "add", desc := "(Ljava/lang/Object;)Z" } : Jvm.MethodName)) ∈ lw_all := lw_g (lw_at lw_m4 26 rfl) rfl
theorem q877 : (Jvm.Cond.code ({ cls := "java/util/ArrayList", name := "add", desc := "(Ljava/lang/Object;)Z" } : Jvm.MethodName) prog_44_method_25_code (2 : Nat) (Option.some Jvm.ClassFile.FieldType.boolean)) ∈ lw_all := lw_g (lw_at lw_m4 27 rfl) rfl
theorem q878 : (Jvm.Cond.methodLink "java/util/ArrayList" (131 : Nat) ({ cls := "java/util/ArrayList", name := "add", desc := "(Ljava/lang/Object;[Ljava/lang/Object;I)V" } : Jvm.MethodName)) ∈ lw_all := lw_g (lw_at lw_m4 28 rfl) rfl
theorem q879 : (Jvm.Cond.privateMethod ({ cls := "java/util/ArrayList", name := "add", desc := "(Ljava/lang/Object;[Ljava/lang/Object;I)V" } : Jvm.MethodName)) ∈ lw_tbl := lw_at lw_m4 29 rfl
theorem q880 : (Jvm.Cond.instanceMethod ({ cls := "java/util/ArrayList", name := "add", desc := "(Ljava/lang/Object;[Ljava/lang/Object;I)V" } : Jvm.MethodName)) ∈ lw_all := lw_g (lw_at lw_m4 30 rfl) rfl
theorem q881 : (Jvm.Cond.code ({ cls := "java/util/ArrayList", name := "add", desc := "(Ljava/lang/Object;[Ljava/lang/Object;I)V" } : Jvm.MethodName) prog_44_method_24_code (4 : Nat) (Option.none : Option Jvm.ClassFile.FieldType)) ∈ lw_all := lw_g (lw_at lw_m4 31 rfl) rfl
theorem q882 : (Jvm.Cond.methodLink "java/util/ArrayList" (129 : Nat) ({ cls := "java/util/ArrayList", name := "grow", desc := "()[Ljava/lang/Object;" } : Jvm.MethodName)) ∈ lw_all := lw_g (lw_at lw_m4 32 rfl) rfl
theorem q883 : (Jvm.Cond.privateMethod ({ cls := "java/util/ArrayList", name := "grow", desc := "()[Ljava/lang/Object;" } : Jvm.MethodName)) ∈ lw_tbl := lw_at lw_m4 33 rfl
theorem q884 : (Jvm.Cond.instanceMethod ({ cls := "java/util/ArrayList", name := "grow", desc := "()[Ljava/lang/Object;" } : Jvm.MethodName)) ∈ lw_all := lw_g (lw_at lw_m4 34 rfl) rfl
theorem q885 : (Jvm.Cond.code ({ cls := "java/util/ArrayList", name := "grow", desc := "()[Ljava/lang/Object;" } : Jvm.MethodName) prog_44_method_7_code (1 : Nat) (Option.some (Jvm.ClassFile.FieldType.array (Jvm.ClassFile.FieldType.object "java/lang/Object")))) ∈ lw_all := lw_g (lw_at lw_m4 35 rfl) rfl
theorem q886 : (Jvm.Cond.methodLink "java/util/ArrayList" (69 : Nat) ({ cls := "java/util/ArrayList", name := "grow", desc := "(I)[Ljava/lang/Object;" } : Jvm.MethodName)) ∈ lw_all := lw_g (lw_at lw_m4 36 rfl) rfl
theorem q887 : (Jvm.Cond.privateMethod ({ cls := "java/util/ArrayList", name := "grow", desc := "(I)[Ljava/lang/Object;" } : Jvm.MethodName)) ∈ lw_tbl := lw_at lw_m4 37 rfl
theorem q888 : (Jvm.Cond.instanceMethod ({ cls := "java/util/ArrayList", name := "grow", desc := "(I)[Ljava/lang/Object;" } : Jvm.MethodName)) ∈ lw_all := lw_g (lw_at lw_m4 38 rfl) rfl
theorem q889 : (Jvm.Cond.code ({ cls := "java/util/ArrayList", name := "grow", desc := "(I)[Ljava/lang/Object;" } : Jvm.MethodName) prog_44_method_6_code (4 : Nat) (Option.some (Jvm.ClassFile.FieldType.array (Jvm.ClassFile.FieldType.object "java/lang/Object")))) ∈ lw_all := lw_g (lw_at lw_m4 39 rfl) rfl
theorem q890 : (Jvm.Cond.fieldLink "java/util/ArrayList" (39 : Nat) "java/util/ArrayList" "DEFAULTCAPACITY_EMPTY_ELEMENTDATA" "[Ljava/lang/Object;") ∈ lw_all := lw_g (lw_at lw_m4 40 rfl) rfl
theorem q891 : (Jvm.Cond.laysStatic "java/util/ArrayList" "DEFAULTCAPACITY_EMPTY_ELEMENTDATA" "[Ljava/lang/Object;") ∈ lw_tbl := lw_at lw_m4 41 rfl
theorem q892 : (Jvm.Cond.methodLink "java/util/ArrayList" (73 : Nat) ({ cls := "jdk/internal/util/ArraysSupport", name := "newLength", desc := "(III)I" } : Jvm.MethodName)) ∈ lw_all := lw_g (lw_at lw_m4 42 rfl) rfl
theorem q900 : (Jvm.Cond.methodLink "java/util/ArrayList" (66 : Nat) ({ cls := "java/util/Arrays", name := "copyOf", desc := "([Ljava/lang/Object;I)[Ljava/lang/Object;" } : Jvm.MethodName)) ∈ lw_all := lw_g (lw_at lw_m4 50 rfl) rfl
theorem q927 : (Jvm.Cond.selects "java/util/ArrayList" ({ cls := "java/lang/Object", name := "getClass", desc := "()Ljava/lang/Class;" } : Jvm.MethodName) ({ cls := "java/lang/Object", name := "getClass", desc := "()Ljava/lang/Class;" } : Jvm.MethodName)) ∈ lw_all := lw_g (lw_at lw_m4 77 rfl) rfl
theorem q939 : (Jvm.Cond.methodLink "java/util/ArrayList" (79 : Nat) ({ cls := "java/lang/Math", name := "max", desc := "(II)I" } : Jvm.MethodName)) ∈ lw_all := lw_g (lw_at lw_m4 89 rfl) rfl
theorem q1153 : (Jvm.Cond.instanceMethod ({ cls := "java/util/ArrayList", name := "isEmpty", desc := "()Z" } : Jvm.MethodName)) ∈ lw_all := lw_g (lw_at lw_m5 63 rfl) rfl
theorem q1154 : (Jvm.Cond.selects "java/util/ArrayList" ({ cls := "java/util/ArrayList", name := "isEmpty", desc := "()Z" } : Jvm.MethodName) ({ cls := "java/util/ArrayList", name := "isEmpty", desc := "()Z" } : Jvm.MethodName)) ∈ lw_all := lw_g (lw_at lw_m5 64 rfl) rfl
theorem q1155 : (Jvm.Cond.code ({ cls := "java/util/ArrayList", name := "isEmpty", desc := "()Z" } : Jvm.MethodName) prog_44_method_9_code (1 : Nat) (Option.some Jvm.ClassFile.FieldType.boolean)) ∈ lw_all := lw_g (lw_at lw_m5 65 rfl) rfl
theorem q2272 : (Jvm.Cond.castable "java/util/ArrayList" "java/lang/Object") ∈ lw_tbl := lw_at lw_m9 222 rfl
theorem q146 : (Jvm.Cond.initialized "java/util/Objects") ∈ lw_all := lw_g (lw_at lw_m1 16 rfl) rfl
theorem q474 : (Jvm.Cond.static ({ cls := "java/util/Objects", name := "checkIndex", desc := "(II)I" } : Jvm.MethodName)) ∈ lw_all := lw_g (lw_at lw_m2 104 rfl) rfl
theorem q475 : (Jvm.Cond.code ({ cls := "java/util/Objects", name := "checkIndex", desc := "(II)I" } : Jvm.MethodName) prog_49_method_17_code (2 : Nat) (Option.some Jvm.ClassFile.FieldType.int)) ∈ lw_all := lw_g (lw_at lw_m2 105 rfl) rfl
theorem q476 : (Jvm.Cond.methodLink "java/util/Objects" (105 : Nat) ({ cls := "jdk/internal/util/Preconditions", name := "checkIndex", desc := "(IILjava/util/function/BiFunction;)I" } : Jvm.MethodName)) ∈ lw_all := lw_g (lw_at lw_m2 106 rfl) rfl
theorem q147 : (Jvm.Cond.initialized "jdk/internal/util/Preconditions") ∈ lw_all := lw_g (lw_at lw_m1 17 rfl) rfl
theorem q477 : (Jvm.Cond.static ({ cls := "jdk/internal/util/Preconditions", name := "checkIndex", desc := "(IILjava/util/function/BiFunction;)I" } : Jvm.MethodName)) ∈ lw_all := lw_g (lw_at lw_m2 107 rfl) rfl
theorem q478 : (Jvm.Cond.code ({ cls := "jdk/internal/util/Preconditions", name := "checkIndex", desc := "(IILjava/util/function/BiFunction;)I" } : Jvm.MethodName) prog_53_method_11_code (3 : Nat) (Option.some Jvm.ClassFile.FieldType.int)) ∈ lw_all := lw_g (lw_at lw_m2 108 rfl) rfl
theorem q639 : (Jvm.Cond.laysStatic "jdk/internal/util/Preconditions" "SIOOBE_FORMATTER" "Ljava/util/function/BiFunction;") ∈ lw_tbl := lw_at lw_m3 29 rfl
theorem q712 : (Jvm.Cond.static ({ cls := "jdk/internal/util/Preconditions", name := "checkFromToIndex", desc := "(IIILjava/util/function/BiFunction;)I" } : Jvm.MethodName)) ∈ lw_all := lw_g (lw_at lw_m3 102 rfl) rfl
theorem q713 : (Jvm.Cond.code ({ cls := "jdk/internal/util/Preconditions", name := "checkFromToIndex", desc := "(IIILjava/util/function/BiFunction;)I" } : Jvm.MethodName) prog_53_method_12_code (4 : Nat) (Option.some Jvm.ClassFile.FieldType.int)) ∈ lw_all := lw_g (lw_at lw_m3 103 rfl) rfl
theorem q149 : (Jvm.Cond.initialized "java/lang/String") ∈ lw_all := lw_g (lw_at lw_m1 19 rfl) rfl
theorem q615 : (Jvm.Cond.instanceMethod ({ cls := "java/lang/String", name := "length", desc := "()I" } : Jvm.MethodName)) ∈ lw_all := lw_g (lw_at lw_m3 5 rfl) rfl
theorem q616 : (Jvm.Cond.selects "java/lang/String" ({ cls := "java/lang/String", name := "length", desc := "()I" } : Jvm.MethodName) ({ cls := "java/lang/String", name := "length", desc := "()I" } : Jvm.MethodName)) ∈ lw_all := lw_g (lw_at lw_m3 6 rfl) rfl
theorem q617 : (Jvm.Cond.code ({ cls := "java/lang/String", name := "length", desc := "()I" } : Jvm.MethodName) prog_35_method_54_code (1 : Nat) (Option.some Jvm.ClassFile.FieldType.int)) ∈ lw_all := lw_g (lw_at lw_m3 7 rfl) rfl
theorem q618 : (Jvm.Cond.methodLink "java/lang/String" (335 : Nat) ({ cls := "java/lang/String", name := "coder", desc := "()B" } : Jvm.MethodName)) ∈ lw_all := lw_g (lw_at lw_m3 8 rfl) rfl
theorem q619 : (Jvm.Cond.instanceMethod ({ cls := "java/lang/String", name := "coder", desc := "()B" } : Jvm.MethodName)) ∈ lw_all := lw_g (lw_at lw_m3 9 rfl) rfl
theorem q620 : (Jvm.Cond.selects "java/lang/String" ({ cls := "java/lang/String", name := "coder", desc := "()B" } : Jvm.MethodName) ({ cls := "java/lang/String", name := "coder", desc := "()B" } : Jvm.MethodName)) ∈ lw_all := lw_g (lw_at lw_m3 10 rfl) rfl
theorem q621 : (Jvm.Cond.code ({ cls := "java/lang/String", name := "coder", desc := "()B" } : Jvm.MethodName) prog_35_method_152_code (1 : Nat) (Option.some Jvm.ClassFile.FieldType.byte)) ∈ lw_all := lw_g (lw_at lw_m3 11 rfl) rfl
theorem q622 : (Jvm.Cond.fieldLink "java/lang/String" (38 : Nat) "java/lang/String" "COMPACT_STRINGS" "Z") ∈ lw_all := lw_g (lw_at lw_m3 12 rfl) rfl
theorem q623 : (Jvm.Cond.laysStatic "java/lang/String" "COMPACT_STRINGS" "Z") ∈ lw_tbl := lw_at lw_m3 13 rfl
theorem q625 : (Jvm.Cond.instanceMethod ({ cls := "java/lang/String", name := "charAt", desc := "(I)C" } : Jvm.MethodName)) ∈ lw_all := lw_g (lw_at lw_m3 15 rfl) rfl
theorem q626 : (Jvm.Cond.selects "java/lang/String" ({ cls := "java/lang/String", name := "charAt", desc := "(I)C" } : Jvm.MethodName) ({ cls := "java/lang/String", name := "charAt", desc := "(I)C" } : Jvm.MethodName)) ∈ lw_all := lw_g (lw_at lw_m3 16 rfl) rfl
theorem q627 : (Jvm.Cond.code ({ cls := "java/lang/String", name := "charAt", desc := "(I)C" } : Jvm.MethodName) prog_35_method_56_code (2 : Nat) (Option.some Jvm.ClassFile.FieldType.char)) ∈ lw_all := lw_g (lw_at lw_m3 17 rfl) rfl
theorem q628 : (Jvm.Cond.methodLink "java/lang/String" (492 : Nat) ({ cls := "java/lang/String", name := "isLatin1", desc := "()Z" } : Jvm.MethodName)) ∈ lw_all := lw_g (lw_at lw_m3 18 rfl) rfl
theorem q629 : (Jvm.Cond.instanceMethod ({ cls := "java/lang/String", name := "isLatin1", desc := "()Z" } : Jvm.MethodName)) ∈ lw_all := lw_g (lw_at lw_m3 19 rfl) rfl
theorem q630 : (Jvm.Cond.selects "java/lang/String" ({ cls := "java/lang/String", name := "isLatin1", desc := "()Z" } : Jvm.MethodName) ({ cls := "java/lang/String", name := "isLatin1", desc := "()Z" } : Jvm.MethodName)) ∈ lw_all := lw_g (lw_at lw_m3 20 rfl) rfl
theorem q631 : (Jvm.Cond.code ({ cls := "java/lang/String", name := "isLatin1", desc := "()Z" } : Jvm.MethodName) prog_35_method_154_code (1 : Nat) (Option.some Jvm.ClassFile.FieldType.boolean)) ∈ lw_all := lw_g (lw_at lw_m3 21 rfl) rfl
theorem q632 : (Jvm.Cond.methodLink "java/lang/String" (495 : Nat) ({ cls := "java/lang/StringLatin1", name := "charAt", desc := "([BI)C" } : Jvm.MethodName)) ∈ lw_all := lw_g (lw_at lw_m3 22 rfl) rfl
theorem q636 : (Jvm.Cond.static ({ cls := "java/lang/String", name := "checkIndex", desc := "(II)V" } : Jvm.MethodName)) ∈ lw_all := lw_g (lw_at lw_m3 26 rfl) rfl
theorem q637 : (Jvm.Cond.code ({ cls := "java/lang/String", name := "checkIndex", desc := "(II)V" } : Jvm.MethodName) prog_35_method_155_code (2 : Nat) (Option.none : Option Jvm.ClassFile.FieldType)) ∈ lw_all := lw_g (lw_at lw_m3 27 rfl) rfl
theorem q638 : (Jvm.Cond.fieldLink "java/lang/String" (1053 : Nat) "jdk/internal/util/Preconditions" "SIOOBE_FORMATTER" "Ljava/util/function/BiFunction;") ∈ lw_all := lw_g (lw_at lw_m3 28 rfl) rfl
theorem q640 : (Jvm.Cond.methodLink "java/lang/String" (1059 : Nat) ({ cls := "jdk/internal/util/Preconditions", name := "checkIndex", desc := "(IILjava/util/function/BiFunction;)I" } : Jvm.MethodName)) ∈ lw_all := lw_g (lw_at lw_m3 30 rfl) rfl
theorem q641 : (Jvm.Cond.methodLink "java/lang/String" (498 : Nat) ({ cls := "java/lang/StringUTF16", name := "charAt", desc := "([BI)C" } : Jvm.MethodName)) ∈ lw_all := lw_g (lw_at lw_m3 31 rfl) rfl
theorem q673 : (Jvm.Cond.instanceMethod ({ cls := "java/lang/String", name := "indexOf", desc := "(I)I" } : Jvm.MethodName)) ∈ lw_all := lw_g (lw_at lw_m3 63 rfl) rfl
theorem q674 : (Jvm.Cond.selects "java/lang/String" ({ cls := "java/lang/String", name := "indexOf", desc := "(I)I" } : Jvm.MethodName) ({ cls := "java/lang/String", name := "indexOf", desc := "(I)I" } : Jvm.MethodName)) ∈ lw_all := lw_g (lw_at lw_m3 64 rfl) rfl
theorem q675 : (Jvm.Cond.code ({ cls := "java/lang/String", name := "indexOf", desc := "(I)I" } : Jvm.MethodName) prog_35_method_79_code (2 : Nat) (Option.some Jvm.ClassFile.FieldType.int)) ∈ lw_all := lw_g (lw_at lw_m3 65 rfl) rfl
theorem q676 : (Jvm.Cond.methodLink "java/lang/String" (633 : Nat) ({ cls := "java/lang/String", name := "indexOf", desc := "(II)I" } : Jvm.MethodName)) ∈ lw_all := lw_g (lw_at lw_m3 66 rfl) rfl
theorem q677 : (Jvm.Cond.instanceMethod ({ cls := "java/lang/String", name := "indexOf", desc := "(II)I" } : Jvm.MethodName)) ∈ lw_all := lw_g (lw_at lw_m3 67 rfl) rfl
theorem q678 : (Jvm.Cond.selects "java/lang/String" ({ cls := "java/lang/String", name := "indexOf", desc := "(II)I" } : Jvm.MethodName) ({ cls := "java/lang/String", name := "indexOf", desc := "(II)I" } : Jvm.MethodName)) ∈ lw_all := lw_g (lw_at lw_m3 68 rfl) rfl
theorem q679 : (Jvm.Cond.code ({ cls := "java/lang/String", name := "indexOf", desc := "(II)I" } : Jvm.MethodName) prog_35_method_80_code (3 : Nat) (Option.some Jvm.ClassFile.FieldType.int)) ∈ lw_all := lw_g (lw_at lw_m3 69 rfl) rfl
theorem q680 : (Jvm.Cond.methodLink "java/lang/String" (505 : Nat) ({ cls := "java/lang/String", name := "length", desc := "()I" } : Jvm.MethodName)) ∈ lw_all := lw_g (lw_at lw_m3 70 rfl) rfl
theorem q681 : (Jvm.Cond.methodLink "java/lang/String" (637 : Nat) ({ cls := "java/lang/StringLatin1", name := "indexOf", desc := "([BIII)I" } : Jvm.MethodName)) ∈ lw_all := lw_g (lw_at lw_m3 71 rfl) rfl
theorem q696 : (Jvm.Cond.methodLink "java/lang/String" (640 : Nat) ({ cls := "java/lang/StringUTF16", name := "indexOf", desc := "([BIII)I" } : Jvm.MethodName)) ∈ lw_all := lw_g (lw_at lw_m3 86 rfl) rfl
theorem q709 : (Jvm.Cond.static ({ cls := "java/lang/String", name := "checkBoundsBeginEnd", desc := "(III)V" } : Jvm.MethodName)) ∈ lw_all := lw_g (lw_at lw_m3 99 rfl) rfl
theorem q710 : (Jvm.Cond.code ({ cls := "java/lang/String", name := "checkBoundsBeginEnd", desc := "(III)V" } : Jvm.MethodName) prog_35_method_158_code (3 : Nat) (Option.none : Option Jvm.ClassFile.FieldType)) ∈ lw_all := lw_g (lw_at lw_m3 100 rfl) rfl
theorem q711 : (Jvm.Cond.methodLink "java/lang/String" (1062 : Nat) ({ cls := "jdk/internal/util/Preconditions", name := "checkFromToIndex", desc := "(IIILjava/util/function/BiFunction;)I" } : Jvm.MethodName)) ∈ lw_all := lw_g (lw_at lw_m3 101 rfl) rfl
theorem q1460 : (Jvm.Cond.instantiable "java/lang/String" (4 : Nat)) ∈ lw_all := lw_g (lw_at lw_m6 130 rfl) rfl
theorem q1461 : (Jvm.Cond.laysFinal "java/lang/String" "java/lang/String" "value" "[B") ∈ lw_all := lw_g (lw_at lw_m6 131 rfl) rfl
theorem q1462 : (Jvm.Cond.soleField "java/lang/String" "value") ∈ lw_all := lw_g (lw_at lw_m6 132 rfl) rfl
theorem q1463 : (Jvm.Cond.laysFinal "java/lang/String" "java/lang/String" "coder" "B") ∈ lw_all := lw_g (lw_at lw_m6 133 rfl) rfl
theorem q1464 : (Jvm.Cond.soleField "java/lang/String" "coder") ∈ lw_all := lw_g (lw_at lw_m6 134 rfl) rfl
theorem q2268 : (Jvm.Cond.castable "java/lang/String" "java/lang/Object") ∈ lw_tbl := lw_at lw_m9 218 rfl
theorem q2307 : (Jvm.Cond.fieldLink "java/lang/String" (9 : Nat) "java/lang/String" "value" "[B") ∈ lw_all := lw_g (lw_at lw_m10 17 rfl) rfl
theorem q2308 : (Jvm.Cond.fieldLink "java/lang/String" (15 : Nat) "java/lang/String" "coder" "B") ∈ lw_all := lw_g (lw_at lw_m10 18 rfl) rfl
theorem q150 : (Jvm.Cond.initialized "java/lang/StringLatin1") ∈ lw_all := lw_g (lw_at lw_m1 20 rfl) rfl
theorem q633 : (Jvm.Cond.static ({ cls := "java/lang/StringLatin1", name := "charAt", desc := "([BI)C" } : Jvm.MethodName)) ∈ lw_all := lw_g (lw_at lw_m3 23 rfl) rfl
theorem q634 : (Jvm.Cond.code ({ cls := "java/lang/StringLatin1", name := "charAt", desc := "([BI)C" } : Jvm.MethodName) prog_36_method_2_code (2 : Nat) (Option.some Jvm.ClassFile.FieldType.char)) ∈ lw_all := lw_g (lw_at lw_m3 24 rfl) rfl
theorem q635 : (Jvm.Cond.methodLink "java/lang/StringLatin1" (9 : Nat) ({ cls := "java/lang/String", name := "checkIndex", desc := "(II)V" } : Jvm.MethodName)) ∈ lw_all := lw_g (lw_at lw_m3 25 rfl) rfl
theorem q682 : (Jvm.Cond.static ({ cls := "java/lang/StringLatin1", name := "indexOf", desc := "([BIII)I" } : Jvm.MethodName)) ∈ lw_all := lw_g (lw_at lw_m3 72 rfl) rfl
theorem q683 : (Jvm.Cond.code ({ cls := "java/lang/StringLatin1", name := "indexOf", desc := "([BIII)I" } : Jvm.MethodName) prog_36_method_22_code (4 : Nat) (Option.some Jvm.ClassFile.FieldType.int)) ∈ lw_all := lw_g (lw_at lw_m3 73 rfl) rfl
theorem q684 : (Jvm.Cond.methodLink "java/lang/StringLatin1" (88 : Nat) ({ cls := "java/lang/StringLatin1", name := "canEncode", desc := "(I)Z" } : Jvm.MethodName)) ∈ lw_all := lw_g (lw_at lw_m3 74 rfl) rfl
theorem q685 : (Jvm.Cond.static ({ cls := "java/lang/StringLatin1", name := "canEncode", desc := "(I)Z" } : Jvm.MethodName)) ∈ lw_all := lw_g (lw_at lw_m3 75 rfl) rfl
theorem q686 : (Jvm.Cond.code ({ cls := "java/lang/StringLatin1", name := "canEncode", desc := "(I)Z" } : Jvm.MethodName) prog_36_method_4_code (1 : Nat) (Option.some Jvm.ClassFile.FieldType.boolean)) ∈ lw_all := lw_g (lw_at lw_m3 76 rfl) rfl
theorem q687 : (Jvm.Cond.methodLink "java/lang/StringLatin1" (92 : Nat) ({ cls := "java/lang/Math", name := "max", desc := "(II)I" } : Jvm.MethodName)) ∈ lw_all := lw_g (lw_at lw_m3 77 rfl) rfl
theorem q690 : (Jvm.Cond.methodLink "java/lang/StringLatin1" (38 : Nat) ({ cls := "java/lang/Math", name := "min", desc := "(II)I" } : Jvm.MethodName)) ∈ lw_all := lw_g (lw_at lw_m3 80 rfl) rfl
theorem q693 : (Jvm.Cond.methodLink "java/lang/StringLatin1" (95 : Nat) ({ cls := "java/lang/StringLatin1", name := "indexOfChar", desc := "([BIII)I" } : Jvm.MethodName)) ∈ lw_all := lw_g (lw_at lw_m3 83 rfl) rfl
theorem q694 : (Jvm.Cond.static ({ cls := "java/lang/StringLatin1", name := "indexOfChar", desc := "([BIII)I" } : Jvm.MethodName)) ∈ lw_all := lw_g (lw_at lw_m3 84 rfl) rfl
theorem q695 : (Jvm.Cond.code ({ cls := "java/lang/StringLatin1", name := "indexOfChar", desc := "([BIII)I" } : Jvm.MethodName) prog_36_method_23_code (6 : Nat) (Option.some Jvm.ClassFile.FieldType.int)) ∈ lw_all := lw_g (lw_at lw_m3 85 rfl) rfl
theorem q151 : (Jvm.Cond.initialized "java/lang/StringUTF16") ∈ lw_all := lw_g (lw_at lw_m1 21 rfl) rfl
theorem q642 : (Jvm.Cond.static ({ cls := "java/lang/StringUTF16", name := "charAt", desc := "([BI)C" } : Jvm.MethodName)) ∈ lw_all := lw_g (lw_at lw_m3 32 rfl) rfl
theorem q643 : (Jvm.Cond.code ({ cls := "java/lang/StringUTF16", name := "charAt", desc := "([BI)C" } : Jvm.MethodName) prog_37_method_83_code (2 : Nat) (Option.some Jvm.ClassFile.FieldType.char)) ∈ lw_all := lw_g (lw_at lw_m3 33 rfl) rfl
theorem q644 : (Jvm.Cond.methodLink "java/lang/StringUTF16" (67 : Nat) ({ cls := "java/lang/StringUTF16", name := "checkIndex", desc := "(I[B)V" } : Jvm.MethodName)) ∈ lw_all := lw_g (lw_at lw_m3 34 rfl) rfl
theorem q645 : (Jvm.Cond.static ({ cls := "java/lang/StringUTF16", name := "checkIndex", desc := "(I[B)V" } : Jvm.MethodName)) ∈ lw_all := lw_g (lw_at lw_m3 35 rfl) rfl
theorem q646 : (Jvm.Cond.code ({ cls := "java/lang/StringUTF16", name := "checkIndex", desc := "(I[B)V" } : Jvm.MethodName) prog_37_method_91_code (2 : Nat) (Option.none : Option Jvm.ClassFile.FieldType)) ∈ lw_all := lw_g (lw_at lw_m3 36 rfl) rfl
theorem q647 : (Jvm.Cond.methodLink "java/lang/StringUTF16" (48 : Nat) ({ cls := "java/lang/StringUTF16", name := "length", desc := "([B)I" } : Jvm.MethodName)) ∈ lw_all := lw_g (lw_at lw_m3 37 rfl) rfl
theorem q648 : (Jvm.Cond.static ({ cls := "java/lang/StringUTF16", name := "length", desc := "([B)I" } : Jvm.MethodName)) ∈ lw_all := lw_g (lw_at lw_m3 38 rfl) rfl
theorem q649 : (Jvm.Cond.code ({ cls := "java/lang/StringUTF16", name := "length", desc := "([B)I" } : Jvm.MethodName) prog_37_method_6_code (1 : Nat) (Option.some Jvm.ClassFile.FieldType.int)) ∈ lw_all := lw_g (lw_at lw_m3 39 rfl) rfl
theorem q650 : (Jvm.Cond.methodLink "java/lang/StringUTF16" (414 : Nat) ({ cls := "java/lang/String", name := "checkIndex", desc := "(II)V" } : Jvm.MethodName)) ∈ lw_all := lw_g (lw_at lw_m3 40 rfl) rfl
theorem q651 : (Jvm.Cond.methodLink "java/lang/StringUTF16" (71 : Nat) ({ cls := "java/lang/StringUTF16", name := "getChar", desc := "([BI)C" } : Jvm.MethodName)) ∈ lw_all := lw_g (lw_at lw_m3 41 rfl) rfl
theorem q652 : (Jvm.Cond.static ({ cls := "java/lang/StringUTF16", name := "getChar", desc := "([BI)C" } : Jvm.MethodName)) ∈ lw_all := lw_g (lw_at lw_m3 42 rfl) rfl
theorem q653 : (Jvm.Cond.code ({ cls := "java/lang/StringUTF16", name := "getChar", desc := "([BI)C" } : Jvm.MethodName) prog_37_method_5_code (2 : Nat) (Option.some Jvm.ClassFile.FieldType.char)) ∈ lw_all := lw_g (lw_at lw_m3 43 rfl) rfl
theorem q654 : (Jvm.Cond.fieldLink "java/lang/StringUTF16" (44 : Nat) "java/lang/StringUTF16" "$assertionsDisabled" "Z") ∈ lw_all := lw_g (lw_at lw_m3 44 rfl) rfl
theorem q655 : (Jvm.Cond.laysStatic "java/lang/StringUTF16" "$assertionsDisabled" "Z") ∈ lw_tbl := lw_at lw_m3 45 rfl
theorem q656 : (Jvm.Cond.fieldLink "java/lang/StringUTF16" (59 : Nat) "java/lang/StringUTF16" "HI_BYTE_SHIFT" "I") ∈ lw_all := lw_g (lw_at lw_m3 46 rfl) rfl
theorem q657 : (Jvm.Cond.laysStatic "java/lang/StringUTF16" "HI_BYTE_SHIFT" "I") ∈ lw_tbl := lw_at lw_m3 47 rfl
theorem q658 : (Jvm.Cond.fieldLink "java/lang/StringUTF16" (63 : Nat) "java/lang/StringUTF16" "LO_BYTE_SHIFT" "I") ∈ lw_all := lw_g (lw_at lw_m3 48 rfl) rfl
theorem q659 : (Jvm.Cond.laysStatic "java/lang/StringUTF16" "LO_BYTE_SHIFT" "I") ∈ lw_tbl := lw_at lw_m3 49 rfl
theorem q697 : (Jvm.Cond.static ({ cls := "java/lang/StringUTF16", name := "indexOf", desc := "([BIII)I" } : Jvm.MethodName)) ∈ lw_all := lw_g (lw_at lw_m3 87 rfl) rfl
theorem q698 : (Jvm.Cond.code ({ cls := "java/lang/StringUTF16", name := "indexOf", desc := "([BIII)I" } : Jvm.MethodName) prog_37_method_40_code (4 : Nat) (Option.some Jvm.ClassFile.FieldType.int)) ∈ lw_all := lw_g (lw_at lw_m3 88 rfl) rfl
theorem q699 : (Jvm.Cond.methodLink "java/lang/StringUTF16" (224 : Nat) ({ cls := "java/lang/Math", name := "max", desc := "(II)I" } : Jvm.MethodName)) ∈ lw_all := lw_g (lw_at lw_m3 89 rfl) rfl
theorem q700 : (Jvm.Cond.methodLink "java/lang/StringUTF16" (183 : Nat) ({ cls := "java/lang/Math", name := "min", desc := "(II)I" } : Jvm.MethodName)) ∈ lw_all := lw_g (lw_at lw_m3 90 rfl) rfl
theorem q701 : (Jvm.Cond.constant "java/lang/StringUTF16" (227 : Nat) (65536 : Int32)) ∈ lw_all := lw_g (lw_at lw_m3 91 rfl) rfl
theorem q702 : (Jvm.Cond.methodLink "java/lang/StringUTF16" (228 : Nat) ({ cls := "java/lang/StringUTF16", name := "indexOfChar", desc := "([BIII)I" } : Jvm.MethodName)) ∈ lw_all := lw_g (lw_at lw_m3 92 rfl) rfl
theorem q703 : (Jvm.Cond.static ({ cls := "java/lang/StringUTF16", name := "indexOfChar", desc := "([BIII)I" } : Jvm.MethodName)) ∈ lw_all := lw_g (lw_at lw_m3 93 rfl) rfl
theorem q704 : (Jvm.Cond.code ({ cls := "java/lang/StringUTF16", name := "indexOfChar", desc := "([BIII)I" } : Jvm.MethodName) prog_37_method_47_code (4 : Nat) (Option.some Jvm.ClassFile.FieldType.int)) ∈ lw_all := lw_g (lw_at lw_m3 94 rfl) rfl
theorem q705 : (Jvm.Cond.methodLink "java/lang/StringUTF16" (96 : Nat) ({ cls := "java/lang/StringUTF16", name := "checkBoundsBeginEnd", desc := "(II[B)V" } : Jvm.MethodName)) ∈ lw_all := lw_g (lw_at lw_m3 95 rfl) rfl
theorem q706 : (Jvm.Cond.static ({ cls := "java/lang/StringUTF16", name := "checkBoundsBeginEnd", desc := "(II[B)V" } : Jvm.MethodName)) ∈ lw_all := lw_g (lw_at lw_m3 96 rfl) rfl
theorem q707 : (Jvm.Cond.code ({ cls := "java/lang/StringUTF16", name := "checkBoundsBeginEnd", desc := "(II[B)V" } : Jvm.MethodName) prog_37_method_93_code (3 : Nat) (Option.none : Option Jvm.ClassFile.FieldType)) ∈ lw_all := lw_g (lw_at lw_m3 97 rfl) rfl
theorem q708 : (Jvm.Cond.methodLink "java/lang/StringUTF16" (241 : Nat) ({ cls := "java/lang/String", name := "checkBoundsBeginEnd", desc := "(III)V" } : Jvm.MethodName)) ∈ lw_all := lw_g (lw_at lw_m3 98 rfl) rfl
theorem q714 : (Jvm.Cond.methodLink "java/lang/StringUTF16" (244 : Nat) ({ cls := "java/lang/StringUTF16", name := "indexOfCharUnsafe", desc := "([BIII)I" } : Jvm.MethodName)) ∈ lw_all := lw_g (lw_at lw_m3 104 rfl) rfl
theorem q715 : (Jvm.Cond.static ({ cls := "java/lang/StringUTF16", name := "indexOfCharUnsafe", desc := "([BIII)I" } : Jvm.MethodName)) ∈ lw_all := lw_g (lw_at lw_m3 105 rfl) rfl
theorem q716 : (Jvm.Cond.code ({ cls := "java/lang/StringUTF16", name := "indexOfCharUnsafe", desc := "([BIII)I" } : Jvm.MethodName) prog_37_method_48_code (5 : Nat) (Option.some Jvm.ClassFile.FieldType.int)) ∈ lw_all := lw_g (lw_at lw_m3 106 rfl) rfl
theorem q717 : (Jvm.Cond.methodLink "java/lang/StringUTF16" (232 : Nat) ({ cls := "java/lang/StringUTF16", name := "indexOfSupplementary", desc := "([BIII)I" } : Jvm.MethodName)) ∈ lw_all := lw_g (lw_at lw_m3 107 rfl) rfl
theorem q718 : (Jvm.Cond.static ({ cls := "java/lang/StringUTF16", name := "indexOfSupplementary", desc := "([BIII)I" } : Jvm.MethodName)) ∈ lw_all := lw_g (lw_at lw_m3 108 rfl) rfl
theorem q719 : (Jvm.Cond.code ({ cls := "java/lang/StringUTF16", name := "indexOfSupplementary", desc := "([BIII)I" } : Jvm.MethodName) prog_37_method_49_code (7 : Nat) (Option.some Jvm.ClassFile.FieldType.int)) ∈ lw_all := lw_g (lw_at lw_m3 109 rfl) rfl
theorem q720 : (Jvm.Cond.methodLink "java/lang/StringUTF16" (164 : Nat) ({ cls := "java/lang/Character", name := "isValidCodePoint", desc := "(I)Z" } : Jvm.MethodName)) ∈ lw_all := lw_g (lw_at lw_m3 110 rfl) rfl
theorem q723 : (Jvm.Cond.methodLink "java/lang/StringUTF16" (157 : Nat) ({ cls := "java/lang/Character", name := "highSurrogate", desc := "(I)C" } : Jvm.MethodName)) ∈ lw_all := lw_g (lw_at lw_m3 113 rfl) rfl
theorem q727 : (Jvm.Cond.methodLink "java/lang/StringUTF16" (161 : Nat) ({ cls := "java/lang/Character", name := "lowSurrogate", desc := "(I)C" } : Jvm.MethodName)) ∈ lw_all := lw_g (lw_at lw_m3 117 rfl) rfl
theorem q152 : (Jvm.Cond.initialized "java/lang/Math") ∈ lw_all := lw_g (lw_at lw_m1 22 rfl) rfl
theorem q688 : (Jvm.Cond.static ({ cls := "java/lang/Math", name := "max", desc := "(II)I" } : Jvm.MethodName)) ∈ lw_all := lw_g (lw_at lw_m3 78 rfl) rfl
theorem q689 : (Jvm.Cond.code ({ cls := "java/lang/Math", name := "max", desc := "(II)I" } : Jvm.MethodName) prog_33_method_65_code (2 : Nat) (Option.some Jvm.ClassFile.FieldType.int)) ∈ lw_all := lw_g (lw_at lw_m3 79 rfl) rfl
theorem q691 : (Jvm.Cond.static ({ cls := "java/lang/Math", name := "min", desc := "(II)I" } : Jvm.MethodName)) ∈ lw_all := lw_g (lw_at lw_m3 81 rfl) rfl
theorem q692 : (Jvm.Cond.code ({ cls := "java/lang/Math", name := "min", desc := "(II)I" } : Jvm.MethodName) prog_33_method_69_code (2 : Nat) (Option.some Jvm.ClassFile.FieldType.int)) ∈ lw_all := lw_g (lw_at lw_m3 82 rfl) rfl
theorem q1392 : (Jvm.Cond.static ({ cls := "java/lang/Math", name := "abs", desc := "(J)J" } : Jvm.MethodName)) ∈ lw_all := lw_g (lw_at lw_m6 62 rfl) rfl
theorem q1393 : (Jvm.Cond.code ({ cls := "java/lang/Math", name := "abs", desc := "(J)J" } : Jvm.MethodName) prog_33_method_61_code (2 : Nat) (Option.some Jvm.ClassFile.FieldType.long)) ∈ lw_all := lw_g (lw_at lw_m6 63 rfl) rfl
theorem q1402 : (Jvm.Cond.static ({ cls := "java/lang/Math", name := "min", desc := "(JJ)J" } : Jvm.MethodName)) ∈ lw_all := lw_g (lw_at lw_m6 72 rfl) rfl
theorem q1403 : (Jvm.Cond.code ({ cls := "java/lang/Math", name := "min", desc := "(JJ)J" } : Jvm.MethodName) prog_33_method_70_code (4 : Nat) (Option.some Jvm.ClassFile.FieldType.long)) ∈ lw_all := lw_g (lw_at lw_m6 73 rfl) rfl
theorem q1405 : (Jvm.Cond.static ({ cls := "java/lang/Math", name := "max", desc := "(JJ)J" } : Jvm.MethodName)) ∈ lw_all := lw_g (lw_at lw_m6 75 rfl) rfl
theorem q1406 : (Jvm.Cond.code ({ cls := "java/lang/Math", name := "max", desc := "(JJ)J" } : Jvm.MethodName) prog_33_method_66_code (4 : Nat) (Option.some Jvm.ClassFile.FieldType.long)) ∈ lw_all := lw_g (lw_at lw_m6 76 rfl) rfl
theorem q153 : (Jvm.Cond.initialized "java/lang/Character") ∈ lw_all := lw_g (lw_at lw_m1 23 rfl) rfl
theorem q721 : (Jvm.Cond.static ({ cls := "java/lang/Character", name := "isValidCodePoint", desc := "(I)Z" } : Jvm.MethodName)) ∈ lw_all := lw_g (lw_at lw_m3 111 rfl) rfl
theorem q722 : (Jvm.Cond.code ({ cls := "java/lang/Character", name := "isValidCodePoint", desc := "(I)Z" } : Jvm.MethodName) prog_26_method_11_code (2 : Nat) (Option.some Jvm.ClassFile.FieldType.boolean)) ∈ lw_all := lw_g (lw_at lw_m3 112 rfl) rfl
theorem q724 : (Jvm.Cond.static ({ cls := "java/lang/Character", name := "highSurrogate", desc := "(I)C" } : Jvm.MethodName)) ∈ lw_all := lw_g (lw_at lw_m3 114 rfl) rfl
theorem q725 : (Jvm.Cond.code ({ cls := "java/lang/Character", name := "highSurrogate", desc := "(I)C" } : Jvm.MethodName) prog_26_method_28_code (1 : Nat) (Option.some Jvm.ClassFile.FieldType.char)) ∈ lw_all := lw_g (lw_at lw_m3 115 rfl) rfl
theorem q726 : (Jvm.Cond.constant "java/lang/Character" (110 : Nat) (55232 : Int32)) ∈ lw_all := lw_g (lw_at lw_m3 116 rfl) rfl
theorem q728 : (Jvm.Cond.static ({ cls := "java/lang/Character", name := "lowSurrogate", desc := "(I)C" } : Jvm.MethodName)) ∈ lw_all := lw_g (lw_at lw_m3 118 rfl) rfl
theorem q729 : (Jvm.Cond.code ({ cls := "java/lang/Character", name := "lowSurrogate", desc := "(I)C" } : Jvm.MethodName) prog_26_method_29_code (1 : Nat) (Option.some Jvm.ClassFile.FieldType.char)) ∈ lw_all := lw_g (lw_at lw_m3 119 rfl) rfl
theorem q730 : (Jvm.Cond.constant "java/lang/Character" (76 : Nat) (56320 : Int32)) ∈ lw_all := lw_g (lw_at lw_m3 120 rfl) rfl
theorem q130 : (Jvm.Cond.initialized "TwoTonguesLaw") ∈ lw_all := lw_g (lw_at lw_m1 0 rfl) rfl
theorem q171 : (Jvm.Cond.classLink "TwoTonguesLaw" (8 : Nat) "TwoTongues") ∈ lw_all := lw_g (lw_at lw_m1 41 rfl) rfl
theorem q173 : (Jvm.Cond.methodLink "TwoTonguesLaw" (17 : Nat) ({ cls := "TwoTongues", name := "<init>", desc := "()V" } : Jvm.MethodName)) ∈ lw_all := lw_g (lw_at lw_m1 43 rfl) rfl
theorem q575 : (Jvm.Cond.methodLink "TwoTonguesLaw" (21 : Nat) ({ cls := "TwoTongues", name := "feed", desc := "(IIIII)I" } : Jvm.MethodName)) ∈ lw_all := lw_g (lw_at lw_m2 205 rfl) rfl
theorem q583 : (Jvm.Cond.methodLink "TwoTonguesLaw" (26 : Nat) ({ cls := "TwoTongues", name := "text", desc := "(I)I" } : Jvm.MethodName)) ∈ lw_all := lw_g (lw_at lw_m2 213 rfl) rfl
theorem q1048 : (Jvm.Cond.methodLink "TwoTonguesLaw" (31 : Nat) ({ cls := "TwoTongues", name := "fault", desc := "(I)I" } : Jvm.MethodName)) ∈ lw_all := lw_g (lw_at lw_m4 198 rfl) rfl
theorem q1052 : (Jvm.Cond.methodLink "TwoTonguesLaw" (35 : Nat) ({ cls := "TwoTongues", name := "named", desc := "(II)I" } : Jvm.MethodName)) ∈ lw_all := lw_g (lw_at lw_m4 202 rfl) rfl
theorem q1058 : (Jvm.Cond.methodLink "TwoTonguesLaw" (49 : Nat) ({ cls := "TwoTongues", name := "letter", desc := "(II)I" } : Jvm.MethodName)) ∈ lw_all := lw_g (lw_at lw_m4 208 rfl) rfl
theorem q1071 : (Jvm.Cond.methodLink "TwoTonguesLaw" (53 : Nat) ({ cls := "TwoTongues", name := "word", desc := "(III)I" } : Jvm.MethodName)) ∈ lw_all := lw_g (lw_at lw_m4 221 rfl) rfl
theorem q1078 : (Jvm.Cond.methodLink "TwoTonguesLaw" (58 : Nat) ({ cls := "TwoTongues", name := "ways", desc := "(II)J" } : Jvm.MethodName)) ∈ lw_all := lw_g (lw_at lw_m4 228 rfl) rfl
theorem q1126 : (Jvm.Cond.methodLink "TwoTonguesLaw" (63 : Nat) ({ cls := "TwoTongues", name := "worth", desc := "(II)I" } : Jvm.MethodName)) ∈ lw_all := lw_g (lw_at lw_m5 36 rfl) rfl
theorem q1130 : (Jvm.Cond.methodLink "TwoTonguesLaw" (67 : Nat) ({ cls := "TwoTongues", name := "said", desc := "(III)I" } : Jvm.MethodName)) ∈ lw_all := lw_g (lw_at lw_m5 40 rfl) rfl
theorem q1134 : (Jvm.Cond.methodLink "TwoTonguesLaw" (71 : Nat) ({ cls := "TwoTongues", name := "says", desc := "(III)I" } : Jvm.MethodName)) ∈ lw_all := lw_g (lw_at lw_m5 44 rfl) rfl
theorem q1147 : (Jvm.Cond.methodLink "TwoTonguesLaw" (75 : Nat) ({ cls := "TwoTongues", name := "nights", desc := "(I)I" } : Jvm.MethodName)) ∈ lw_all := lw_g (lw_at lw_m5 57 rfl) rfl
theorem q1162 : (Jvm.Cond.methodLink "TwoTonguesLaw" (79 : Nat) ({ cls := "TwoTongues", name := "put", desc := "(III)I" } : Jvm.MethodName)) ∈ lw_all := lw_g (lw_at lw_m5 72 rfl) rfl
theorem q1175 : (Jvm.Cond.methodLink "TwoTonguesLaw" (83 : Nat) ({ cls := "TwoTongues", name := "lose", desc := "(II)Z" } : Jvm.MethodName)) ∈ lw_all := lw_g (lw_at lw_m5 85 rfl) rfl
theorem q1179 : (Jvm.Cond.methodLink "TwoTonguesLaw" (88 : Nat) ({ cls := "TwoTongues", name := "coin", desc := "(III)I" } : Jvm.MethodName)) ∈ lw_all := lw_g (lw_at lw_m5 89 rfl) rfl
theorem q1187 : (Jvm.Cond.methodLink "TwoTonguesLaw" (92 : Nat) ({ cls := "TwoTongues", name := "serving", desc := "(II)I" } : Jvm.MethodName)) ∈ lw_all := lw_g (lw_at lw_m5 97 rfl) rfl
theorem q1263 : (Jvm.Cond.methodLink "TwoTonguesLaw" (96 : Nat) ({ cls := "TwoTongues", name := "serves", desc := "(III)J" } : Jvm.MethodName)) ∈ lw_all := lw_g (lw_at lw_m5 173 rfl) rfl
theorem q1273 : (Jvm.Cond.methodLink "TwoTonguesLaw" (101 : Nat) ({ cls := "TwoTongues", name := "lightest", desc := "(II)I" } : Jvm.MethodName)) ∈ lw_all := lw_g (lw_at lw_m5 183 rfl) rfl
theorem q1277 : (Jvm.Cond.methodLink "TwoTonguesLaw" (105 : Nat) ({ cls := "TwoTongues", name := "light", desc := "(II)J" } : Jvm.MethodName)) ∈ lw_all := lw_g (lw_at lw_m5 187 rfl) rfl
theorem q1282 : (Jvm.Cond.methodLink "TwoTonguesLaw" (109 : Nat) ({ cls := "TwoTongues", name := "charred", desc := "(I)I" } : Jvm.MethodName)) ∈ lw_all := lw_g (lw_at lw_m5 192 rfl) rfl
theorem q1286 : (Jvm.Cond.methodLink "TwoTonguesLaw" (113 : Nat) ({ cls := "TwoTongues", name := "filled", desc := "(II)J" } : Jvm.MethodName)) ∈ lw_all := lw_g (lw_at lw_m5 196 rfl) rfl
theorem q1290 : (Jvm.Cond.methodLink "TwoTonguesLaw" (117 : Nat) ({ cls := "TwoTongues", name := "told", desc := "(II)I" } : Jvm.MethodName)) ∈ lw_all := lw_g (lw_at lw_m5 200 rfl) rfl
theorem q1302 : (Jvm.Cond.methodLink "TwoTonguesLaw" (121 : Nat) ({ cls := "TwoTongues", name := "sure", desc := "(I)I" } : Jvm.MethodName)) ∈ lw_all := lw_g (lw_at lw_m5 212 rfl) rfl
theorem q1312 : (Jvm.Cond.methodLink "TwoTonguesLaw" (125 : Nat) ({ cls := "TwoTongues", name := "broken", desc := "()I" } : Jvm.MethodName)) ∈ lw_all := lw_g (lw_at lw_m5 222 rfl) rfl
theorem q1328 : (Jvm.Cond.methodLink "TwoTonguesLaw" (129 : Nat) ({ cls := "TwoTongues", name := "renamed", desc := "()I" } : Jvm.MethodName)) ∈ lw_all := lw_g (lw_at lw_m5 238 rfl) rfl
theorem q1344 : (Jvm.Cond.methodLink "TwoTonguesLaw" (133 : Nat) ({ cls := "TwoTongues", name := "renames", desc := "(I)I" } : Jvm.MethodName)) ∈ lw_all := lw_g (lw_at lw_m6 14 rfl) rfl
theorem q1348 : (Jvm.Cond.methodLink "TwoTonguesLaw" (137 : Nat) ({ cls := "TwoTongues", name := "fine", desc := "(II)I" } : Jvm.MethodName)) ∈ lw_all := lw_g (lw_at lw_m6 18 rfl) rfl
theorem q1407 : (Jvm.Cond.methodLink "TwoTonguesLaw" (141 : Nat) ({ cls := "TwoTongues", name := "bought", desc := "(II)I" } : Jvm.MethodName)) ∈ lw_all := lw_g (lw_at lw_m6 77 rfl) rfl
theorem q1412 : (Jvm.Cond.methodLink "TwoTonguesLaw" (145 : Nat) ({ cls := "TwoTongues", name := "undo", desc := "()I" } : Jvm.MethodName)) ∈ lw_all := lw_g (lw_at lw_m6 82 rfl) rfl
theorem q1416 : (Jvm.Cond.methodLink "TwoTonguesLaw" (149 : Nat) ({ cls := "TwoTongues", name := "keep", desc := "()I" } : Jvm.MethodName)) ∈ lw_all := lw_g (lw_at lw_m6 86 rfl) rfl
theorem q1420 : (Jvm.Cond.methodLink "TwoTonguesLaw" (153 : Nat) ({ cls := "TwoTongues", name := "back", desc := "()I" } : Jvm.MethodName)) ∈ lw_all := lw_g (lw_at lw_m6 90 rfl) rfl
theorem q1424 : (Jvm.Cond.methodLink "TwoTonguesLaw" (157 : Nat) ({ cls := "TwoTongues", name := "count", desc := "(I)I" } : Jvm.MethodName)) ∈ lw_all := lw_g (lw_at lw_m6 94 rfl) rfl
theorem q1428 : (Jvm.Cond.methodLink "TwoTonguesLaw" (39 : Nat) ({ cls := "TwoTonguesLaw", name := "look", desc := "(LTwoTongues;II[J)I" } : Jvm.MethodName)) ∈ lw_all := lw_g (lw_at lw_m6 98 rfl) rfl
theorem q1429 : (Jvm.Cond.static ({ cls := "TwoTonguesLaw", name := "look", desc := "(LTwoTongues;II[J)I" } : Jvm.MethodName)) ∈ lw_all := lw_g (lw_at lw_m6 99 rfl) rfl
theorem q1430 : (Jvm.Cond.codeWith ({ cls := "TwoTonguesLaw", name := "look", desc := "(LTwoTongues;II[J)I" } : Jvm.MethodName) method_3_code (5 : Nat) (Option.some Jvm.ClassFile.FieldType.int) [((0 : Nat), (10 : Nat), (13 : Nat), (13 : Nat)), ((0 : Nat), (10 : Nat), (17 : Nat), (15 : Nat))]) ∈ lw_all := lw_g (lw_at lw_m6 100 rfl) rfl
theorem q1431 : (Jvm.Cond.classLink "TwoTonguesLaw" (13 : Nat) "java/lang/IndexOutOfBoundsException") ∈ lw_all := lw_g (lw_at lw_m6 101 rfl) rfl
theorem q1465 : (Jvm.Cond.classLink "TwoTonguesLaw" (15 : Nat) "java/util/NoSuchElementException") ∈ lw_all := lw_g (lw_at lw_m6 135 rfl) rfl
theorem q1466 : (Jvm.Cond.methodLink "TwoTonguesLaw" (7 : Nat) ({ cls := "TwoTongues", name := "look", desc := "(II)I" } : Jvm.MethodName)) ∈ lw_all := lw_g (lw_at lw_m6 136 rfl) rfl
theorem q1506 : (Jvm.Cond.classLink "TwoTonguesLaw" (18 : Nat) "TwoTonguesModel") ∈ lw_all := lw_g (lw_at lw_m6 176 rfl) rfl
theorem q1508 : (Jvm.Cond.methodLink "TwoTonguesLaw" (20 : Nat) ({ cls := "TwoTonguesModel", name := "<init>", desc := "()V" } : Jvm.MethodName)) ∈ lw_all := lw_g (lw_at lw_m6 178 rfl) rfl
theorem q1797 : (Jvm.Cond.methodLink "TwoTonguesLaw" (45 : Nat) ({ cls := "TwoTonguesModel", name := "thrown", desc := "()I" } : Jvm.MethodName)) ∈ lw_all := lw_g (lw_at lw_m7 227 rfl) rfl
theorem q1801 : (Jvm.Cond.methodLink "TwoTonguesLaw" (25 : Nat) ({ cls := "TwoTonguesModel", name := "feed", desc := "(IIIII)I" } : Jvm.MethodName)) ∈ lw_all := lw_g (lw_at lw_m7 231 rfl) rfl
theorem q1805 : (Jvm.Cond.methodLink "TwoTonguesLaw" (30 : Nat) ({ cls := "TwoTonguesModel", name := "text", desc := "(I)I" } : Jvm.MethodName)) ∈ lw_all := lw_g (lw_at lw_m7 235 rfl) rfl
theorem q1933 : (Jvm.Cond.methodLink "TwoTonguesLaw" (34 : Nat) ({ cls := "TwoTonguesModel", name := "fault", desc := "(I)I" } : Jvm.MethodName)) ∈ lw_all := lw_g (lw_at lw_m8 123 rfl) rfl
theorem q1937 : (Jvm.Cond.methodLink "TwoTonguesLaw" (38 : Nat) ({ cls := "TwoTonguesModel", name := "named", desc := "(II)I" } : Jvm.MethodName)) ∈ lw_all := lw_g (lw_at lw_m8 127 rfl) rfl
theorem q1941 : (Jvm.Cond.methodLink "TwoTonguesLaw" (44 : Nat) ({ cls := "TwoTonguesModel", name := "look", desc := "(II)I" } : Jvm.MethodName)) ∈ lw_all := lw_g (lw_at lw_m8 131 rfl) rfl
theorem q1961 : (Jvm.Cond.methodLink "TwoTonguesLaw" (52 : Nat) ({ cls := "TwoTonguesModel", name := "letter", desc := "(II)I" } : Jvm.MethodName)) ∈ lw_all := lw_g (lw_at lw_m8 151 rfl) rfl
theorem q1969 : (Jvm.Cond.methodLink "TwoTonguesLaw" (57 : Nat) ({ cls := "TwoTonguesModel", name := "word", desc := "(III)I" } : Jvm.MethodName)) ∈ lw_all := lw_g (lw_at lw_m8 159 rfl) rfl
theorem q1976 : (Jvm.Cond.methodLink "TwoTonguesLaw" (62 : Nat) ({ cls := "TwoTonguesModel", name := "ways", desc := "(II)J" } : Jvm.MethodName)) ∈ lw_all := lw_g (lw_at lw_m8 166 rfl) rfl
theorem q2000 : (Jvm.Cond.methodLink "TwoTonguesLaw" (66 : Nat) ({ cls := "TwoTonguesModel", name := "worth", desc := "(II)I" } : Jvm.MethodName)) ∈ lw_all := lw_g (lw_at lw_m8 190 rfl) rfl
theorem q2004 : (Jvm.Cond.methodLink "TwoTonguesLaw" (70 : Nat) ({ cls := "TwoTonguesModel", name := "said", desc := "(III)I" } : Jvm.MethodName)) ∈ lw_all := lw_g (lw_at lw_m8 194 rfl) rfl
theorem q2008 : (Jvm.Cond.methodLink "TwoTonguesLaw" (74 : Nat) ({ cls := "TwoTonguesModel", name := "says", desc := "(III)I" } : Jvm.MethodName)) ∈ lw_all := lw_g (lw_at lw_m8 198 rfl) rfl
theorem q2023 : (Jvm.Cond.methodLink "TwoTonguesLaw" (78 : Nat) ({ cls := "TwoTonguesModel", name := "nights", desc := "(I)I" } : Jvm.MethodName)) ∈ lw_all := lw_g (lw_at lw_m8 213 rfl) rfl
theorem q2035 : (Jvm.Cond.methodLink "TwoTonguesLaw" (82 : Nat) ({ cls := "TwoTonguesModel", name := "put", desc := "(III)I" } : Jvm.MethodName)) ∈ lw_all := lw_g (lw_at lw_m8 225 rfl) rfl
theorem q2043 : (Jvm.Cond.methodLink "TwoTonguesLaw" (87 : Nat) ({ cls := "TwoTonguesModel", name := "lose", desc := "(II)Z" } : Jvm.MethodName)) ∈ lw_all := lw_g (lw_at lw_m8 233 rfl) rfl
theorem q2047 : (Jvm.Cond.methodLink "TwoTonguesLaw" (91 : Nat) ({ cls := "TwoTonguesModel", name := "coin", desc := "(III)I" } : Jvm.MethodName)) ∈ lw_all := lw_g (lw_at lw_m8 237 rfl) rfl
theorem q2054 : (Jvm.Cond.methodLink "TwoTonguesLaw" (148 : Nat) ({ cls := "TwoTonguesModel", name := "undo", desc := "()I" } : Jvm.MethodName)) ∈ lw_all := lw_g (lw_at lw_m9 4 rfl) rfl
theorem q2058 : (Jvm.Cond.methodLink "TwoTonguesLaw" (95 : Nat) ({ cls := "TwoTonguesModel", name := "serving", desc := "(II)I" } : Jvm.MethodName)) ∈ lw_all := lw_g (lw_at lw_m9 8 rfl) rfl
theorem q2120 : (Jvm.Cond.methodLink "TwoTonguesLaw" (100 : Nat) ({ cls := "TwoTonguesModel", name := "serves", desc := "(III)J" } : Jvm.MethodName)) ∈ lw_all := lw_g (lw_at lw_m9 70 rfl) rfl
theorem q2129 : (Jvm.Cond.methodLink "TwoTonguesLaw" (104 : Nat) ({ cls := "TwoTonguesModel", name := "lightest", desc := "(II)I" } : Jvm.MethodName)) ∈ lw_all := lw_g (lw_at lw_m9 79 rfl) rfl
theorem q2133 : (Jvm.Cond.methodLink "TwoTonguesLaw" (108 : Nat) ({ cls := "TwoTonguesModel", name := "light", desc := "(II)J" } : Jvm.MethodName)) ∈ lw_all := lw_g (lw_at lw_m9 83 rfl) rfl
theorem q2137 : (Jvm.Cond.methodLink "TwoTonguesLaw" (112 : Nat) ({ cls := "TwoTonguesModel", name := "charred", desc := "(I)I" } : Jvm.MethodName)) ∈ lw_all := lw_g (lw_at lw_m9 87 rfl) rfl
theorem q2145 : (Jvm.Cond.methodLink "TwoTonguesLaw" (116 : Nat) ({ cls := "TwoTonguesModel", name := "filled", desc := "(II)J" } : Jvm.MethodName)) ∈ lw_all := lw_g (lw_at lw_m9 95 rfl) rfl
theorem q2149 : (Jvm.Cond.methodLink "TwoTonguesLaw" (120 : Nat) ({ cls := "TwoTonguesModel", name := "told", desc := "(II)I" } : Jvm.MethodName)) ∈ lw_all := lw_g (lw_at lw_m9 99 rfl) rfl
theorem q2161 : (Jvm.Cond.methodLink "TwoTonguesLaw" (124 : Nat) ({ cls := "TwoTonguesModel", name := "sure", desc := "(I)I" } : Jvm.MethodName)) ∈ lw_all := lw_g (lw_at lw_m9 111 rfl) rfl
theorem q2165 : (Jvm.Cond.methodLink "TwoTonguesLaw" (128 : Nat) ({ cls := "TwoTonguesModel", name := "broken", desc := "()I" } : Jvm.MethodName)) ∈ lw_all := lw_g (lw_at lw_m9 115 rfl) rfl
theorem q2185 : (Jvm.Cond.methodLink "TwoTonguesLaw" (132 : Nat) ({ cls := "TwoTonguesModel", name := "renamed", desc := "()I" } : Jvm.MethodName)) ∈ lw_all := lw_g (lw_at lw_m9 135 rfl) rfl
theorem q2205 : (Jvm.Cond.methodLink "TwoTonguesLaw" (136 : Nat) ({ cls := "TwoTonguesModel", name := "renames", desc := "(I)I" } : Jvm.MethodName)) ∈ lw_all := lw_g (lw_at lw_m9 155 rfl) rfl
theorem q2209 : (Jvm.Cond.methodLink "TwoTonguesLaw" (140 : Nat) ({ cls := "TwoTonguesModel", name := "fine", desc := "(II)I" } : Jvm.MethodName)) ∈ lw_all := lw_g (lw_at lw_m9 159 rfl) rfl
theorem q2235 : (Jvm.Cond.methodLink "TwoTonguesLaw" (144 : Nat) ({ cls := "TwoTonguesModel", name := "bought", desc := "(II)I" } : Jvm.MethodName)) ∈ lw_all := lw_g (lw_at lw_m9 185 rfl) rfl
theorem q2242 : (Jvm.Cond.methodLink "TwoTonguesLaw" (152 : Nat) ({ cls := "TwoTonguesModel", name := "keep", desc := "()I" } : Jvm.MethodName)) ∈ lw_all := lw_g (lw_at lw_m9 192 rfl) rfl
theorem q2246 : (Jvm.Cond.methodLink "TwoTonguesLaw" (156 : Nat) ({ cls := "TwoTonguesModel", name := "back", desc := "()I" } : Jvm.MethodName)) ∈ lw_all := lw_g (lw_at lw_m9 196 rfl) rfl
theorem q2250 : (Jvm.Cond.methodLink "TwoTonguesLaw" (160 : Nat) ({ cls := "TwoTonguesModel", name := "count", desc := "(I)I" } : Jvm.MethodName)) ∈ lw_all := lw_g (lw_at lw_m9 200 rfl) rfl
theorem q131 : (Jvm.Cond.initialized "TwoTongues") ∈ lw_all := lw_g (lw_at lw_m1 1 rfl) rfl
theorem q172 : (Jvm.Cond.instantiable "TwoTongues" (28 : Nat)) ∈ lw_all := lw_g (lw_at lw_m1 42 rfl) rfl
theorem q174 : (Jvm.Cond.instanceMethod ({ cls := "TwoTongues", name := "<init>", desc := "()V" } : Jvm.MethodName)) ∈ lw_all := lw_g (lw_at lw_m1 44 rfl) rfl
theorem q175 : (Jvm.Cond.code ({ cls := "TwoTongues", name := "<init>", desc := "()V" } : Jvm.MethodName) prog_1_method_3_code (1 : Nat) (Option.none : Option Jvm.ClassFile.FieldType)) ∈ lw_all := lw_g (lw_at lw_m1 45 rfl) rfl
theorem q176 : (Jvm.Cond.methodLink "TwoTongues" (13 : Nat) ({ cls := "java/lang/Object", name := "<init>", desc := "()V" } : Jvm.MethodName)) ∈ lw_all := lw_g (lw_at lw_m1 46 rfl) rfl
theorem q179 : (Jvm.Cond.classLink "TwoTongues" (27 : Nat) "TwoTongues$Reader") ∈ lw_all := lw_g (lw_at lw_m1 49 rfl) rfl
theorem q181 : (Jvm.Cond.methodLinkNest "TwoTongues" (29 : Nat) ({ cls := "TwoTongues$Reader", name := "<init>", desc := "(LTwoTongues;)V" } : Jvm.MethodName) "TwoTongues") ∈ lw_tbl := lw_at lw_m1 51 rfl
theorem q214 : (Jvm.Cond.classLink "TwoTongues" (36 : Nat) "TwoTongues$Street") ∈ lw_all := lw_g (lw_at lw_m1 84 rfl) rfl
theorem q216 : (Jvm.Cond.methodLink "TwoTongues" (38 : Nat) ({ cls := "TwoTongues$Street", name := "<init>", desc := "()V" } : Jvm.MethodName)) ∈ lw_all := lw_g (lw_at lw_m1 86 rfl) rfl
theorem q227 : (Jvm.Cond.fieldLinkNest "TwoTongues" (226 : Nat) "TwoTongues$Store" "words" "[I" "TwoTongues") ∈ lw_tbl := lw_at lw_m1 97 rfl
theorem q229 : (Jvm.Cond.fieldLinkNest "TwoTongues" (229 : Nat) "TwoTongues$Store" "worth" "[I" "TwoTongues") ∈ lw_tbl := lw_at lw_m1 99 rfl
theorem q233 : (Jvm.Cond.fieldLinkNest "TwoTongues" (225 : Nat) "TwoTongues$Store" "many" "I" "TwoTongues") ∈ lw_tbl := lw_at lw_m1 103 rfl
theorem q278 : (Jvm.Cond.fieldLinkNest "TwoTongues" (172 : Nat) "TwoTongues$Street" "signs" "Ljava/util/ArrayList;" "TwoTongues") ∈ lw_tbl := lw_at lw_m1 148 rfl
theorem q282 : (Jvm.Cond.fieldLinkNest "TwoTongues" (402 : Nat) "TwoTongues$Street" "mays" "Ljava/util/ArrayList;" "TwoTongues") ∈ lw_tbl := lw_at lw_m1 152 rfl
theorem q285 : (Jvm.Cond.fieldLinkNest "TwoTongues" (405 : Nat) "TwoTongues$Street" "cornerA" "[I" "TwoTongues") ∈ lw_tbl := lw_at lw_m1 155 rfl
theorem q288 : (Jvm.Cond.fieldLinkNest "TwoTongues" (412 : Nat) "TwoTongues$Street" "atA" "[I" "TwoTongues") ∈ lw_tbl := lw_at lw_m1 158 rfl
theorem q291 : (Jvm.Cond.fieldLinkNest "TwoTongues" (415 : Nat) "TwoTongues$Street" "cornerB" "[I" "TwoTongues") ∈ lw_tbl := lw_at lw_m1 161 rfl
theorem q294 : (Jvm.Cond.fieldLinkNest "TwoTongues" (418 : Nat) "TwoTongues$Street" "atB" "[I" "TwoTongues") ∈ lw_tbl := lw_at lw_m1 164 rfl
theorem q297 : (Jvm.Cond.fieldLinkNest "TwoTongues" (295 : Nat) "TwoTongues$Street" "weigh" "[I" "TwoTongues") ∈ lw_tbl := lw_at lw_m1 167 rfl
theorem q303 : (Jvm.Cond.fieldLinkNest "TwoTongues" (443 : Nat) "TwoTongues$Street" "law" "LTwoTongues$Part;" "TwoTongues") ∈ lw_tbl := lw_at lw_m1 173 rfl
theorem q305 : (Jvm.Cond.fieldLinkNest "TwoTongues" (421 : Nat) "TwoTongues$Street" "corners" "I" "TwoTongues") ∈ lw_tbl := lw_at lw_m1 175 rfl
theorem q310 : (Jvm.Cond.fieldLinkNest "TwoTongues" (145 : Nat) "TwoTongues$Street" "seed" "I" "TwoTongues") ∈ lw_tbl := lw_at lw_m1 180 rfl
theorem q313 : (Jvm.Cond.fieldLinkNest "TwoTongues" (470 : Nat) "TwoTongues$Street" "knots" "I" "TwoTongues") ∈ lw_tbl := lw_at lw_m1 183 rfl
theorem q314 : (Jvm.Cond.fieldLinkNest "TwoTongues" (158 : Nat) "TwoTongues$Street" "lines" "I" "TwoTongues") ∈ lw_tbl := lw_at lw_m1 184 rfl
theorem q353 : (Jvm.Cond.classLink "TwoTongues" (43 : Nat) "TwoTongues$Kind") ∈ lw_all := lw_g (lw_at lw_m1 223 rfl) rfl
theorem q355 : (Jvm.Cond.classLink "TwoTongues" (45 : Nat) "TwoTongues$Plain") ∈ lw_all := lw_g (lw_at lw_m1 225 rfl) rfl
theorem q357 : (Jvm.Cond.methodLinkNest "TwoTongues" (47 : Nat) ({ cls := "TwoTongues$Plain", name := "<init>", desc := "()V" } : Jvm.MethodName) "TwoTongues") ∈ lw_tbl := lw_at lw_m1 227 rfl
theorem q365 : (Jvm.Cond.classLink "TwoTongues" (48 : Nat) "TwoTongues$Mirror") ∈ lw_all := lw_g (lw_at lw_m1 235 rfl) rfl
theorem q367 : (Jvm.Cond.methodLinkNest "TwoTongues" (50 : Nat) ({ cls := "TwoTongues$Mirror", name := "<init>", desc := "()V" } : Jvm.MethodName) "TwoTongues") ∈ lw_tbl := lw_at lw_m1 237 rfl
theorem q372 : (Jvm.Cond.classLink "TwoTongues" (51 : Nat) "TwoTongues$Royal") ∈ lw_all := lw_g (lw_at lw_m2 2 rfl) rfl
theorem q374 : (Jvm.Cond.methodLinkNest "TwoTongues" (53 : Nat) ({ cls := "TwoTongues$Royal", name := "<init>", desc := "()V" } : Jvm.MethodName) "TwoTongues") ∈ lw_tbl := lw_at lw_m2 4 rfl
theorem q379 : (Jvm.Cond.classLink "TwoTongues" (54 : Nat) "TwoTongues$Blind") ∈ lw_all := lw_g (lw_at lw_m2 9 rfl) rfl
theorem q381 : (Jvm.Cond.methodLinkNest "TwoTongues" (56 : Nat) ({ cls := "TwoTongues$Blind", name := "<init>", desc := "()V" } : Jvm.MethodName) "TwoTongues") ∈ lw_tbl := lw_at lw_m2 11 rfl
theorem q386 : (Jvm.Cond.classLink "TwoTongues" (61 : Nat) "TwoTongues$State") ∈ lw_all := lw_g (lw_at lw_m2 16 rfl) rfl
theorem q388 : (Jvm.Cond.methodLinkNest "TwoTongues" (63 : Nat) ({ cls := "TwoTongues$State", name := "<init>", desc := "(LTwoTongues;)V" } : Jvm.MethodName) "TwoTongues") ∈ lw_tbl := lw_at lw_m2 18 rfl
theorem q404 : (Jvm.Cond.fieldLinkNest "TwoTongues" (219 : Nat) "TwoTongues$Row" "letters" "[I" "TwoTongues") ∈ lw_tbl := lw_at lw_m2 34 rfl
theorem q408 : (Jvm.Cond.fieldLinkNest "TwoTongues" (190 : Nat) "TwoTongues$Row" "many" "I" "TwoTongues") ∈ lw_tbl := lw_at lw_m2 38 rfl
theorem q416 : (Jvm.Cond.fieldLinkNest "TwoTongues" (161 : Nat) "TwoTongues$State" "stores" "[LTwoTongues$Store;" "TwoTongues") ∈ lw_tbl := lw_at lw_m2 46 rfl
theorem q418 : (Jvm.Cond.fieldLinkNest "TwoTongues" (186 : Nat) "TwoTongues$State" "rows" "[LTwoTongues$Row;" "TwoTongues") ∈ lw_tbl := lw_at lw_m2 48 rfl
theorem q420 : (Jvm.Cond.fieldLinkNest "TwoTongues" (279 : Nat) "TwoTongues$State" "day" "I" "TwoTongues") ∈ lw_tbl := lw_at lw_m2 50 rfl
theorem q422 : (Jvm.Cond.fieldLinkNest "TwoTongues" (298 : Nat) "TwoTongues$State" "purse" "I" "TwoTongues") ∈ lw_tbl := lw_at lw_m2 52 rfl
theorem q436 : (Jvm.Cond.classLink "TwoTongues" (86 : Nat) "TwoTongues$Net") ∈ lw_all := lw_g (lw_at lw_m2 66 rfl) rfl
theorem q439 : (Jvm.Cond.methodLinkNest "TwoTongues" (88 : Nat) ({ cls := "TwoTongues$Net", name := "<init>", desc := "(LTwoTongues;)V" } : Jvm.MethodName) "TwoTongues") ∈ lw_tbl := lw_at lw_m2 69 rfl
theorem q454 : (Jvm.Cond.constant "TwoTongues" (93 : Nat) (48373 : Int32)) ∈ lw_all := lw_g (lw_at lw_m2 84 rfl) rfl
theorem q455 : (Jvm.Cond.classLink "TwoTongues" (97 : Nat) "TwoTongues$Row") ∈ lw_all := lw_g (lw_at lw_m2 85 rfl) rfl
theorem q456 : (Jvm.Cond.methodLinkNest "TwoTongues" (99 : Nat) ({ cls := "TwoTongues$Row", name := "<init>", desc := "()V" } : Jvm.MethodName) "TwoTongues") ∈ lw_tbl := lw_at lw_m2 86 rfl
theorem q457 : (Jvm.Cond.methodLink "TwoTongues" (116 : Nat) ({ cls := "TwoTongues$State", name := "begin", desc := "()V" } : Jvm.MethodName)) ∈ lw_all := lw_g (lw_at lw_m2 87 rfl) rfl
theorem q489 : (Jvm.Cond.fieldLink "TwoTongues" (19 : Nat) "TwoTongues" "tape" "[B") ∈ lw_all := lw_g (lw_at lw_m2 119 rfl) rfl
theorem q490 : (Jvm.Cond.fieldLink "TwoTongues" (119 : Nat) "TwoTongues" "taped" "I") ∈ lw_all := lw_g (lw_at lw_m2 120 rfl) rfl
theorem q491 : (Jvm.Cond.fieldLink "TwoTongues" (130 : Nat) "TwoTongues" "faultKind" "I") ∈ lw_all := lw_g (lw_at lw_m2 121 rfl) rfl
theorem q492 : (Jvm.Cond.fieldLink "TwoTongues" (23 : Nat) "TwoTongues" "faultPlace" "I") ∈ lw_all := lw_g (lw_at lw_m2 122 rfl) rfl
theorem q493 : (Jvm.Cond.fieldLink "TwoTongues" (151 : Nat) "TwoTongues" "keptMany" "I") ∈ lw_all := lw_g (lw_at lw_m2 123 rfl) rfl
theorem q494 : (Jvm.Cond.fieldLink "TwoTongues" (148 : Nat) "TwoTongues" "number" "I") ∈ lw_all := lw_g (lw_at lw_m2 124 rfl) rfl
theorem q495 : (Jvm.Cond.fieldLink "TwoTongues" (467 : Nat) "TwoTongues" "imageNumber" "I") ∈ lw_all := lw_g (lw_at lw_m2 125 rfl) rfl
theorem q496 : (Jvm.Cond.fieldLink "TwoTongues" (32 : Nat) "TwoTongues" "reader" "LTwoTongues$Reader;") ∈ lw_all := lw_g (lw_at lw_m2 126 rfl) rfl
theorem q498 : (Jvm.Cond.fieldLink "TwoTongues" (39 : Nat) "TwoTongues" "street" "LTwoTongues$Street;") ∈ lw_all := lw_g (lw_at lw_m2 128 rfl) rfl
theorem q499 : (Jvm.Cond.fieldLink "TwoTongues" (57 : Nat) "TwoTongues" "kinds" "[LTwoTongues$Kind;") ∈ lw_all := lw_g (lw_at lw_m2 129 rfl) rfl
theorem q500 : (Jvm.Cond.fieldLink "TwoTongues" (64 : Nat) "TwoTongues" "now" "LTwoTongues$State;") ∈ lw_all := lw_g (lw_at lw_m2 130 rfl) rfl
theorem q501 : (Jvm.Cond.fieldLink "TwoTongues" (68 : Nat) "TwoTongues" "image" "LTwoTongues$State;") ∈ lw_all := lw_g (lw_at lw_m2 131 rfl) rfl
theorem q502 : (Jvm.Cond.fieldLink "TwoTongues" (71 : Nat) "TwoTongues" "kept" "[LTwoTongues$State;") ∈ lw_all := lw_g (lw_at lw_m2 132 rfl) rfl
theorem q503 : (Jvm.Cond.fieldLink "TwoTongues" (75 : Nat) "TwoTongues" "names" "[J") ∈ lw_all := lw_g (lw_at lw_m2 133 rfl) rfl
theorem q504 : (Jvm.Cond.fieldLink "TwoTongues" (154 : Nat) "TwoTongues" "hasImage" "Z") ∈ lw_all := lw_g (lw_at lw_m2 134 rfl) rfl
theorem q505 : (Jvm.Cond.fieldLink "TwoTongues" (79 : Nat) "TwoTongues" "waysFrom" "[J") ∈ lw_all := lw_g (lw_at lw_m2 135 rfl) rfl
theorem q506 : (Jvm.Cond.fieldLink "TwoTongues" (82 : Nat) "TwoTongues" "worthFrom" "[I") ∈ lw_all := lw_g (lw_at lw_m2 136 rfl) rfl
theorem q507 : (Jvm.Cond.fieldLink "TwoTongues" (89 : Nat) "TwoTongues" "nets" "[LTwoTongues$Net;") ∈ lw_all := lw_g (lw_at lw_m2 137 rfl) rfl
theorem q508 : (Jvm.Cond.fieldLink "TwoTongues" (94 : Nat) "TwoTongues" "yet" "[I") ∈ lw_all := lw_g (lw_at lw_m2 138 rfl) rfl
theorem q509 : (Jvm.Cond.fieldLink "TwoTongues" (100 : Nat) "TwoTongues" "sought" "LTwoTongues$Row;") ∈ lw_all := lw_g (lw_at lw_m2 139 rfl) rfl
theorem q510 : (Jvm.Cond.fieldLink "TwoTongues" (317 : Nat) "TwoTongues" "soughtMany" "I") ∈ lw_all := lw_g (lw_at lw_m2 140 rfl) rfl
theorem q511 : (Jvm.Cond.fieldLink "TwoTongues" (104 : Nat) "TwoTongues" "walked" "LTwoTongues$Row;") ∈ lw_all := lw_g (lw_at lw_m2 141 rfl) rfl
theorem q512 : (Jvm.Cond.fieldLink "TwoTongues" (343 : Nat) "TwoTongues" "found" "J") ∈ lw_all := lw_g (lw_at lw_m2 142 rfl) rfl
theorem q513 : (Jvm.Cond.fieldLink "TwoTongues" (338 : Nat) "TwoTongues" "many" "I") ∈ lw_all := lw_g (lw_at lw_m2 143 rfl) rfl
theorem q514 : (Jvm.Cond.fieldLink "TwoTongues" (107 : Nat) "TwoTongues" "free" "LTwoTongues$Row;") ∈ lw_all := lw_g (lw_at lw_m2 144 rfl) rfl
theorem q515 : (Jvm.Cond.fieldLink "TwoTongues" (110 : Nat) "TwoTongues" "takes" "[I") ∈ lw_all := lw_g (lw_at lw_m2 145 rfl) rfl
theorem q516 : (Jvm.Cond.fieldLink "TwoTongues" (113 : Nat) "TwoTongues" "bestTakes" "[I") ∈ lw_all := lw_g (lw_at lw_m2 146 rfl) rfl
theorem q517 : (Jvm.Cond.fieldLink "TwoTongues" (430 : Nat) "TwoTongues" "fewest" "I") ∈ lw_all := lw_g (lw_at lw_m2 147 rfl) rfl
theorem q518 : (Jvm.Cond.laysFinal "TwoTongues" "TwoTongues" "tape" "[B") ∈ lw_all := lw_g (lw_at lw_m2 148 rfl) rfl
theorem q519 : (Jvm.Cond.soleField "TwoTongues" "tape") ∈ lw_all := lw_g (lw_at lw_m2 149 rfl) rfl
theorem q520 : (Jvm.Cond.lays "TwoTongues" "TwoTongues" "taped" "I") ∈ lw_all := lw_g (lw_at lw_m2 150 rfl) rfl
theorem q521 : (Jvm.Cond.soleField "TwoTongues" "taped") ∈ lw_all := lw_g (lw_at lw_m2 151 rfl) rfl
theorem q522 : (Jvm.Cond.lays "TwoTongues" "TwoTongues" "faultKind" "I") ∈ lw_all := lw_g (lw_at lw_m2 152 rfl) rfl
theorem q523 : (Jvm.Cond.soleField "TwoTongues" "faultKind") ∈ lw_all := lw_g (lw_at lw_m2 153 rfl) rfl
theorem q524 : (Jvm.Cond.lays "TwoTongues" "TwoTongues" "faultPlace" "I") ∈ lw_all := lw_g (lw_at lw_m2 154 rfl) rfl
theorem q525 : (Jvm.Cond.soleField "TwoTongues" "faultPlace") ∈ lw_all := lw_g (lw_at lw_m2 155 rfl) rfl
theorem q526 : (Jvm.Cond.lays "TwoTongues" "TwoTongues" "keptMany" "I") ∈ lw_all := lw_g (lw_at lw_m2 156 rfl) rfl
theorem q527 : (Jvm.Cond.soleField "TwoTongues" "keptMany") ∈ lw_all := lw_g (lw_at lw_m2 157 rfl) rfl
theorem q528 : (Jvm.Cond.lays "TwoTongues" "TwoTongues" "number" "I") ∈ lw_all := lw_g (lw_at lw_m2 158 rfl) rfl
theorem q529 : (Jvm.Cond.soleField "TwoTongues" "number") ∈ lw_all := lw_g (lw_at lw_m2 159 rfl) rfl
theorem q530 : (Jvm.Cond.lays "TwoTongues" "TwoTongues" "imageNumber" "I") ∈ lw_all := lw_g (lw_at lw_m2 160 rfl) rfl
theorem q531 : (Jvm.Cond.soleField "TwoTongues" "imageNumber") ∈ lw_all := lw_g (lw_at lw_m2 161 rfl) rfl
theorem q532 : (Jvm.Cond.laysFinal "TwoTongues" "TwoTongues" "reader" "LTwoTongues$Reader;") ∈ lw_all := lw_g (lw_at lw_m2 162 rfl) rfl
theorem q533 : (Jvm.Cond.soleField "TwoTongues" "reader") ∈ lw_all := lw_g (lw_at lw_m2 163 rfl) rfl
theorem q534 : (Jvm.Cond.lays "TwoTongues" "TwoTongues" "street" "LTwoTongues$Street;") ∈ lw_all := lw_g (lw_at lw_m2 164 rfl) rfl
theorem q535 : (Jvm.Cond.soleField "TwoTongues" "street") ∈ lw_all := lw_g (lw_at lw_m2 165 rfl) rfl
theorem q536 : (Jvm.Cond.laysFinal "TwoTongues" "TwoTongues" "kinds" "[LTwoTongues$Kind;") ∈ lw_all := lw_g (lw_at lw_m2 166 rfl) rfl
theorem q537 : (Jvm.Cond.soleField "TwoTongues" "kinds") ∈ lw_all := lw_g (lw_at lw_m2 167 rfl) rfl
theorem q538 : (Jvm.Cond.laysFinal "TwoTongues" "TwoTongues" "now" "LTwoTongues$State;") ∈ lw_all := lw_g (lw_at lw_m2 168 rfl) rfl
theorem q539 : (Jvm.Cond.soleField "TwoTongues" "now") ∈ lw_all := lw_g (lw_at lw_m2 169 rfl) rfl
theorem q540 : (Jvm.Cond.laysFinal "TwoTongues" "TwoTongues" "image" "LTwoTongues$State;") ∈ lw_all := lw_g (lw_at lw_m2 170 rfl) rfl
theorem q541 : (Jvm.Cond.soleField "TwoTongues" "image") ∈ lw_all := lw_g (lw_at lw_m2 171 rfl) rfl
theorem q542 : (Jvm.Cond.laysFinal "TwoTongues" "TwoTongues" "kept" "[LTwoTongues$State;") ∈ lw_all := lw_g (lw_at lw_m2 172 rfl) rfl
theorem q543 : (Jvm.Cond.soleField "TwoTongues" "kept") ∈ lw_all := lw_g (lw_at lw_m2 173 rfl) rfl
theorem q544 : (Jvm.Cond.laysFinal "TwoTongues" "TwoTongues" "names" "[J") ∈ lw_all := lw_g (lw_at lw_m2 174 rfl) rfl
theorem q545 : (Jvm.Cond.soleField "TwoTongues" "names") ∈ lw_all := lw_g (lw_at lw_m2 175 rfl) rfl
theorem q546 : (Jvm.Cond.lays "TwoTongues" "TwoTongues" "hasImage" "Z") ∈ lw_all := lw_g (lw_at lw_m2 176 rfl) rfl
theorem q547 : (Jvm.Cond.soleField "TwoTongues" "hasImage") ∈ lw_all := lw_g (lw_at lw_m2 177 rfl) rfl
theorem q548 : (Jvm.Cond.laysFinal "TwoTongues" "TwoTongues" "waysFrom" "[J") ∈ lw_all := lw_g (lw_at lw_m2 178 rfl) rfl
theorem q549 : (Jvm.Cond.soleField "TwoTongues" "waysFrom") ∈ lw_all := lw_g (lw_at lw_m2 179 rfl) rfl
theorem q550 : (Jvm.Cond.laysFinal "TwoTongues" "TwoTongues" "worthFrom" "[I") ∈ lw_all := lw_g (lw_at lw_m2 180 rfl) rfl
theorem q551 : (Jvm.Cond.soleField "TwoTongues" "worthFrom") ∈ lw_all := lw_g (lw_at lw_m2 181 rfl) rfl
theorem q552 : (Jvm.Cond.laysFinal "TwoTongues" "TwoTongues" "nets" "[LTwoTongues$Net;") ∈ lw_all := lw_g (lw_at lw_m2 182 rfl) rfl
theorem q553 : (Jvm.Cond.soleField "TwoTongues" "nets") ∈ lw_all := lw_g (lw_at lw_m2 183 rfl) rfl
theorem q554 : (Jvm.Cond.laysFinal "TwoTongues" "TwoTongues" "yet" "[I") ∈ lw_all := lw_g (lw_at lw_m2 184 rfl) rfl
theorem q555 : (Jvm.Cond.soleField "TwoTongues" "yet") ∈ lw_all := lw_g (lw_at lw_m2 185 rfl) rfl
theorem q556 : (Jvm.Cond.laysFinal "TwoTongues" "TwoTongues" "sought" "LTwoTongues$Row;") ∈ lw_all := lw_g (lw_at lw_m2 186 rfl) rfl
theorem q557 : (Jvm.Cond.soleField "TwoTongues" "sought") ∈ lw_all := lw_g (lw_at lw_m2 187 rfl) rfl
theorem q558 : (Jvm.Cond.lays "TwoTongues" "TwoTongues" "soughtMany" "I") ∈ lw_all := lw_g (lw_at lw_m2 188 rfl) rfl
theorem q559 : (Jvm.Cond.soleField "TwoTongues" "soughtMany") ∈ lw_all := lw_g (lw_at lw_m2 189 rfl) rfl
theorem q560 : (Jvm.Cond.laysFinal "TwoTongues" "TwoTongues" "walked" "LTwoTongues$Row;") ∈ lw_all := lw_g (lw_at lw_m2 190 rfl) rfl
theorem q561 : (Jvm.Cond.soleField "TwoTongues" "walked") ∈ lw_all := lw_g (lw_at lw_m2 191 rfl) rfl
theorem q562 : (Jvm.Cond.lays "TwoTongues" "TwoTongues" "found" "J") ∈ lw_all := lw_g (lw_at lw_m2 192 rfl) rfl
theorem q563 : (Jvm.Cond.soleField "TwoTongues" "found") ∈ lw_all := lw_g (lw_at lw_m2 193 rfl) rfl
theorem q564 : (Jvm.Cond.lays "TwoTongues" "TwoTongues" "many" "I") ∈ lw_all := lw_g (lw_at lw_m2 194 rfl) rfl
theorem q565 : (Jvm.Cond.soleField "TwoTongues" "many") ∈ lw_all := lw_g (lw_at lw_m2 195 rfl) rfl
theorem q566 : (Jvm.Cond.laysFinal "TwoTongues" "TwoTongues" "free" "LTwoTongues$Row;") ∈ lw_all := lw_g (lw_at lw_m2 196 rfl) rfl
theorem q567 : (Jvm.Cond.soleField "TwoTongues" "free") ∈ lw_all := lw_g (lw_at lw_m2 197 rfl) rfl
theorem q568 : (Jvm.Cond.laysFinal "TwoTongues" "TwoTongues" "takes" "[I") ∈ lw_all := lw_g (lw_at lw_m2 198 rfl) rfl
theorem q569 : (Jvm.Cond.soleField "TwoTongues" "takes") ∈ lw_all := lw_g (lw_at lw_m2 199 rfl) rfl
theorem q570 : (Jvm.Cond.laysFinal "TwoTongues" "TwoTongues" "bestTakes" "[I") ∈ lw_all := lw_g (lw_at lw_m2 200 rfl) rfl
theorem q571 : (Jvm.Cond.soleField "TwoTongues" "bestTakes") ∈ lw_all := lw_g (lw_at lw_m2 201 rfl) rfl
theorem q572 : (Jvm.Cond.lays "TwoTongues" "TwoTongues" "fewest" "I") ∈ lw_all := lw_g (lw_at lw_m2 202 rfl) rfl
theorem q573 : (Jvm.Cond.soleField "TwoTongues" "fewest") ∈ lw_all := lw_g (lw_at lw_m2 203 rfl) rfl
theorem q574 : (Jvm.Cond.superclass "TwoTongues" "java/lang/Object") ∈ lw_all := lw_g (lw_at lw_m2 204 rfl) rfl
theorem q576 : (Jvm.Cond.instanceMethod ({ cls := "TwoTongues", name := "feed", desc := "(IIIII)I" } : Jvm.MethodName)) ∈ lw_all := lw_g (lw_at lw_m2 206 rfl) rfl
theorem q577 : (Jvm.Cond.selects "TwoTongues" ({ cls := "TwoTongues", name := "feed", desc := "(IIIII)I" } : Jvm.MethodName) ({ cls := "TwoTongues", name := "feed", desc := "(IIIII)I" } : Jvm.MethodName)) ∈ lw_all := lw_g (lw_at lw_m2 207 rfl) rfl
theorem q578 : (Jvm.Cond.code ({ cls := "TwoTongues", name := "feed", desc := "(IIIII)I" } : Jvm.MethodName) prog_1_method_4_code (6 : Nat) (Option.some Jvm.ClassFile.FieldType.int)) ∈ lw_all := lw_g (lw_at lw_m2 208 rfl) rfl
theorem q579 : (Jvm.Cond.methodLink "TwoTongues" (122 : Nat) ({ cls := "TwoTongues", name := "put", desc := "(I)V" } : Jvm.MethodName)) ∈ lw_all := lw_g (lw_at lw_m2 209 rfl) rfl
theorem q580 : (Jvm.Cond.privateMethod ({ cls := "TwoTongues", name := "put", desc := "(I)V" } : Jvm.MethodName)) ∈ lw_tbl := lw_at lw_m2 210 rfl
theorem q581 : (Jvm.Cond.instanceMethod ({ cls := "TwoTongues", name := "put", desc := "(I)V" } : Jvm.MethodName)) ∈ lw_all := lw_g (lw_at lw_m2 211 rfl) rfl
theorem q582 : (Jvm.Cond.code ({ cls := "TwoTongues", name := "put", desc := "(I)V" } : Jvm.MethodName) prog_1_method_5_code (3 : Nat) (Option.none : Option Jvm.ClassFile.FieldType)) ∈ lw_all := lw_g (lw_at lw_m2 212 rfl) rfl
theorem q584 : (Jvm.Cond.instanceMethod ({ cls := "TwoTongues", name := "text", desc := "(I)I" } : Jvm.MethodName)) ∈ lw_all := lw_g (lw_at lw_m2 214 rfl) rfl
theorem q585 : (Jvm.Cond.selects "TwoTongues" ({ cls := "TwoTongues", name := "text", desc := "(I)I" } : Jvm.MethodName) ({ cls := "TwoTongues", name := "text", desc := "(I)I" } : Jvm.MethodName)) ∈ lw_all := lw_g (lw_at lw_m2 215 rfl) rfl
theorem q586 : (Jvm.Cond.codeWith ({ cls := "TwoTongues", name := "text", desc := "(I)I" } : Jvm.MethodName) prog_1_method_6_code (3 : Nat) (Option.some Jvm.ClassFile.FieldType.int) [((32 : Nat), (44 : Nat), (47 : Nat), (137 : Nat))]) ∈ lw_all := lw_g (lw_at lw_m2 216 rfl) rfl
theorem q587 : (Jvm.Cond.classLink "TwoTongues" (137 : Nat) "TwoTongues$Fault") ∈ lw_all := lw_g (lw_at lw_m2 217 rfl) rfl
theorem q588 : (Jvm.Cond.methodLink "TwoTongues" (126 : Nat) ({ cls := "TwoTongues", name := "in", desc := "(JJJ)Z" } : Jvm.MethodName)) ∈ lw_all := lw_g (lw_at lw_m2 218 rfl) rfl
theorem q589 : (Jvm.Cond.static ({ cls := "TwoTongues", name := "in", desc := "(JJJ)Z" } : Jvm.MethodName)) ∈ lw_all := lw_g (lw_at lw_m2 219 rfl) rfl
theorem q590 : (Jvm.Cond.code ({ cls := "TwoTongues", name := "in", desc := "(JJJ)Z" } : Jvm.MethodName) prog_1_method_1_code (6 : Nat) (Option.some Jvm.ClassFile.FieldType.boolean)) ∈ lw_all := lw_g (lw_at lw_m2 220 rfl) rfl
theorem q591 : (Jvm.Cond.methodLink "TwoTongues" (133 : Nat) ({ cls := "TwoTongues$Reader", name := "read", desc := "(I)LTwoTongues$Street;" } : Jvm.MethodName)) ∈ lw_all := lw_g (lw_at lw_m2 221 rfl) rfl
theorem q613 : (Jvm.Cond.laysStatic "TwoTongues" "NAMES" "[Ljava/lang/String;") ∈ lw_tbl := lw_at lw_m3 3 rfl
theorem q794 : (Jvm.Cond.fieldLinkNest "TwoTongues" (139 : Nat) "TwoTongues$Fault" "kind" "I" "TwoTongues") ∈ lw_tbl := lw_at lw_m3 184 rfl
theorem q796 : (Jvm.Cond.fieldLinkNest "TwoTongues" (142 : Nat) "TwoTongues$Fault" "place" "I" "TwoTongues") ∈ lw_tbl := lw_at lw_m3 186 rfl
theorem q859 : (Jvm.Cond.fieldLinkNest "TwoTongues" (201 : Nat) "TwoTongues$Sign" "kind" "I" "TwoTongues") ∈ lw_tbl := lw_at lw_m4 9 rfl
theorem q906 : (Jvm.Cond.selects "TwoTongues" ({ cls := "java/lang/Object", name := "getClass", desc := "()Ljava/lang/Class;" } : Jvm.MethodName) ({ cls := "java/lang/Object", name := "getClass", desc := "()Ljava/lang/Class;" } : Jvm.MethodName)) ∈ lw_all := lw_g (lw_at lw_m4 56 rfl) rfl
theorem q1049 : (Jvm.Cond.instanceMethod ({ cls := "TwoTongues", name := "fault", desc := "(I)I" } : Jvm.MethodName)) ∈ lw_all := lw_g (lw_at lw_m4 199 rfl) rfl
theorem q1050 : (Jvm.Cond.selects "TwoTongues" ({ cls := "TwoTongues", name := "fault", desc := "(I)I" } : Jvm.MethodName) ({ cls := "TwoTongues", name := "fault", desc := "(I)I" } : Jvm.MethodName)) ∈ lw_all := lw_g (lw_at lw_m4 200 rfl) rfl
theorem q1051 : (Jvm.Cond.code ({ cls := "TwoTongues", name := "fault", desc := "(I)I" } : Jvm.MethodName) prog_1_method_7_code (2 : Nat) (Option.some Jvm.ClassFile.FieldType.int)) ∈ lw_all := lw_g (lw_at lw_m4 201 rfl) rfl
theorem q1053 : (Jvm.Cond.instanceMethod ({ cls := "TwoTongues", name := "named", desc := "(II)I" } : Jvm.MethodName)) ∈ lw_all := lw_g (lw_at lw_m4 203 rfl) rfl
theorem q1054 : (Jvm.Cond.selects "TwoTongues" ({ cls := "TwoTongues", name := "named", desc := "(II)I" } : Jvm.MethodName) ({ cls := "TwoTongues", name := "named", desc := "(II)I" } : Jvm.MethodName)) ∈ lw_all := lw_g (lw_at lw_m4 204 rfl) rfl
theorem q1055 : (Jvm.Cond.code ({ cls := "TwoTongues", name := "named", desc := "(II)I" } : Jvm.MethodName) prog_1_method_8_code (3 : Nat) (Option.some Jvm.ClassFile.FieldType.int)) ∈ lw_all := lw_g (lw_at lw_m4 205 rfl) rfl
theorem q1056 : (Jvm.Cond.methodLink "TwoTongues" (165 : Nat) ({ cls := "TwoTongues$Store", name := "find", desc := "(I)I" } : Jvm.MethodName)) ∈ lw_all := lw_g (lw_at lw_m4 206 rfl) rfl
theorem q1057 : (Jvm.Cond.methodLink "TwoTongues" (171 : Nat) ({ cls := "TwoTongues$Street", name := "find", desc := "(I)I" } : Jvm.MethodName)) ∈ lw_all := lw_g (lw_at lw_m4 207 rfl) rfl
theorem q1059 : (Jvm.Cond.instanceMethod ({ cls := "TwoTongues", name := "letter", desc := "(II)I" } : Jvm.MethodName)) ∈ lw_all := lw_g (lw_at lw_m4 209 rfl) rfl
theorem q1060 : (Jvm.Cond.selects "TwoTongues" ({ cls := "TwoTongues", name := "letter", desc := "(II)I" } : Jvm.MethodName) ({ cls := "TwoTongues", name := "letter", desc := "(II)I" } : Jvm.MethodName)) ∈ lw_all := lw_g (lw_at lw_m4 210 rfl) rfl
theorem q1061 : (Jvm.Cond.code ({ cls := "TwoTongues", name := "letter", desc := "(II)I" } : Jvm.MethodName) prog_1_method_15_code (3 : Nat) (Option.some Jvm.ClassFile.FieldType.int)) ∈ lw_all := lw_g (lw_at lw_m4 211 rfl) rfl
theorem q1062 : (Jvm.Cond.methodLink "TwoTongues" (215 : Nat) ({ cls := "TwoTongues", name := "isLetter", desc := "(II)Z" } : Jvm.MethodName)) ∈ lw_all := lw_g (lw_at lw_m4 212 rfl) rfl
theorem q1063 : (Jvm.Cond.privateMethod ({ cls := "TwoTongues", name := "isLetter", desc := "(II)Z" } : Jvm.MethodName)) ∈ lw_tbl := lw_at lw_m4 213 rfl
theorem q1064 : (Jvm.Cond.instanceMethod ({ cls := "TwoTongues", name := "isLetter", desc := "(II)Z" } : Jvm.MethodName)) ∈ lw_all := lw_g (lw_at lw_m4 214 rfl) rfl
theorem q1065 : (Jvm.Cond.code ({ cls := "TwoTongues", name := "isLetter", desc := "(II)Z" } : Jvm.MethodName) prog_1_method_10_code (3 : Nat) (Option.some Jvm.ClassFile.FieldType.boolean)) ∈ lw_all := lw_g (lw_at lw_m4 215 rfl) rfl
theorem q1066 : (Jvm.Cond.methodLink "TwoTongues" (182 : Nat) ({ cls := "TwoTongues", name := "isSign", desc := "(I)Z" } : Jvm.MethodName)) ∈ lw_all := lw_g (lw_at lw_m4 216 rfl) rfl
theorem q1067 : (Jvm.Cond.privateMethod ({ cls := "TwoTongues", name := "isSign", desc := "(I)Z" } : Jvm.MethodName)) ∈ lw_tbl := lw_at lw_m4 217 rfl
theorem q1068 : (Jvm.Cond.instanceMethod ({ cls := "TwoTongues", name := "isSign", desc := "(I)Z" } : Jvm.MethodName)) ∈ lw_all := lw_g (lw_at lw_m4 218 rfl) rfl
theorem q1069 : (Jvm.Cond.code ({ cls := "TwoTongues", name := "isSign", desc := "(I)Z" } : Jvm.MethodName) prog_1_method_9_code (2 : Nat) (Option.some Jvm.ClassFile.FieldType.boolean)) ∈ lw_all := lw_g (lw_at lw_m4 219 rfl) rfl
theorem q1070 : (Jvm.Cond.methodLink "TwoTongues" (176 : Nat) ({ cls := "java/util/ArrayList", name := "size", desc := "()I" } : Jvm.MethodName)) ∈ lw_all := lw_g (lw_at lw_m4 220 rfl) rfl
theorem q1072 : (Jvm.Cond.instanceMethod ({ cls := "TwoTongues", name := "word", desc := "(III)I" } : Jvm.MethodName)) ∈ lw_all := lw_g (lw_at lw_m4 222 rfl) rfl
theorem q1073 : (Jvm.Cond.selects "TwoTongues" ({ cls := "TwoTongues", name := "word", desc := "(III)I" } : Jvm.MethodName) ({ cls := "TwoTongues", name := "word", desc := "(III)I" } : Jvm.MethodName)) ∈ lw_all := lw_g (lw_at lw_m4 223 rfl) rfl
theorem q1074 : (Jvm.Cond.code ({ cls := "TwoTongues", name := "word", desc := "(III)I" } : Jvm.MethodName) prog_1_method_16_code (4 : Nat) (Option.some Jvm.ClassFile.FieldType.int)) ∈ lw_all := lw_g (lw_at lw_m4 224 rfl) rfl
theorem q1075 : (Jvm.Cond.methodLink "TwoTongues" (222 : Nat) ({ cls := "TwoTongues", name := "isTongue", desc := "(I)Z" } : Jvm.MethodName)) ∈ lw_all := lw_g (lw_at lw_m4 225 rfl) rfl
theorem q1076 : (Jvm.Cond.static ({ cls := "TwoTongues", name := "isTongue", desc := "(I)Z" } : Jvm.MethodName)) ∈ lw_all := lw_g (lw_at lw_m4 226 rfl) rfl
theorem q1077 : (Jvm.Cond.code ({ cls := "TwoTongues", name := "isTongue", desc := "(I)Z" } : Jvm.MethodName) prog_1_method_11_code (1 : Nat) (Option.some Jvm.ClassFile.FieldType.boolean)) ∈ lw_all := lw_g (lw_at lw_m4 227 rfl) rfl
theorem q1079 : (Jvm.Cond.instanceMethod ({ cls := "TwoTongues", name := "ways", desc := "(II)J" } : Jvm.MethodName)) ∈ lw_all := lw_g (lw_at lw_m4 229 rfl) rfl
theorem q1080 : (Jvm.Cond.selects "TwoTongues" ({ cls := "TwoTongues", name := "ways", desc := "(II)J" } : Jvm.MethodName) ({ cls := "TwoTongues", name := "ways", desc := "(II)J" } : Jvm.MethodName)) ∈ lw_all := lw_g (lw_at lw_m4 230 rfl) rfl
theorem q1081 : (Jvm.Cond.code ({ cls := "TwoTongues", name := "ways", desc := "(II)J" } : Jvm.MethodName) prog_1_method_21_code (3 : Nat) (Option.some Jvm.ClassFile.FieldType.long)) ∈ lw_all := lw_g (lw_at lw_m4 231 rfl) rfl
theorem q1082 : (Jvm.Cond.constantLong "TwoTongues" (258 : Nat) (-1 : Int64)) ∈ lw_all := lw_g (lw_at lw_m4 232 rfl) rfl
theorem q1083 : (Jvm.Cond.methodLink "TwoTongues" (260 : Nat) ({ cls := "TwoTongues", name := "read", desc := "(II)V" } : Jvm.MethodName)) ∈ lw_all := lw_g (lw_at lw_m4 233 rfl) rfl
theorem q1084 : (Jvm.Cond.privateMethod ({ cls := "TwoTongues", name := "read", desc := "(II)V" } : Jvm.MethodName)) ∈ lw_tbl := lw_at lw_m4 234 rfl
theorem q1085 : (Jvm.Cond.instanceMethod ({ cls := "TwoTongues", name := "read", desc := "(II)V" } : Jvm.MethodName)) ∈ lw_all := lw_g (lw_at lw_m4 235 rfl) rfl
theorem q1086 : (Jvm.Cond.code ({ cls := "TwoTongues", name := "read", desc := "(II)V" } : Jvm.MethodName) prog_1_method_19_code (3 : Nat) (Option.none : Option Jvm.ClassFile.FieldType)) ∈ lw_all := lw_g (lw_at lw_m4 236 rfl) rfl
theorem q1087 : (Jvm.Cond.methodLink "TwoTongues" (248 : Nat) ({ cls := "TwoTongues", name := "kindOf", desc := "(I)LTwoTongues$Kind;" } : Jvm.MethodName)) ∈ lw_all := lw_g (lw_at lw_m4 237 rfl) rfl
theorem q1088 : (Jvm.Cond.privateMethod ({ cls := "TwoTongues", name := "kindOf", desc := "(I)LTwoTongues$Kind;" } : Jvm.MethodName)) ∈ lw_tbl := lw_at lw_m4 238 rfl
theorem q1089 : (Jvm.Cond.instanceMethod ({ cls := "TwoTongues", name := "kindOf", desc := "(I)LTwoTongues$Kind;" } : Jvm.MethodName)) ∈ lw_all := lw_g (lw_at lw_m4 239 rfl) rfl
theorem q1090 : (Jvm.Cond.code ({ cls := "TwoTongues", name := "kindOf", desc := "(I)LTwoTongues$Kind;" } : Jvm.MethodName) prog_1_method_13_code (2 : Nat) (Option.some (Jvm.ClassFile.FieldType.object "TwoTongues$Kind"))) ∈ lw_all := lw_g (lw_at lw_m5 0 rfl) rfl
theorem q1091 : (Jvm.Cond.methodLink "TwoTongues" (195 : Nat) ({ cls := "java/util/ArrayList", name := "get", desc := "(I)Ljava/lang/Object;" } : Jvm.MethodName)) ∈ lw_all := lw_g (lw_at lw_m5 1 rfl) rfl
theorem q1092 : (Jvm.Cond.classLink "TwoTongues" (199 : Nat) "TwoTongues$Sign") ∈ lw_all := lw_g (lw_at lw_m5 2 rfl) rfl
theorem q1093 : (Jvm.Cond.methodLink "TwoTongues" (252 : Nat) ({ cls := "TwoTongues$Kind", name := "isFromRight", desc := "(I)Z" } : Jvm.MethodName)) ∈ lw_all := lw_g (lw_at lw_m5 3 rfl) rfl
theorem q1109 : (Jvm.Cond.methodLink "TwoTongues" (255 : Nat) ({ cls := "TwoTongues", name := "read", desc := "(LTwoTongues$Store;LTwoTongues$Row;Z)V" } : Jvm.MethodName)) ∈ lw_all := lw_g (lw_at lw_m5 19 rfl) rfl
theorem q1110 : (Jvm.Cond.privateMethod ({ cls := "TwoTongues", name := "read", desc := "(LTwoTongues$Store;LTwoTongues$Row;Z)V" } : Jvm.MethodName)) ∈ lw_tbl := lw_at lw_m5 20 rfl
theorem q1111 : (Jvm.Cond.instanceMethod ({ cls := "TwoTongues", name := "read", desc := "(LTwoTongues$Store;LTwoTongues$Row;Z)V" } : Jvm.MethodName)) ∈ lw_all := lw_g (lw_at lw_m5 21 rfl) rfl
theorem q1112 : (Jvm.Cond.code ({ cls := "TwoTongues", name := "read", desc := "(LTwoTongues$Store;LTwoTongues$Row;Z)V" } : Jvm.MethodName) prog_1_method_18_code (7 : Nat) (Option.none : Option Jvm.ClassFile.FieldType)) ∈ lw_all := lw_g (lw_at lw_m5 22 rfl) rfl
theorem q1113 : (Jvm.Cond.methodLink "TwoTongues" (239 : Nat) ({ cls := "TwoTongues", name := "stands", desc := "(LTwoTongues$Store;ILTwoTongues$Row;ZI)Z" } : Jvm.MethodName)) ∈ lw_all := lw_g (lw_at lw_m5 23 rfl) rfl
theorem q1114 : (Jvm.Cond.static ({ cls := "TwoTongues", name := "stands", desc := "(LTwoTongues$Store;ILTwoTongues$Row;ZI)Z" } : Jvm.MethodName)) ∈ lw_all := lw_g (lw_at lw_m5 24 rfl) rfl
theorem q1115 : (Jvm.Cond.code ({ cls := "TwoTongues", name := "stands", desc := "(LTwoTongues$Store;ILTwoTongues$Row;ZI)Z" } : Jvm.MethodName) prog_1_method_17_code (7 : Nat) (Option.some Jvm.ClassFile.FieldType.boolean)) ∈ lw_all := lw_g (lw_at lw_m5 25 rfl) rfl
theorem q1116 : (Jvm.Cond.methodLink "TwoTongues" (232 : Nat) ({ cls := "TwoTongues$Store", name := "length", desc := "(I)I" } : Jvm.MethodName)) ∈ lw_all := lw_g (lw_at lw_m5 26 rfl) rfl
theorem q1124 : (Jvm.Cond.methodLink "TwoTongues" (235 : Nat) ({ cls := "TwoTongues$Store", name := "letter", desc := "(II)I" } : Jvm.MethodName)) ∈ lw_all := lw_g (lw_at lw_m5 34 rfl) rfl
theorem q1125 : (Jvm.Cond.methodLink "TwoTongues" (243 : Nat) ({ cls := "java/lang/Math", name := "max", desc := "(II)I" } : Jvm.MethodName)) ∈ lw_all := lw_g (lw_at lw_m5 35 rfl) rfl
theorem q1127 : (Jvm.Cond.instanceMethod ({ cls := "TwoTongues", name := "worth", desc := "(II)I" } : Jvm.MethodName)) ∈ lw_all := lw_g (lw_at lw_m5 37 rfl) rfl
theorem q1128 : (Jvm.Cond.selects "TwoTongues" ({ cls := "TwoTongues", name := "worth", desc := "(II)I" } : Jvm.MethodName) ({ cls := "TwoTongues", name := "worth", desc := "(II)I" } : Jvm.MethodName)) ∈ lw_all := lw_g (lw_at lw_m5 38 rfl) rfl
theorem q1129 : (Jvm.Cond.code ({ cls := "TwoTongues", name := "worth", desc := "(II)I" } : Jvm.MethodName) prog_1_method_22_code (3 : Nat) (Option.some Jvm.ClassFile.FieldType.int)) ∈ lw_all := lw_g (lw_at lw_m5 39 rfl) rfl
theorem q1131 : (Jvm.Cond.instanceMethod ({ cls := "TwoTongues", name := "said", desc := "(III)I" } : Jvm.MethodName)) ∈ lw_all := lw_g (lw_at lw_m5 41 rfl) rfl
theorem q1132 : (Jvm.Cond.selects "TwoTongues" ({ cls := "TwoTongues", name := "said", desc := "(III)I" } : Jvm.MethodName) ({ cls := "TwoTongues", name := "said", desc := "(III)I" } : Jvm.MethodName)) ∈ lw_all := lw_g (lw_at lw_m5 42 rfl) rfl
theorem q1133 : (Jvm.Cond.code ({ cls := "TwoTongues", name := "said", desc := "(III)I" } : Jvm.MethodName) prog_1_method_23_code (9 : Nat) (Option.some Jvm.ClassFile.FieldType.int)) ∈ lw_all := lw_g (lw_at lw_m5 43 rfl) rfl
theorem q1135 : (Jvm.Cond.instanceMethod ({ cls := "TwoTongues", name := "says", desc := "(III)I" } : Jvm.MethodName)) ∈ lw_all := lw_g (lw_at lw_m5 45 rfl) rfl
theorem q1136 : (Jvm.Cond.selects "TwoTongues" ({ cls := "TwoTongues", name := "says", desc := "(III)I" } : Jvm.MethodName) ({ cls := "TwoTongues", name := "says", desc := "(III)I" } : Jvm.MethodName)) ∈ lw_all := lw_g (lw_at lw_m5 46 rfl) rfl
theorem q1137 : (Jvm.Cond.code ({ cls := "TwoTongues", name := "says", desc := "(III)I" } : Jvm.MethodName) prog_1_method_25_code (4 : Nat) (Option.some Jvm.ClassFile.FieldType.int)) ∈ lw_all := lw_g (lw_at lw_m5 47 rfl) rfl
theorem q1138 : (Jvm.Cond.methodLink "TwoTongues" (266 : Nat) ({ cls := "TwoTongues", name := "isDay", desc := "(I)Z" } : Jvm.MethodName)) ∈ lw_all := lw_g (lw_at lw_m5 48 rfl) rfl
theorem q1139 : (Jvm.Cond.static ({ cls := "TwoTongues", name := "isDay", desc := "(I)Z" } : Jvm.MethodName)) ∈ lw_all := lw_g (lw_at lw_m5 49 rfl) rfl
theorem q1140 : (Jvm.Cond.code ({ cls := "TwoTongues", name := "isDay", desc := "(I)Z" } : Jvm.MethodName) prog_1_method_12_code (1 : Nat) (Option.some Jvm.ClassFile.FieldType.boolean)) ∈ lw_all := lw_g (lw_at lw_m5 50 rfl) rfl
theorem q1141 : (Jvm.Cond.constantLong "TwoTongues" (193 : Nat) (999 : Int64)) ∈ lw_all := lw_g (lw_at lw_m5 51 rfl) rfl
theorem q1142 : (Jvm.Cond.methodLink "TwoTongues" (269 : Nat) ({ cls := "TwoTongues", name := "isSaid", desc := "(III)Z" } : Jvm.MethodName)) ∈ lw_all := lw_g (lw_at lw_m5 52 rfl) rfl
theorem q1143 : (Jvm.Cond.privateMethod ({ cls := "TwoTongues", name := "isSaid", desc := "(III)Z" } : Jvm.MethodName)) ∈ lw_tbl := lw_at lw_m5 53 rfl
theorem q1144 : (Jvm.Cond.instanceMethod ({ cls := "TwoTongues", name := "isSaid", desc := "(III)Z" } : Jvm.MethodName)) ∈ lw_all := lw_g (lw_at lw_m5 54 rfl) rfl
theorem q1145 : (Jvm.Cond.code ({ cls := "TwoTongues", name := "isSaid", desc := "(III)Z" } : Jvm.MethodName) prog_1_method_24_code (4 : Nat) (Option.some Jvm.ClassFile.FieldType.boolean)) ∈ lw_all := lw_g (lw_at lw_m5 55 rfl) rfl
theorem q1146 : (Jvm.Cond.methodLink "TwoTongues" (263 : Nat) ({ cls := "TwoTongues$Street", name := "isCovered", desc := "(II)Z" } : Jvm.MethodName)) ∈ lw_all := lw_g (lw_at lw_m5 56 rfl) rfl
theorem q1148 : (Jvm.Cond.instanceMethod ({ cls := "TwoTongues", name := "nights", desc := "(I)I" } : Jvm.MethodName)) ∈ lw_all := lw_g (lw_at lw_m5 58 rfl) rfl
theorem q1149 : (Jvm.Cond.selects "TwoTongues" ({ cls := "TwoTongues", name := "nights", desc := "(I)I" } : Jvm.MethodName) ({ cls := "TwoTongues", name := "nights", desc := "(I)I" } : Jvm.MethodName)) ∈ lw_all := lw_g (lw_at lw_m5 59 rfl) rfl
theorem q1150 : (Jvm.Cond.code ({ cls := "TwoTongues", name := "nights", desc := "(I)I" } : Jvm.MethodName) prog_1_method_27_code (4 : Nat) (Option.some Jvm.ClassFile.FieldType.int)) ∈ lw_all := lw_g (lw_at lw_m5 60 rfl) rfl
theorem q1151 : (Jvm.Cond.constantLong "TwoTongues" (277 : Nat) (99 : Int64)) ∈ lw_all := lw_g (lw_at lw_m5 61 rfl) rfl
theorem q1152 : (Jvm.Cond.methodLink "TwoTongues" (282 : Nat) ({ cls := "java/util/ArrayList", name := "isEmpty", desc := "()Z" } : Jvm.MethodName)) ∈ lw_all := lw_g (lw_at lw_m5 62 rfl) rfl
theorem q1156 : (Jvm.Cond.methodLink "TwoTongues" (286 : Nat) ({ cls := "TwoTongues", name := "draw", desc := "(I)I" } : Jvm.MethodName)) ∈ lw_all := lw_g (lw_at lw_m5 66 rfl) rfl
theorem q1157 : (Jvm.Cond.privateMethod ({ cls := "TwoTongues", name := "draw", desc := "(I)I" } : Jvm.MethodName)) ∈ lw_tbl := lw_at lw_m5 67 rfl
theorem q1158 : (Jvm.Cond.instanceMethod ({ cls := "TwoTongues", name := "draw", desc := "(I)I" } : Jvm.MethodName)) ∈ lw_all := lw_g (lw_at lw_m5 68 rfl) rfl
theorem q1159 : (Jvm.Cond.code ({ cls := "TwoTongues", name := "draw", desc := "(I)I" } : Jvm.MethodName) prog_1_method_26_code (2 : Nat) (Option.some Jvm.ClassFile.FieldType.int)) ∈ lw_all := lw_g (lw_at lw_m5 69 rfl) rfl
theorem q1160 : (Jvm.Cond.constant "TwoTongues" (273 : Nat) (1103515245 : Int32)) ∈ lw_all := lw_g (lw_at lw_m5 70 rfl) rfl
theorem q1161 : (Jvm.Cond.constant "TwoTongues" (276 : Nat) (2147483647 : Int32)) ∈ lw_all := lw_g (lw_at lw_m5 71 rfl) rfl
theorem q1163 : (Jvm.Cond.instanceMethod ({ cls := "TwoTongues", name := "put", desc := "(III)I" } : Jvm.MethodName)) ∈ lw_all := lw_g (lw_at lw_m5 73 rfl) rfl
theorem q1164 : (Jvm.Cond.selects "TwoTongues" ({ cls := "TwoTongues", name := "put", desc := "(III)I" } : Jvm.MethodName) ({ cls := "TwoTongues", name := "put", desc := "(III)I" } : Jvm.MethodName)) ∈ lw_all := lw_g (lw_at lw_m5 74 rfl) rfl
theorem q1165 : (Jvm.Cond.code ({ cls := "TwoTongues", name := "put", desc := "(III)I" } : Jvm.MethodName) prog_1_method_29_code (4 : Nat) (Option.some Jvm.ClassFile.FieldType.int)) ∈ lw_all := lw_g (lw_at lw_m5 75 rfl) rfl
theorem q1166 : (Jvm.Cond.constantLong "TwoTongues" (293 : Nat) (26 : Int64)) ∈ lw_all := lw_g (lw_at lw_m5 76 rfl) rfl
theorem q1167 : (Jvm.Cond.methodLink "TwoTongues" (301 : Nat) ({ cls := "TwoTongues", name := "keepNow", desc := "()V" } : Jvm.MethodName)) ∈ lw_all := lw_g (lw_at lw_m5 77 rfl) rfl
theorem q1168 : (Jvm.Cond.privateMethod ({ cls := "TwoTongues", name := "keepNow", desc := "()V" } : Jvm.MethodName)) ∈ lw_tbl := lw_at lw_m5 78 rfl
theorem q1169 : (Jvm.Cond.instanceMethod ({ cls := "TwoTongues", name := "keepNow", desc := "()V" } : Jvm.MethodName)) ∈ lw_all := lw_g (lw_at lw_m5 79 rfl) rfl
theorem q1170 : (Jvm.Cond.code ({ cls := "TwoTongues", name := "keepNow", desc := "()V" } : Jvm.MethodName) prog_1_method_28_code (3 : Nat) (Option.none : Option Jvm.ClassFile.FieldType)) ∈ lw_all := lw_g (lw_at lw_m5 80 rfl) rfl
theorem q1171 : (Jvm.Cond.methodLink "TwoTongues" (289 : Nat) ({ cls := "TwoTongues$State", name := "become", desc := "(LTwoTongues$State;)V" } : Jvm.MethodName)) ∈ lw_all := lw_g (lw_at lw_m5 81 rfl) rfl
theorem q1176 : (Jvm.Cond.instanceMethod ({ cls := "TwoTongues", name := "lose", desc := "(II)Z" } : Jvm.MethodName)) ∈ lw_all := lw_g (lw_at lw_m5 86 rfl) rfl
theorem q1177 : (Jvm.Cond.selects "TwoTongues" ({ cls := "TwoTongues", name := "lose", desc := "(II)Z" } : Jvm.MethodName) ({ cls := "TwoTongues", name := "lose", desc := "(II)Z" } : Jvm.MethodName)) ∈ lw_all := lw_g (lw_at lw_m5 87 rfl) rfl
theorem q1178 : (Jvm.Cond.code ({ cls := "TwoTongues", name := "lose", desc := "(II)Z" } : Jvm.MethodName) prog_1_method_30_code (3 : Nat) (Option.some Jvm.ClassFile.FieldType.boolean)) ∈ lw_all := lw_g (lw_at lw_m5 88 rfl) rfl
theorem q1180 : (Jvm.Cond.instanceMethod ({ cls := "TwoTongues", name := "coin", desc := "(III)I" } : Jvm.MethodName)) ∈ lw_all := lw_g (lw_at lw_m5 90 rfl) rfl
theorem q1181 : (Jvm.Cond.selects "TwoTongues" ({ cls := "TwoTongues", name := "coin", desc := "(III)I" } : Jvm.MethodName) ({ cls := "TwoTongues", name := "coin", desc := "(III)I" } : Jvm.MethodName)) ∈ lw_all := lw_g (lw_at lw_m5 91 rfl) rfl
theorem q1182 : (Jvm.Cond.code ({ cls := "TwoTongues", name := "coin", desc := "(III)I" } : Jvm.MethodName) prog_1_method_32_code (4 : Nat) (Option.some Jvm.ClassFile.FieldType.int)) ∈ lw_all := lw_g (lw_at lw_m5 92 rfl) rfl
theorem q1183 : (Jvm.Cond.methodLink "TwoTongues" (304 : Nat) ({ cls := "TwoTongues", name := "isWord", desc := "(I)Z" } : Jvm.MethodName)) ∈ lw_all := lw_g (lw_at lw_m5 93 rfl) rfl
theorem q1184 : (Jvm.Cond.static ({ cls := "TwoTongues", name := "isWord", desc := "(I)Z" } : Jvm.MethodName)) ∈ lw_all := lw_g (lw_at lw_m5 94 rfl) rfl
theorem q1185 : (Jvm.Cond.code ({ cls := "TwoTongues", name := "isWord", desc := "(I)Z" } : Jvm.MethodName) prog_1_method_31_code (4 : Nat) (Option.some Jvm.ClassFile.FieldType.boolean)) ∈ lw_all := lw_g (lw_at lw_m5 95 rfl) rfl
theorem q1186 : (Jvm.Cond.methodLink "TwoTongues" (307 : Nat) ({ cls := "TwoTongues$Store", name := "add", desc := "(II)V" } : Jvm.MethodName)) ∈ lw_all := lw_g (lw_at lw_m5 96 rfl) rfl
theorem q1188 : (Jvm.Cond.instanceMethod ({ cls := "TwoTongues", name := "serving", desc := "(II)I" } : Jvm.MethodName)) ∈ lw_all := lw_g (lw_at lw_m5 98 rfl) rfl
theorem q1189 : (Jvm.Cond.selects "TwoTongues" ({ cls := "TwoTongues", name := "serving", desc := "(II)I" } : Jvm.MethodName) ({ cls := "TwoTongues", name := "serving", desc := "(II)I" } : Jvm.MethodName)) ∈ lw_all := lw_g (lw_at lw_m5 99 rfl) rfl
theorem q1190 : (Jvm.Cond.code ({ cls := "TwoTongues", name := "serving", desc := "(II)I" } : Jvm.MethodName) prog_1_method_43_code (3 : Nat) (Option.some Jvm.ClassFile.FieldType.int)) ∈ lw_all := lw_g (lw_at lw_m5 100 rfl) rfl
theorem q1191 : (Jvm.Cond.methodLink "TwoTongues" (366 : Nat) ({ cls := "TwoTongues", name := "isKind", desc := "(I)Z" } : Jvm.MethodName)) ∈ lw_all := lw_g (lw_at lw_m5 101 rfl) rfl
theorem q1192 : (Jvm.Cond.static ({ cls := "TwoTongues", name := "isKind", desc := "(I)Z" } : Jvm.MethodName)) ∈ lw_all := lw_g (lw_at lw_m5 102 rfl) rfl
theorem q1193 : (Jvm.Cond.code ({ cls := "TwoTongues", name := "isKind", desc := "(I)Z" } : Jvm.MethodName) prog_1_method_39_code (1 : Nat) (Option.some Jvm.ClassFile.FieldType.boolean)) ∈ lw_all := lw_g (lw_at lw_m5 103 rfl) rfl
theorem q1194 : (Jvm.Cond.constantLong "TwoTongues" (359 : Nat) (3 : Int64)) ∈ lw_all := lw_g (lw_at lw_m5 104 rfl) rfl
theorem q1195 : (Jvm.Cond.methodLink "TwoTongues" (369 : Nat) ({ cls := "TwoTongues", name := "isLength", desc := "(I)Z" } : Jvm.MethodName)) ∈ lw_all := lw_g (lw_at lw_m5 105 rfl) rfl
theorem q1196 : (Jvm.Cond.static ({ cls := "TwoTongues", name := "isLength", desc := "(I)Z" } : Jvm.MethodName)) ∈ lw_all := lw_g (lw_at lw_m5 106 rfl) rfl
theorem q1197 : (Jvm.Cond.code ({ cls := "TwoTongues", name := "isLength", desc := "(I)Z" } : Jvm.MethodName) prog_1_method_40_code (1 : Nat) (Option.some Jvm.ClassFile.FieldType.boolean)) ∈ lw_all := lw_g (lw_at lw_m5 107 rfl) rfl
theorem q1198 : (Jvm.Cond.constantLong "TwoTongues" (361 : Nat) (12 : Int64)) ∈ lw_all := lw_g (lw_at lw_m5 108 rfl) rfl
theorem q1199 : (Jvm.Cond.methodLink "TwoTongues" (372 : Nat) ({ cls := "TwoTongues", name := "layFree", desc := "(II)V" } : Jvm.MethodName)) ∈ lw_all := lw_g (lw_at lw_m5 109 rfl) rfl
theorem q1200 : (Jvm.Cond.privateMethod ({ cls := "TwoTongues", name := "layFree", desc := "(II)V" } : Jvm.MethodName)) ∈ lw_tbl := lw_at lw_m5 110 rfl
theorem q1201 : (Jvm.Cond.instanceMethod ({ cls := "TwoTongues", name := "layFree", desc := "(II)V" } : Jvm.MethodName)) ∈ lw_all := lw_g (lw_at lw_m5 111 rfl) rfl
theorem q1202 : (Jvm.Cond.code ({ cls := "TwoTongues", name := "layFree", desc := "(II)V" } : Jvm.MethodName) prog_1_method_41_code (4 : Nat) (Option.none : Option Jvm.ClassFile.FieldType)) ∈ lw_all := lw_g (lw_at lw_m5 112 rfl) rfl
theorem q1203 : (Jvm.Cond.methodLink "TwoTongues" (363 : Nat) ({ cls := "TwoTongues", name := "lay", desc := "(LTwoTongues$Row;LTwoTongues$Kind;)V" } : Jvm.MethodName)) ∈ lw_all := lw_g (lw_at lw_m5 113 rfl) rfl
theorem q1204 : (Jvm.Cond.privateMethod ({ cls := "TwoTongues", name := "lay", desc := "(LTwoTongues$Row;LTwoTongues$Kind;)V" } : Jvm.MethodName)) ∈ lw_tbl := lw_at lw_m5 114 rfl
theorem q1205 : (Jvm.Cond.instanceMethod ({ cls := "TwoTongues", name := "lay", desc := "(LTwoTongues$Row;LTwoTongues$Kind;)V" } : Jvm.MethodName)) ∈ lw_all := lw_g (lw_at lw_m5 115 rfl) rfl
theorem q1206 : (Jvm.Cond.code ({ cls := "TwoTongues", name := "lay", desc := "(LTwoTongues$Row;LTwoTongues$Kind;)V" } : Jvm.MethodName) prog_1_method_34_code (6 : Nat) (Option.none : Option Jvm.ClassFile.FieldType)) ∈ lw_all := lw_g (lw_at lw_m5 116 rfl) rfl
theorem q1207 : (Jvm.Cond.methodLink "TwoTongues" (310 : Nat) ({ cls := "TwoTongues$Net", name := "lay", desc := "(LTwoTongues$Store;Z)V" } : Jvm.MethodName)) ∈ lw_all := lw_g (lw_at lw_m5 117 rfl) rfl
theorem q1211 : (Jvm.Cond.methodLink "TwoTongues" (314 : Nat) ({ cls := "TwoTongues$Row", name := "become", desc := "(LTwoTongues$Row;)V" } : Jvm.MethodName)) ∈ lw_all := lw_g (lw_at lw_m5 121 rfl) rfl
theorem q1212 : (Jvm.Cond.methodLink "TwoTongues" (320 : Nat) ({ cls := "TwoTongues", name := "at", desc := "(III)I" } : Jvm.MethodName)) ∈ lw_all := lw_g (lw_at lw_m5 122 rfl) rfl
theorem q1213 : (Jvm.Cond.static ({ cls := "TwoTongues", name := "at", desc := "(III)I" } : Jvm.MethodName)) ∈ lw_all := lw_g (lw_at lw_m5 123 rfl) rfl
theorem q1214 : (Jvm.Cond.code ({ cls := "TwoTongues", name := "at", desc := "(III)I" } : Jvm.MethodName) prog_1_method_33_code (3 : Nat) (Option.some Jvm.ClassFile.FieldType.int)) ∈ lw_all := lw_g (lw_at lw_m5 124 rfl) rfl
theorem q1215 : (Jvm.Cond.constant "TwoTongues" (324 : Nat) (1000000 : Int32)) ∈ lw_all := lw_g (lw_at lw_m5 125 rfl) rfl
theorem q1216 : (Jvm.Cond.methodLink "TwoTongues" (325 : Nat) ({ cls := "TwoTongues", name := "least", desc := "(IIII)I" } : Jvm.MethodName)) ∈ lw_all := lw_g (lw_at lw_m5 126 rfl) rfl
theorem q1217 : (Jvm.Cond.privateMethod ({ cls := "TwoTongues", name := "least", desc := "(IIII)I" } : Jvm.MethodName)) ∈ lw_tbl := lw_at lw_m5 127 rfl
theorem q1218 : (Jvm.Cond.instanceMethod ({ cls := "TwoTongues", name := "least", desc := "(IIII)I" } : Jvm.MethodName)) ∈ lw_all := lw_g (lw_at lw_m5 128 rfl) rfl
theorem q1219 : (Jvm.Cond.code ({ cls := "TwoTongues", name := "least", desc := "(IIII)I" } : Jvm.MethodName) prog_1_method_35_code (13 : Nat) (Option.some Jvm.ClassFile.FieldType.int)) ∈ lw_all := lw_g (lw_at lw_m5 129 rfl) rfl
theorem q1220 : (Jvm.Cond.methodLink "TwoTongues" (329 : Nat) ({ cls := "TwoTongues$Net", name := "only", desc := "(I)I" } : Jvm.MethodName)) ∈ lw_all := lw_g (lw_at lw_m5 130 rfl) rfl
theorem q1230 : (Jvm.Cond.methodLink "TwoTongues" (332 : Nat) ({ cls := "TwoTongues$Net", name := "goes", desc := "(III)I" } : Jvm.MethodName)) ∈ lw_all := lw_g (lw_at lw_m5 140 rfl) rfl
theorem q1238 : (Jvm.Cond.methodLink "TwoTongues" (335 : Nat) ({ cls := "java/lang/Math", name := "min", desc := "(II)I" } : Jvm.MethodName)) ∈ lw_all := lw_g (lw_at lw_m5 148 rfl) rfl
theorem q1239 : (Jvm.Cond.methodLink "TwoTongues" (375 : Nat) ({ cls := "TwoTongues", name := "walks", desc := "(I)I" } : Jvm.MethodName)) ∈ lw_all := lw_g (lw_at lw_m5 149 rfl) rfl
theorem q1240 : (Jvm.Cond.privateMethod ({ cls := "TwoTongues", name := "walks", desc := "(I)I" } : Jvm.MethodName)) ∈ lw_tbl := lw_at lw_m5 150 rfl
theorem q1241 : (Jvm.Cond.instanceMethod ({ cls := "TwoTongues", name := "walks", desc := "(I)I" } : Jvm.MethodName)) ∈ lw_all := lw_g (lw_at lw_m5 151 rfl) rfl
theorem q1242 : (Jvm.Cond.code ({ cls := "TwoTongues", name := "walks", desc := "(I)I" } : Jvm.MethodName) prog_1_method_38_code (2 : Nat) (Option.some Jvm.ClassFile.FieldType.int)) ∈ lw_all := lw_g (lw_at lw_m5 152 rfl) rfl
theorem q1243 : (Jvm.Cond.constantLong "TwoTongues" (357 : Nat) (1152921504606846976 : Int64)) ∈ lw_all := lw_g (lw_at lw_m5 153 rfl) rfl
theorem q1244 : (Jvm.Cond.methodLink "TwoTongues" (350 : Nat) ({ cls := "TwoTongues", name := "least", desc := "(IJJ)I" } : Jvm.MethodName)) ∈ lw_all := lw_g (lw_at lw_m5 154 rfl) rfl
theorem q1245 : (Jvm.Cond.privateMethod ({ cls := "TwoTongues", name := "least", desc := "(IJJ)I" } : Jvm.MethodName)) ∈ lw_tbl := lw_at lw_m5 155 rfl
theorem q1246 : (Jvm.Cond.instanceMethod ({ cls := "TwoTongues", name := "least", desc := "(IJJ)I" } : Jvm.MethodName)) ∈ lw_all := lw_g (lw_at lw_m5 156 rfl) rfl
theorem q1247 : (Jvm.Cond.code ({ cls := "TwoTongues", name := "least", desc := "(IJJ)I" } : Jvm.MethodName) prog_1_method_36_code (9 : Nat) (Option.some Jvm.ClassFile.FieldType.int)) ∈ lw_all := lw_g (lw_at lw_m5 157 rfl) rfl
theorem q1248 : (Jvm.Cond.methodLink "TwoTongues" (353 : Nat) ({ cls := "TwoTongues", name := "walk", desc := "(IJJI)V" } : Jvm.MethodName)) ∈ lw_all := lw_g (lw_at lw_m5 158 rfl) rfl
theorem q1249 : (Jvm.Cond.privateMethod ({ cls := "TwoTongues", name := "walk", desc := "(IJJI)V" } : Jvm.MethodName)) ∈ lw_tbl := lw_at lw_m5 159 rfl
theorem q1250 : (Jvm.Cond.instanceMethod ({ cls := "TwoTongues", name := "walk", desc := "(IJJI)V" } : Jvm.MethodName)) ∈ lw_all := lw_g (lw_at lw_m5 160 rfl) rfl
theorem q1251 : (Jvm.Cond.code ({ cls := "TwoTongues", name := "walk", desc := "(IJJI)V" } : Jvm.MethodName) prog_1_method_37_code (12 : Nat) (Option.none : Option Jvm.ClassFile.FieldType)) ∈ lw_all := lw_g (lw_at lw_m5 161 rfl) rfl
theorem q1252 : (Jvm.Cond.methodLink "TwoTongues" (339 : Nat) ({ cls := "TwoTongues$Row", name := "code", desc := "()J" } : Jvm.MethodName)) ∈ lw_all := lw_g (lw_at lw_m5 162 rfl) rfl
theorem q1256 : (Jvm.Cond.methodLink "TwoTongues" (347 : Nat) ({ cls := "TwoTongues$Net", name := "goes", desc := "(JI)J" } : Jvm.MethodName)) ∈ lw_all := lw_g (lw_at lw_m5 166 rfl) rfl
theorem q1260 : (Jvm.Cond.methodLink "TwoTongues" (378 : Nat) ({ cls := "TwoTongues", name := "orMany", desc := "(I)I" } : Jvm.MethodName)) ∈ lw_all := lw_g (lw_at lw_m5 170 rfl) rfl
theorem q1261 : (Jvm.Cond.static ({ cls := "TwoTongues", name := "orMany", desc := "(I)I" } : Jvm.MethodName)) ∈ lw_all := lw_g (lw_at lw_m5 171 rfl) rfl
theorem q1262 : (Jvm.Cond.code ({ cls := "TwoTongues", name := "orMany", desc := "(I)I" } : Jvm.MethodName) prog_1_method_42_code (1 : Nat) (Option.some Jvm.ClassFile.FieldType.int)) ∈ lw_all := lw_g (lw_at lw_m5 172 rfl) rfl
theorem q1264 : (Jvm.Cond.instanceMethod ({ cls := "TwoTongues", name := "serves", desc := "(III)J" } : Jvm.MethodName)) ∈ lw_all := lw_g (lw_at lw_m5 174 rfl) rfl
theorem q1265 : (Jvm.Cond.selects "TwoTongues" ({ cls := "TwoTongues", name := "serves", desc := "(III)J" } : Jvm.MethodName) ({ cls := "TwoTongues", name := "serves", desc := "(III)J" } : Jvm.MethodName)) ∈ lw_all := lw_g (lw_at lw_m5 175 rfl) rfl
theorem q1266 : (Jvm.Cond.code ({ cls := "TwoTongues", name := "serves", desc := "(III)J" } : Jvm.MethodName) prog_1_method_45_code (4 : Nat) (Option.some Jvm.ClassFile.FieldType.long)) ∈ lw_all := lw_g (lw_at lw_m5 176 rfl) rfl
theorem q1267 : (Jvm.Cond.constantLong "TwoTongues" (383 : Nat) (499 : Int64)) ∈ lw_all := lw_g (lw_at lw_m5 177 rfl) rfl
theorem q1268 : (Jvm.Cond.methodLink "TwoTongues" (385 : Nat) ({ cls := "TwoTongues", name := "nth", desc := "(I)J" } : Jvm.MethodName)) ∈ lw_all := lw_g (lw_at lw_m5 178 rfl) rfl
theorem q1269 : (Jvm.Cond.privateMethod ({ cls := "TwoTongues", name := "nth", desc := "(I)J" } : Jvm.MethodName)) ∈ lw_tbl := lw_at lw_m5 179 rfl
theorem q1270 : (Jvm.Cond.instanceMethod ({ cls := "TwoTongues", name := "nth", desc := "(I)J" } : Jvm.MethodName)) ∈ lw_all := lw_g (lw_at lw_m5 180 rfl) rfl
theorem q1271 : (Jvm.Cond.code ({ cls := "TwoTongues", name := "nth", desc := "(I)J" } : Jvm.MethodName) prog_1_method_44_code (2 : Nat) (Option.some Jvm.ClassFile.FieldType.long)) ∈ lw_all := lw_g (lw_at lw_m5 181 rfl) rfl
theorem q1272 : (Jvm.Cond.constantLong "TwoTongues" (381 : Nat) (-2 : Int64)) ∈ lw_all := lw_g (lw_at lw_m5 182 rfl) rfl
theorem q1274 : (Jvm.Cond.instanceMethod ({ cls := "TwoTongues", name := "lightest", desc := "(II)I" } : Jvm.MethodName)) ∈ lw_all := lw_g (lw_at lw_m5 184 rfl) rfl
theorem q1275 : (Jvm.Cond.selects "TwoTongues" ({ cls := "TwoTongues", name := "lightest", desc := "(II)I" } : Jvm.MethodName) ({ cls := "TwoTongues", name := "lightest", desc := "(II)I" } : Jvm.MethodName)) ∈ lw_all := lw_g (lw_at lw_m5 185 rfl) rfl
theorem q1276 : (Jvm.Cond.code ({ cls := "TwoTongues", name := "lightest", desc := "(II)I" } : Jvm.MethodName) prog_1_method_46_code (4 : Nat) (Option.some Jvm.ClassFile.FieldType.int)) ∈ lw_all := lw_g (lw_at lw_m5 186 rfl) rfl
theorem q1278 : (Jvm.Cond.instanceMethod ({ cls := "TwoTongues", name := "light", desc := "(II)J" } : Jvm.MethodName)) ∈ lw_all := lw_g (lw_at lw_m5 188 rfl) rfl
theorem q1279 : (Jvm.Cond.selects "TwoTongues" ({ cls := "TwoTongues", name := "light", desc := "(II)J" } : Jvm.MethodName) ({ cls := "TwoTongues", name := "light", desc := "(II)J" } : Jvm.MethodName)) ∈ lw_all := lw_g (lw_at lw_m5 189 rfl) rfl
theorem q1280 : (Jvm.Cond.code ({ cls := "TwoTongues", name := "light", desc := "(II)J" } : Jvm.MethodName) prog_1_method_47_code (10 : Nat) (Option.some Jvm.ClassFile.FieldType.long)) ∈ lw_all := lw_g (lw_at lw_m5 190 rfl) rfl
theorem q1281 : (Jvm.Cond.methodLink "TwoTongues" (389 : Nat) ({ cls := "TwoTongues", name := "lightest", desc := "(II)I" } : Jvm.MethodName)) ∈ lw_all := lw_g (lw_at lw_m5 191 rfl) rfl
theorem q1283 : (Jvm.Cond.instanceMethod ({ cls := "TwoTongues", name := "charred", desc := "(I)I" } : Jvm.MethodName)) ∈ lw_all := lw_g (lw_at lw_m5 193 rfl) rfl
theorem q1284 : (Jvm.Cond.selects "TwoTongues" ({ cls := "TwoTongues", name := "charred", desc := "(I)I" } : Jvm.MethodName) ({ cls := "TwoTongues", name := "charred", desc := "(I)I" } : Jvm.MethodName)) ∈ lw_all := lw_g (lw_at lw_m5 194 rfl) rfl
theorem q1285 : (Jvm.Cond.code ({ cls := "TwoTongues", name := "charred", desc := "(I)I" } : Jvm.MethodName) prog_1_method_48_code (2 : Nat) (Option.some Jvm.ClassFile.FieldType.int)) ∈ lw_all := lw_g (lw_at lw_m5 195 rfl) rfl
theorem q1287 : (Jvm.Cond.instanceMethod ({ cls := "TwoTongues", name := "filled", desc := "(II)J" } : Jvm.MethodName)) ∈ lw_all := lw_g (lw_at lw_m5 197 rfl) rfl
theorem q1288 : (Jvm.Cond.selects "TwoTongues" ({ cls := "TwoTongues", name := "filled", desc := "(II)J" } : Jvm.MethodName) ({ cls := "TwoTongues", name := "filled", desc := "(II)J" } : Jvm.MethodName)) ∈ lw_all := lw_g (lw_at lw_m5 198 rfl) rfl
theorem q1289 : (Jvm.Cond.code ({ cls := "TwoTongues", name := "filled", desc := "(II)J" } : Jvm.MethodName) prog_1_method_49_code (3 : Nat) (Option.some Jvm.ClassFile.FieldType.long)) ∈ lw_all := lw_g (lw_at lw_m5 199 rfl) rfl
theorem q1291 : (Jvm.Cond.instanceMethod ({ cls := "TwoTongues", name := "told", desc := "(II)I" } : Jvm.MethodName)) ∈ lw_all := lw_g (lw_at lw_m5 201 rfl) rfl
theorem q1292 : (Jvm.Cond.selects "TwoTongues" ({ cls := "TwoTongues", name := "told", desc := "(II)I" } : Jvm.MethodName) ({ cls := "TwoTongues", name := "told", desc := "(II)I" } : Jvm.MethodName)) ∈ lw_all := lw_g (lw_at lw_m5 202 rfl) rfl
theorem q1293 : (Jvm.Cond.code ({ cls := "TwoTongues", name := "told", desc := "(II)I" } : Jvm.MethodName) prog_1_method_51_code (3 : Nat) (Option.some Jvm.ClassFile.FieldType.int)) ∈ lw_all := lw_g (lw_at lw_m5 203 rfl) rfl
theorem q1294 : (Jvm.Cond.methodLink "TwoTongues" (396 : Nat) ({ cls := "TwoTongues", name := "toldBy", desc := "(II)I" } : Jvm.MethodName)) ∈ lw_all := lw_g (lw_at lw_m5 204 rfl) rfl
theorem q1295 : (Jvm.Cond.privateMethod ({ cls := "TwoTongues", name := "toldBy", desc := "(II)I" } : Jvm.MethodName)) ∈ lw_tbl := lw_at lw_m5 205 rfl
theorem q1296 : (Jvm.Cond.instanceMethod ({ cls := "TwoTongues", name := "toldBy", desc := "(II)I" } : Jvm.MethodName)) ∈ lw_all := lw_g (lw_at lw_m5 206 rfl) rfl
theorem q1297 : (Jvm.Cond.code ({ cls := "TwoTongues", name := "toldBy", desc := "(II)I" } : Jvm.MethodName) prog_1_method_50_code (5 : Nat) (Option.some Jvm.ClassFile.FieldType.int)) ∈ lw_all := lw_g (lw_at lw_m5 207 rfl) rfl
theorem q1298 : (Jvm.Cond.methodLink "TwoTongues" (392 : Nat) ({ cls := "TwoTongues", name := "serves", desc := "(LTwoTongues$Row;LTwoTongues$Kind;)Z" } : Jvm.MethodName)) ∈ lw_all := lw_g (lw_at lw_m5 208 rfl) rfl
theorem q1299 : (Jvm.Cond.privateMethod ({ cls := "TwoTongues", name := "serves", desc := "(LTwoTongues$Row;LTwoTongues$Kind;)Z" } : Jvm.MethodName)) ∈ lw_tbl := lw_at lw_m5 209 rfl
theorem q1300 : (Jvm.Cond.instanceMethod ({ cls := "TwoTongues", name := "serves", desc := "(LTwoTongues$Row;LTwoTongues$Kind;)Z" } : Jvm.MethodName)) ∈ lw_all := lw_g (lw_at lw_m5 210 rfl) rfl
theorem q1301 : (Jvm.Cond.code ({ cls := "TwoTongues", name := "serves", desc := "(LTwoTongues$Row;LTwoTongues$Kind;)Z" } : Jvm.MethodName) prog_1_method_20_code (4 : Nat) (Option.some Jvm.ClassFile.FieldType.boolean)) ∈ lw_all := lw_g (lw_at lw_m5 211 rfl) rfl
theorem q1303 : (Jvm.Cond.instanceMethod ({ cls := "TwoTongues", name := "sure", desc := "(I)I" } : Jvm.MethodName)) ∈ lw_all := lw_g (lw_at lw_m5 213 rfl) rfl
theorem q1304 : (Jvm.Cond.selects "TwoTongues" ({ cls := "TwoTongues", name := "sure", desc := "(I)I" } : Jvm.MethodName) ({ cls := "TwoTongues", name := "sure", desc := "(I)I" } : Jvm.MethodName)) ∈ lw_all := lw_g (lw_at lw_m5 214 rfl) rfl
theorem q1305 : (Jvm.Cond.code ({ cls := "TwoTongues", name := "sure", desc := "(I)I" } : Jvm.MethodName) prog_1_method_52_code (4 : Nat) (Option.some Jvm.ClassFile.FieldType.int)) ∈ lw_all := lw_g (lw_at lw_m5 215 rfl) rfl
theorem q1306 : (Jvm.Cond.methodLink "TwoTongues" (399 : Nat) ({ cls := "java/lang/Integer", name := "bitCount", desc := "(I)I" } : Jvm.MethodName)) ∈ lw_all := lw_g (lw_at lw_m5 216 rfl) rfl
theorem q1313 : (Jvm.Cond.instanceMethod ({ cls := "TwoTongues", name := "broken", desc := "()I" } : Jvm.MethodName)) ∈ lw_all := lw_g (lw_at lw_m5 223 rfl) rfl
theorem q1314 : (Jvm.Cond.selects "TwoTongues" ({ cls := "TwoTongues", name := "broken", desc := "()I" } : Jvm.MethodName) ({ cls := "TwoTongues", name := "broken", desc := "()I" } : Jvm.MethodName)) ∈ lw_all := lw_g (lw_at lw_m5 224 rfl) rfl
theorem q1315 : (Jvm.Cond.code ({ cls := "TwoTongues", name := "broken", desc := "()I" } : Jvm.MethodName) prog_1_method_57_code (2 : Nat) (Option.some Jvm.ClassFile.FieldType.int)) ∈ lw_all := lw_g (lw_at lw_m5 225 rfl) rfl
theorem q1316 : (Jvm.Cond.methodLink "TwoTongues" (427 : Nat) ({ cls := "TwoTongues", name := "keepOwn", desc := "()V" } : Jvm.MethodName)) ∈ lw_all := lw_g (lw_at lw_m5 226 rfl) rfl
theorem q1317 : (Jvm.Cond.privateMethod ({ cls := "TwoTongues", name := "keepOwn", desc := "()V" } : Jvm.MethodName)) ∈ lw_tbl := lw_at lw_m5 227 rfl
theorem q1318 : (Jvm.Cond.instanceMethod ({ cls := "TwoTongues", name := "keepOwn", desc := "()V" } : Jvm.MethodName)) ∈ lw_all := lw_g (lw_at lw_m5 228 rfl) rfl
theorem q1319 : (Jvm.Cond.code ({ cls := "TwoTongues", name := "keepOwn", desc := "()V" } : Jvm.MethodName) prog_1_method_56_code (2 : Nat) (Option.none : Option Jvm.ClassFile.FieldType)) ∈ lw_all := lw_g (lw_at lw_m5 229 rfl) rfl
theorem q1320 : (Jvm.Cond.methodLink "TwoTongues" (424 : Nat) ({ cls := "TwoTongues", name := "isAgreed", desc := "(I)Z" } : Jvm.MethodName)) ∈ lw_all := lw_g (lw_at lw_m5 230 rfl) rfl
theorem q1321 : (Jvm.Cond.privateMethod ({ cls := "TwoTongues", name := "isAgreed", desc := "(I)Z" } : Jvm.MethodName)) ∈ lw_tbl := lw_at lw_m5 231 rfl
theorem q1322 : (Jvm.Cond.instanceMethod ({ cls := "TwoTongues", name := "isAgreed", desc := "(I)Z" } : Jvm.MethodName)) ∈ lw_all := lw_g (lw_at lw_m5 232 rfl) rfl
theorem q1323 : (Jvm.Cond.code ({ cls := "TwoTongues", name := "isAgreed", desc := "(I)Z" } : Jvm.MethodName) prog_1_method_54_code (4 : Nat) (Option.some Jvm.ClassFile.FieldType.boolean)) ∈ lw_all := lw_g (lw_at lw_m5 233 rfl) rfl
theorem q1324 : (Jvm.Cond.methodLink "TwoTongues" (408 : Nat) ({ cls := "TwoTongues", name := "rowOf", desc := "(I)LTwoTongues$Row;" } : Jvm.MethodName)) ∈ lw_all := lw_g (lw_at lw_m5 234 rfl) rfl
theorem q1325 : (Jvm.Cond.privateMethod ({ cls := "TwoTongues", name := "rowOf", desc := "(I)LTwoTongues$Row;" } : Jvm.MethodName)) ∈ lw_tbl := lw_at lw_m5 235 rfl
theorem q1326 : (Jvm.Cond.instanceMethod ({ cls := "TwoTongues", name := "rowOf", desc := "(I)LTwoTongues$Row;" } : Jvm.MethodName)) ∈ lw_all := lw_g (lw_at lw_m5 236 rfl) rfl
theorem q1327 : (Jvm.Cond.code ({ cls := "TwoTongues", name := "rowOf", desc := "(I)LTwoTongues$Row;" } : Jvm.MethodName) prog_1_method_53_code (2 : Nat) (Option.some (Jvm.ClassFile.FieldType.object "TwoTongues$Row"))) ∈ lw_all := lw_g (lw_at lw_m5 237 rfl) rfl
theorem q1329 : (Jvm.Cond.instanceMethod ({ cls := "TwoTongues", name := "renamed", desc := "()I" } : Jvm.MethodName)) ∈ lw_all := lw_g (lw_at lw_m5 239 rfl) rfl
theorem q1330 : (Jvm.Cond.selects "TwoTongues" ({ cls := "TwoTongues", name := "renamed", desc := "()I" } : Jvm.MethodName) ({ cls := "TwoTongues", name := "renamed", desc := "()I" } : Jvm.MethodName)) ∈ lw_all := lw_g (lw_at lw_m6 0 rfl) rfl
theorem q1331 : (Jvm.Cond.code ({ cls := "TwoTongues", name := "renamed", desc := "()I" } : Jvm.MethodName) prog_1_method_60_code (1 : Nat) (Option.some Jvm.ClassFile.FieldType.int)) ∈ lw_all := lw_g (lw_at lw_m6 1 rfl) rfl
theorem q1332 : (Jvm.Cond.methodLink "TwoTongues" (440 : Nat) ({ cls := "TwoTongues", name := "layRenamed", desc := "()V" } : Jvm.MethodName)) ∈ lw_all := lw_g (lw_at lw_m6 2 rfl) rfl
theorem q1333 : (Jvm.Cond.privateMethod ({ cls := "TwoTongues", name := "layRenamed", desc := "()V" } : Jvm.MethodName)) ∈ lw_tbl := lw_at lw_m6 3 rfl
theorem q1334 : (Jvm.Cond.instanceMethod ({ cls := "TwoTongues", name := "layRenamed", desc := "()V" } : Jvm.MethodName)) ∈ lw_all := lw_g (lw_at lw_m6 4 rfl) rfl
theorem q1335 : (Jvm.Cond.code ({ cls := "TwoTongues", name := "layRenamed", desc := "()V" } : Jvm.MethodName) prog_1_method_59_code (1 : Nat) (Option.none : Option Jvm.ClassFile.FieldType)) ∈ lw_all := lw_g (lw_at lw_m6 5 rfl) rfl
theorem q1336 : (Jvm.Cond.methodLink "TwoTongues" (436 : Nat) ({ cls := "TwoTongues", name := "rename", desc := "(III)V" } : Jvm.MethodName)) ∈ lw_all := lw_g (lw_at lw_m6 6 rfl) rfl
theorem q1337 : (Jvm.Cond.privateMethod ({ cls := "TwoTongues", name := "rename", desc := "(III)V" } : Jvm.MethodName)) ∈ lw_tbl := lw_at lw_m6 7 rfl
theorem q1338 : (Jvm.Cond.instanceMethod ({ cls := "TwoTongues", name := "rename", desc := "(III)V" } : Jvm.MethodName)) ∈ lw_all := lw_g (lw_at lw_m6 8 rfl) rfl
theorem q1339 : (Jvm.Cond.code ({ cls := "TwoTongues", name := "rename", desc := "(III)V" } : Jvm.MethodName) prog_1_method_58_code (5 : Nat) (Option.none : Option Jvm.ClassFile.FieldType)) ∈ lw_all := lw_g (lw_at lw_m6 9 rfl) rfl
theorem q1340 : (Jvm.Cond.methodLink "TwoTongues" (433 : Nat) ({ cls := "TwoTongues", name := "areAgreed", desc := "(I)Z" } : Jvm.MethodName)) ∈ lw_all := lw_g (lw_at lw_m6 10 rfl) rfl
theorem q1341 : (Jvm.Cond.privateMethod ({ cls := "TwoTongues", name := "areAgreed", desc := "(I)Z" } : Jvm.MethodName)) ∈ lw_tbl := lw_at lw_m6 11 rfl
theorem q1342 : (Jvm.Cond.instanceMethod ({ cls := "TwoTongues", name := "areAgreed", desc := "(I)Z" } : Jvm.MethodName)) ∈ lw_all := lw_g (lw_at lw_m6 12 rfl) rfl
theorem q1343 : (Jvm.Cond.code ({ cls := "TwoTongues", name := "areAgreed", desc := "(I)Z" } : Jvm.MethodName) prog_1_method_55_code (3 : Nat) (Option.some Jvm.ClassFile.FieldType.boolean)) ∈ lw_all := lw_g (lw_at lw_m6 13 rfl) rfl
theorem q1345 : (Jvm.Cond.instanceMethod ({ cls := "TwoTongues", name := "renames", desc := "(I)I" } : Jvm.MethodName)) ∈ lw_all := lw_g (lw_at lw_m6 15 rfl) rfl
theorem q1346 : (Jvm.Cond.selects "TwoTongues" ({ cls := "TwoTongues", name := "renames", desc := "(I)I" } : Jvm.MethodName) ({ cls := "TwoTongues", name := "renames", desc := "(I)I" } : Jvm.MethodName)) ∈ lw_all := lw_g (lw_at lw_m6 16 rfl) rfl
theorem q1347 : (Jvm.Cond.code ({ cls := "TwoTongues", name := "renames", desc := "(I)I" } : Jvm.MethodName) prog_1_method_61_code (2 : Nat) (Option.some Jvm.ClassFile.FieldType.int)) ∈ lw_all := lw_g (lw_at lw_m6 17 rfl) rfl
theorem q1349 : (Jvm.Cond.instanceMethod ({ cls := "TwoTongues", name := "fine", desc := "(II)I" } : Jvm.MethodName)) ∈ lw_all := lw_g (lw_at lw_m6 19 rfl) rfl
theorem q1350 : (Jvm.Cond.selects "TwoTongues" ({ cls := "TwoTongues", name := "fine", desc := "(II)I" } : Jvm.MethodName) ({ cls := "TwoTongues", name := "fine", desc := "(II)I" } : Jvm.MethodName)) ∈ lw_all := lw_g (lw_at lw_m6 20 rfl) rfl
theorem q1351 : (Jvm.Cond.code ({ cls := "TwoTongues", name := "fine", desc := "(II)I" } : Jvm.MethodName) prog_1_method_63_code (3 : Nat) (Option.some Jvm.ClassFile.FieldType.int)) ∈ lw_all := lw_g (lw_at lw_m6 21 rfl) rfl
theorem q1352 : (Jvm.Cond.methodLink "TwoTongues" (462 : Nat) ({ cls := "TwoTongues", name := "fineOf", desc := "(II)I" } : Jvm.MethodName)) ∈ lw_all := lw_g (lw_at lw_m6 22 rfl) rfl
theorem q1353 : (Jvm.Cond.privateMethod ({ cls := "TwoTongues", name := "fineOf", desc := "(II)I" } : Jvm.MethodName)) ∈ lw_tbl := lw_at lw_m6 23 rfl
theorem q1354 : (Jvm.Cond.instanceMethod ({ cls := "TwoTongues", name := "fineOf", desc := "(II)I" } : Jvm.MethodName)) ∈ lw_all := lw_g (lw_at lw_m6 24 rfl) rfl
theorem q1355 : (Jvm.Cond.codeWith ({ cls := "TwoTongues", name := "fineOf", desc := "(II)I" } : Jvm.MethodName) prog_1_method_62_code (5 : Nat) (Option.some Jvm.ClassFile.FieldType.int) [((112 : Nat), (137 : Nat), (138 : Nat), (460 : Nat))]) ∈ lw_all := lw_g (lw_at lw_m6 25 rfl) rfl
theorem q1356 : (Jvm.Cond.classLink "TwoTongues" (460 : Nat) "TwoTongues$Trouble") ∈ lw_all := lw_g (lw_at lw_m6 26 rfl) rfl
theorem q1357 : (Jvm.Cond.methodLink "TwoTongues" (208 : Nat) ({ cls := "TwoTongues$Street", name := "iron", desc := "(LTwoTongues$Row;)I" } : Jvm.MethodName)) ∈ lw_all := lw_g (lw_at lw_m6 27 rfl) rfl
theorem q1361 : (Jvm.Cond.methodLink "TwoTongues" (205 : Nat) ({ cls := "TwoTongues$Row", name := "lost", desc := "()I" } : Jvm.MethodName)) ∈ lw_all := lw_g (lw_at lw_m6 31 rfl) rfl
theorem q1365 : (Jvm.Cond.constantLong "TwoTongues" (447 : Nat) (9999 : Int64)) ∈ lw_all := lw_g (lw_at lw_m6 35 rfl) rfl
theorem q1366 : (Jvm.Cond.methodLink "TwoTongues" (449 : Nat) ({ cls := "TwoTongues$Part", name := "of", desc := "([J)J" } : Jvm.MethodName)) ∈ lw_all := lw_g (lw_at lw_m6 36 rfl) rfl
theorem q1382 : (Jvm.Cond.static ({ cls := "TwoTongues", name := "sure", desc := "(J)J" } : Jvm.MethodName)) ∈ lw_all := lw_g (lw_at lw_m6 52 rfl) rfl
theorem q1383 : (Jvm.Cond.code ({ cls := "TwoTongues", name := "sure", desc := "(J)J" } : Jvm.MethodName) prog_1_method_2_code (2 : Nat) (Option.some Jvm.ClassFile.FieldType.long)) ∈ lw_all := lw_g (lw_at lw_m6 53 rfl) rfl
theorem q1384 : (Jvm.Cond.constantLong "TwoTongues" (5 : Nat) (1000000000000 : Int64)) ∈ lw_all := lw_g (lw_at lw_m6 54 rfl) rfl
theorem q1385 : (Jvm.Cond.constantLong "TwoTongues" (7 : Nat) (-1000000000000 : Int64)) ∈ lw_all := lw_g (lw_at lw_m6 55 rfl) rfl
theorem q1386 : (Jvm.Cond.fieldLink "TwoTongues" (9 : Nat) "TwoTongues" "TROUBLE" "LTwoTongues$Trouble;") ∈ lw_all := lw_g (lw_at lw_m6 56 rfl) rfl
theorem q1387 : (Jvm.Cond.laysStatic "TwoTongues" "TROUBLE" "LTwoTongues$Trouble;") ∈ lw_tbl := lw_at lw_m6 57 rfl
theorem q1401 : (Jvm.Cond.methodLink "TwoTongues" (455 : Nat) ({ cls := "java/lang/Math", name := "min", desc := "(JJ)J" } : Jvm.MethodName)) ∈ lw_all := lw_g (lw_at lw_m6 71 rfl) rfl
theorem q1404 : (Jvm.Cond.methodLink "TwoTongues" (458 : Nat) ({ cls := "java/lang/Math", name := "max", desc := "(JJ)J" } : Jvm.MethodName)) ∈ lw_all := lw_g (lw_at lw_m6 74 rfl) rfl
theorem q1408 : (Jvm.Cond.instanceMethod ({ cls := "TwoTongues", name := "bought", desc := "(II)I" } : Jvm.MethodName)) ∈ lw_all := lw_g (lw_at lw_m6 78 rfl) rfl
theorem q1409 : (Jvm.Cond.selects "TwoTongues" ({ cls := "TwoTongues", name := "bought", desc := "(II)I" } : Jvm.MethodName) ({ cls := "TwoTongues", name := "bought", desc := "(II)I" } : Jvm.MethodName)) ∈ lw_all := lw_g (lw_at lw_m6 79 rfl) rfl
theorem q1410 : (Jvm.Cond.code ({ cls := "TwoTongues", name := "bought", desc := "(II)I" } : Jvm.MethodName) prog_1_method_64_code (10 : Nat) (Option.some Jvm.ClassFile.FieldType.int)) ∈ lw_all := lw_g (lw_at lw_m6 80 rfl) rfl
theorem q1411 : (Jvm.Cond.constantLong "TwoTongues" (465 : Nat) (2 : Int64)) ∈ lw_all := lw_g (lw_at lw_m6 81 rfl) rfl
theorem q1413 : (Jvm.Cond.instanceMethod ({ cls := "TwoTongues", name := "undo", desc := "()I" } : Jvm.MethodName)) ∈ lw_all := lw_g (lw_at lw_m6 83 rfl) rfl
theorem q1414 : (Jvm.Cond.selects "TwoTongues" ({ cls := "TwoTongues", name := "undo", desc := "()I" } : Jvm.MethodName) ({ cls := "TwoTongues", name := "undo", desc := "()I" } : Jvm.MethodName)) ∈ lw_all := lw_g (lw_at lw_m6 84 rfl) rfl
theorem q1415 : (Jvm.Cond.code ({ cls := "TwoTongues", name := "undo", desc := "()I" } : Jvm.MethodName) prog_1_method_65_code (1 : Nat) (Option.some Jvm.ClassFile.FieldType.int)) ∈ lw_all := lw_g (lw_at lw_m6 85 rfl) rfl
theorem q1417 : (Jvm.Cond.instanceMethod ({ cls := "TwoTongues", name := "keep", desc := "()I" } : Jvm.MethodName)) ∈ lw_all := lw_g (lw_at lw_m6 87 rfl) rfl
theorem q1418 : (Jvm.Cond.selects "TwoTongues" ({ cls := "TwoTongues", name := "keep", desc := "()I" } : Jvm.MethodName) ({ cls := "TwoTongues", name := "keep", desc := "()I" } : Jvm.MethodName)) ∈ lw_all := lw_g (lw_at lw_m6 88 rfl) rfl
theorem q1419 : (Jvm.Cond.code ({ cls := "TwoTongues", name := "keep", desc := "()I" } : Jvm.MethodName) prog_1_method_66_code (1 : Nat) (Option.some Jvm.ClassFile.FieldType.int)) ∈ lw_all := lw_g (lw_at lw_m6 89 rfl) rfl
theorem q1421 : (Jvm.Cond.instanceMethod ({ cls := "TwoTongues", name := "back", desc := "()I" } : Jvm.MethodName)) ∈ lw_all := lw_g (lw_at lw_m6 91 rfl) rfl
theorem q1422 : (Jvm.Cond.selects "TwoTongues" ({ cls := "TwoTongues", name := "back", desc := "()I" } : Jvm.MethodName) ({ cls := "TwoTongues", name := "back", desc := "()I" } : Jvm.MethodName)) ∈ lw_all := lw_g (lw_at lw_m6 92 rfl) rfl
theorem q1423 : (Jvm.Cond.code ({ cls := "TwoTongues", name := "back", desc := "()I" } : Jvm.MethodName) prog_1_method_67_code (1 : Nat) (Option.some Jvm.ClassFile.FieldType.int)) ∈ lw_all := lw_g (lw_at lw_m6 93 rfl) rfl
theorem q1425 : (Jvm.Cond.instanceMethod ({ cls := "TwoTongues", name := "count", desc := "(I)I" } : Jvm.MethodName)) ∈ lw_all := lw_g (lw_at lw_m6 95 rfl) rfl
theorem q1426 : (Jvm.Cond.selects "TwoTongues" ({ cls := "TwoTongues", name := "count", desc := "(I)I" } : Jvm.MethodName) ({ cls := "TwoTongues", name := "count", desc := "(I)I" } : Jvm.MethodName)) ∈ lw_all := lw_g (lw_at lw_m6 96 rfl) rfl
theorem q1427 : (Jvm.Cond.code ({ cls := "TwoTongues", name := "count", desc := "(I)I" } : Jvm.MethodName) prog_1_method_68_code (4 : Nat) (Option.some Jvm.ClassFile.FieldType.int)) ∈ lw_all := lw_g (lw_at lw_m6 97 rfl) rfl
theorem q1467 : (Jvm.Cond.instanceMethod ({ cls := "TwoTongues", name := "look", desc := "(II)I" } : Jvm.MethodName)) ∈ lw_all := lw_g (lw_at lw_m6 137 rfl) rfl
theorem q1468 : (Jvm.Cond.selects "TwoTongues" ({ cls := "TwoTongues", name := "look", desc := "(II)I" } : Jvm.MethodName) ({ cls := "TwoTongues", name := "look", desc := "(II)I" } : Jvm.MethodName)) ∈ lw_all := lw_g (lw_at lw_m6 138 rfl) rfl
theorem q1469 : (Jvm.Cond.code ({ cls := "TwoTongues", name := "look", desc := "(II)I" } : Jvm.MethodName) prog_1_method_14_code (3 : Nat) (Option.some Jvm.ClassFile.FieldType.int)) ∈ lw_all := lw_g (lw_at lw_m6 139 rfl) rfl
theorem q1470 : (Jvm.Cond.classLink "TwoTongues" (202 : Nat) "java/lang/IndexOutOfBoundsException") ∈ lw_all := lw_g (lw_at lw_m6 140 rfl) rfl
theorem q1479 : (Jvm.Cond.methodLink "TwoTongues" (204 : Nat) ({ cls := "java/lang/IndexOutOfBoundsException", name := "<init>", desc := "()V" } : Jvm.MethodName)) ∈ lw_all := lw_g (lw_at lw_m6 149 rfl) rfl
theorem q1491 : (Jvm.Cond.classLink "TwoTongues" (212 : Nat) "java/util/NoSuchElementException") ∈ lw_all := lw_g (lw_at lw_m6 161 rfl) rfl
theorem q1500 : (Jvm.Cond.methodLink "TwoTongues" (214 : Nat) ({ cls := "java/util/NoSuchElementException", name := "<init>", desc := "()V" } : Jvm.MethodName)) ∈ lw_all := lw_g (lw_at lw_m6 170 rfl) rfl
theorem q2269 : (Jvm.Cond.castable "TwoTongues" "java/lang/Object") ∈ lw_tbl := lw_at lw_m9 219 rfl
theorem q2309 : (Jvm.Cond.stringRef "TwoTongues" (476 : Nat) "east") ∈ lw_tbl := lw_at lw_m10 19 rfl
theorem q2310 : (Jvm.Cond.stringRef "TwoTongues" (478 : Nat) "west") ∈ lw_tbl := lw_at lw_m10 20 rfl
theorem q2311 : (Jvm.Cond.stringRef "TwoTongues" (480 : Nat) "sign") ∈ lw_tbl := lw_at lw_m10 21 rfl
theorem q2312 : (Jvm.Cond.stringRef "TwoTongues" (482 : Nat) "corner") ∈ lw_tbl := lw_at lw_m10 22 rfl
theorem q2313 : (Jvm.Cond.stringRef "TwoTongues" (484 : Nat) "weigh") ∈ lw_tbl := lw_at lw_m10 23 rfl
theorem q2314 : (Jvm.Cond.stringRef "TwoTongues" (485 : Nat) "feast") ∈ lw_tbl := lw_at lw_m10 24 rfl
theorem q2315 : (Jvm.Cond.stringRef "TwoTongues" (487 : Nat) "may") ∈ lw_tbl := lw_at lw_m10 25 rfl
theorem q2316 : (Jvm.Cond.stringRef "TwoTongues" (489 : Nat) "purse") ∈ lw_tbl := lw_at lw_m10 26 rfl
theorem q2317 : (Jvm.Cond.stringRef "TwoTongues" (490 : Nat) "seed") ∈ lw_tbl := lw_at lw_m10 27 rfl
theorem q2318 : (Jvm.Cond.stringRef "TwoTongues" (491 : Nat) "law") ∈ lw_tbl := lw_at lw_m10 28 rfl
theorem q2319 : (Jvm.Cond.stringRef "TwoTongues" (492 : Nat) "plain") ∈ lw_tbl := lw_at lw_m10 29 rfl
theorem q2320 : (Jvm.Cond.stringRef "TwoTongues" (494 : Nat) "mirror") ∈ lw_tbl := lw_at lw_m10 30 rfl
theorem q2321 : (Jvm.Cond.stringRef "TwoTongues" (496 : Nat) "royal") ∈ lw_tbl := lw_at lw_m10 31 rfl
theorem q2322 : (Jvm.Cond.stringRef "TwoTongues" (498 : Nat) "blind") ∈ lw_tbl := lw_at lw_m10 32 rfl
theorem q2323 : (Jvm.Cond.stringRef "TwoTongues" (500 : Nat) "fine") ∈ lw_tbl := lw_at lw_m10 33 rfl
theorem q2324 : (Jvm.Cond.stringRef "TwoTongues" (502 : Nat) "or") ∈ lw_tbl := lw_at lw_m10 34 rfl
theorem q2325 : (Jvm.Cond.stringRef "TwoTongues" (504 : Nat) "and") ∈ lw_tbl := lw_at lw_m10 35 rfl
theorem q2326 : (Jvm.Cond.stringRef "TwoTongues" (506 : Nat) "not") ∈ lw_tbl := lw_at lw_m10 36 rfl
theorem q2327 : (Jvm.Cond.stringRef "TwoTongues" (508 : Nat) "letters") ∈ lw_tbl := lw_at lw_m10 37 rfl
theorem q2328 : (Jvm.Cond.stringRef "TwoTongues" (509 : Nat) "iron") ∈ lw_tbl := lw_at lw_m10 38 rfl
theorem q2329 : (Jvm.Cond.stringRef "TwoTongues" (510 : Nat) "first") ∈ lw_tbl := lw_at lw_m10 39 rfl
theorem q2330 : (Jvm.Cond.stringRef "TwoTongues" (512 : Nat) "second") ∈ lw_tbl := lw_at lw_m10 40 rfl
theorem q2331 : (Jvm.Cond.stringRef "TwoTongues" (514 : Nat) "lost") ∈ lw_tbl := lw_at lw_m10 41 rfl
theorem q2332 : (Jvm.Cond.stringRef "TwoTongues" (515 : Nat) "day") ∈ lw_tbl := lw_at lw_m10 42 rfl
theorem q143 : (Jvm.Cond.initialized "TwoTongues$State") ∈ lw_all := lw_g (lw_at lw_m1 13 rfl) rfl
theorem q271 : (Jvm.Cond.fieldLinkNest "TwoTongues$State" (33 : Nat) "TwoTongues$Street" "east" "LTwoTongues$Store;" "TwoTongues") ∈ lw_tbl := lw_at lw_m1 141 rfl
theorem q274 : (Jvm.Cond.fieldLinkNest "TwoTongues$State" (43 : Nat) "TwoTongues$Street" "west" "LTwoTongues$Store;" "TwoTongues") ∈ lw_tbl := lw_at lw_m1 144 rfl
theorem q277 : (Jvm.Cond.fieldLinkNest "TwoTongues$State" (46 : Nat) "TwoTongues$Street" "signs" "Ljava/util/ArrayList;" "TwoTongues") ∈ lw_tbl := lw_at lw_m1 147 rfl
theorem q308 : (Jvm.Cond.fieldLinkNest "TwoTongues$State" (73 : Nat) "TwoTongues$Street" "purse" "I" "TwoTongues") ∈ lw_tbl := lw_at lw_m1 178 rfl
theorem q387 : (Jvm.Cond.instantiable "TwoTongues$State" (5 : Nat)) ∈ lw_all := lw_g (lw_at lw_m2 17 rfl) rfl
theorem q389 : (Jvm.Cond.instanceMethod ({ cls := "TwoTongues$State", name := "<init>", desc := "(LTwoTongues;)V" } : Jvm.MethodName)) ∈ lw_all := lw_g (lw_at lw_m2 19 rfl) rfl
theorem q390 : (Jvm.Cond.code ({ cls := "TwoTongues$State", name := "<init>", desc := "(LTwoTongues;)V" } : Jvm.MethodName) prog_16_method_1_code (2 : Nat) (Option.none : Option Jvm.ClassFile.FieldType)) ∈ lw_all := lw_g (lw_at lw_m2 20 rfl) rfl
theorem q391 : (Jvm.Cond.methodLink "TwoTongues$State" (9 : Nat) ({ cls := "java/lang/Object", name := "<init>", desc := "()V" } : Jvm.MethodName)) ∈ lw_all := lw_g (lw_at lw_m2 21 rfl) rfl
theorem q392 : (Jvm.Cond.classLink "TwoTongues$State" (15 : Nat) "TwoTongues$Store") ∈ lw_all := lw_g (lw_at lw_m2 22 rfl) rfl
theorem q394 : (Jvm.Cond.methodLinkNest "TwoTongues$State" (17 : Nat) ({ cls := "TwoTongues$Store", name := "<init>", desc := "()V" } : Jvm.MethodName) "TwoTongues") ∈ lw_tbl := lw_at lw_m2 24 rfl
theorem q395 : (Jvm.Cond.classLink "TwoTongues$State" (22 : Nat) "TwoTongues$Row") ∈ lw_all := lw_g (lw_at lw_m2 25 rfl) rfl
theorem q398 : (Jvm.Cond.methodLinkNest "TwoTongues$State" (24 : Nat) ({ cls := "TwoTongues$Row", name := "<init>", desc := "()V" } : Jvm.MethodName) "TwoTongues") ∈ lw_tbl := lw_at lw_m2 28 rfl
theorem q415 : (Jvm.Cond.fieldLink "TwoTongues$State" (18 : Nat) "TwoTongues$State" "stores" "[LTwoTongues$Store;") ∈ lw_all := lw_g (lw_at lw_m2 45 rfl) rfl
theorem q417 : (Jvm.Cond.fieldLink "TwoTongues$State" (25 : Nat) "TwoTongues$State" "rows" "[LTwoTongues$Row;") ∈ lw_all := lw_g (lw_at lw_m2 47 rfl) rfl
theorem q419 : (Jvm.Cond.fieldLink "TwoTongues$State" (69 : Nat) "TwoTongues$State" "day" "I") ∈ lw_all := lw_g (lw_at lw_m2 49 rfl) rfl
theorem q421 : (Jvm.Cond.fieldLink "TwoTongues$State" (76 : Nat) "TwoTongues$State" "purse" "I") ∈ lw_all := lw_g (lw_at lw_m2 51 rfl) rfl
theorem q423 : (Jvm.Cond.fieldLink "TwoTongues$State" (3 : Nat) "TwoTongues$State" "this$0" "LTwoTongues;") ∈ lw_all := lw_g (lw_at lw_m2 53 rfl) rfl
theorem q424 : (Jvm.Cond.laysFinal "TwoTongues$State" "TwoTongues$State" "stores" "[LTwoTongues$Store;") ∈ lw_all := lw_g (lw_at lw_m2 54 rfl) rfl
theorem q425 : (Jvm.Cond.soleField "TwoTongues$State" "stores") ∈ lw_all := lw_g (lw_at lw_m2 55 rfl) rfl
theorem q426 : (Jvm.Cond.laysFinal "TwoTongues$State" "TwoTongues$State" "rows" "[LTwoTongues$Row;") ∈ lw_all := lw_g (lw_at lw_m2 56 rfl) rfl
theorem q427 : (Jvm.Cond.soleField "TwoTongues$State" "rows") ∈ lw_all := lw_g (lw_at lw_m2 57 rfl) rfl
theorem q428 : (Jvm.Cond.lays "TwoTongues$State" "TwoTongues$State" "day" "I") ∈ lw_all := lw_g (lw_at lw_m2 58 rfl) rfl
theorem q429 : (Jvm.Cond.soleField "TwoTongues$State" "day") ∈ lw_all := lw_g (lw_at lw_m2 59 rfl) rfl
theorem q430 : (Jvm.Cond.lays "TwoTongues$State" "TwoTongues$State" "purse" "I") ∈ lw_all := lw_g (lw_at lw_m2 60 rfl) rfl
theorem q431 : (Jvm.Cond.soleField "TwoTongues$State" "purse") ∈ lw_all := lw_g (lw_at lw_m2 61 rfl) rfl
theorem q432 : (Jvm.Cond.laysFinal "TwoTongues$State" "TwoTongues$State" "this$0" "LTwoTongues;") ∈ lw_all := lw_g (lw_at lw_m2 62 rfl) rfl
theorem q433 : (Jvm.Cond.soleField "TwoTongues$State" "this$0") ∈ lw_all := lw_g (lw_at lw_m2 63 rfl) rfl
theorem q434 : (Jvm.Cond.superclass "TwoTongues$State" "java/lang/Object") ∈ lw_all := lw_g (lw_at lw_m2 64 rfl) rfl
theorem q458 : (Jvm.Cond.instanceMethod ({ cls := "TwoTongues$State", name := "begin", desc := "()V" } : Jvm.MethodName)) ∈ lw_all := lw_g (lw_at lw_m2 88 rfl) rfl
theorem q459 : (Jvm.Cond.selects "TwoTongues$State" ({ cls := "TwoTongues$State", name := "begin", desc := "()V" } : Jvm.MethodName) ({ cls := "TwoTongues$State", name := "begin", desc := "()V" } : Jvm.MethodName)) ∈ lw_all := lw_g (lw_at lw_m2 89 rfl) rfl
theorem q460 : (Jvm.Cond.code ({ cls := "TwoTongues$State", name := "begin", desc := "()V" } : Jvm.MethodName) prog_16_method_2_code (2 : Nat) (Option.none : Option Jvm.ClassFile.FieldType)) ∈ lw_all := lw_g (lw_at lw_m2 90 rfl) rfl
theorem q461 : (Jvm.Cond.methodLink "TwoTongues$State" (39 : Nat) ({ cls := "TwoTongues$Store", name := "become", desc := "(LTwoTongues$Store;)V" } : Jvm.MethodName)) ∈ lw_all := lw_g (lw_at lw_m2 91 rfl) rfl
theorem q465 : (Jvm.Cond.methodLink "TwoTongues$State" (50 : Nat) ({ cls := "java/util/ArrayList", name := "size", desc := "()I" } : Jvm.MethodName)) ∈ lw_all := lw_g (lw_at lw_m2 95 rfl) rfl
theorem q469 : (Jvm.Cond.methodLink "TwoTongues$State" (56 : Nat) ({ cls := "java/util/ArrayList", name := "get", desc := "(I)Ljava/lang/Object;" } : Jvm.MethodName)) ∈ lw_all := lw_g (lw_at lw_m2 99 rfl) rfl
theorem q483 : (Jvm.Cond.classLink "TwoTongues$State" (60 : Nat) "TwoTongues$Sign") ∈ lw_all := lw_g (lw_at lw_m2 113 rfl) rfl
theorem q484 : (Jvm.Cond.methodLink "TwoTongues$State" (66 : Nat) ({ cls := "TwoTongues$Row", name := "become", desc := "(LTwoTongues$Row;)V" } : Jvm.MethodName)) ∈ lw_all := lw_g (lw_at lw_m2 114 rfl) rfl
theorem q497 : (Jvm.Cond.fieldLinkNest "TwoTongues$State" (29 : Nat) "TwoTongues" "street" "LTwoTongues$Street;" "TwoTongues") ∈ lw_tbl := lw_at lw_m2 127 rfl
theorem q861 : (Jvm.Cond.fieldLinkNest "TwoTongues$State" (62 : Nat) "TwoTongues$Sign" "row" "LTwoTongues$Row;" "TwoTongues") ∈ lw_tbl := lw_at lw_m4 11 rfl
theorem q919 : (Jvm.Cond.selects "TwoTongues$State" ({ cls := "java/lang/Object", name := "getClass", desc := "()Ljava/lang/Class;" } : Jvm.MethodName) ({ cls := "java/lang/Object", name := "getClass", desc := "()Ljava/lang/Class;" } : Jvm.MethodName)) ∈ lw_all := lw_g (lw_at lw_m4 69 rfl) rfl
theorem q1172 : (Jvm.Cond.instanceMethod ({ cls := "TwoTongues$State", name := "become", desc := "(LTwoTongues$State;)V" } : Jvm.MethodName)) ∈ lw_all := lw_g (lw_at lw_m5 82 rfl) rfl
theorem q1173 : (Jvm.Cond.selects "TwoTongues$State" ({ cls := "TwoTongues$State", name := "become", desc := "(LTwoTongues$State;)V" } : Jvm.MethodName) ({ cls := "TwoTongues$State", name := "become", desc := "(LTwoTongues$State;)V" } : Jvm.MethodName)) ∈ lw_all := lw_g (lw_at lw_m5 83 rfl) rfl
theorem q1174 : (Jvm.Cond.code ({ cls := "TwoTongues$State", name := "become", desc := "(LTwoTongues$State;)V" } : Jvm.MethodName) prog_16_method_3_code (3 : Nat) (Option.none : Option Jvm.ClassFile.FieldType)) ∈ lw_all := lw_g (lw_at lw_m5 84 rfl) rfl
theorem q2266 : (Jvm.Cond.castable "TwoTongues$State" "java/lang/Object") ∈ lw_tbl := lw_at lw_m9 216 rfl
theorem q144 : (Jvm.Cond.initialized "TwoTongues$Row") ∈ lw_all := lw_g (lw_at lw_m1 14 rfl) rfl
theorem q397 : (Jvm.Cond.instantiable "TwoTongues$Row" (2 : Nat)) ∈ lw_all := lw_g (lw_at lw_m2 27 rfl) rfl
theorem q399 : (Jvm.Cond.instanceMethod ({ cls := "TwoTongues$Row", name := "<init>", desc := "()V" } : Jvm.MethodName)) ∈ lw_all := lw_g (lw_at lw_m2 29 rfl) rfl
theorem q400 : (Jvm.Cond.code ({ cls := "TwoTongues$Row", name := "<init>", desc := "()V" } : Jvm.MethodName) prog_13_method_1_code (1 : Nat) (Option.none : Option Jvm.ClassFile.FieldType)) ∈ lw_all := lw_g (lw_at lw_m2 30 rfl) rfl
theorem q401 : (Jvm.Cond.methodLink "TwoTongues$Row" (3 : Nat) ({ cls := "java/lang/Object", name := "<init>", desc := "()V" } : Jvm.MethodName)) ∈ lw_all := lw_g (lw_at lw_m2 31 rfl) rfl
theorem q402 : (Jvm.Cond.fieldLink "TwoTongues$Row" (9 : Nat) "TwoTongues$Row" "letters" "[I") ∈ lw_all := lw_g (lw_at lw_m2 32 rfl) rfl
theorem q406 : (Jvm.Cond.fieldLink "TwoTongues$Row" (15 : Nat) "TwoTongues$Row" "many" "I") ∈ lw_all := lw_g (lw_at lw_m2 36 rfl) rfl
theorem q410 : (Jvm.Cond.laysFinal "TwoTongues$Row" "TwoTongues$Row" "letters" "[I") ∈ lw_all := lw_g (lw_at lw_m2 40 rfl) rfl
theorem q411 : (Jvm.Cond.soleField "TwoTongues$Row" "letters") ∈ lw_all := lw_g (lw_at lw_m2 41 rfl) rfl
theorem q412 : (Jvm.Cond.lays "TwoTongues$Row" "TwoTongues$Row" "many" "I") ∈ lw_all := lw_g (lw_at lw_m2 42 rfl) rfl
theorem q413 : (Jvm.Cond.soleField "TwoTongues$Row" "many") ∈ lw_all := lw_g (lw_at lw_m2 43 rfl) rfl
theorem q414 : (Jvm.Cond.superclass "TwoTongues$Row" "java/lang/Object") ∈ lw_all := lw_g (lw_at lw_m2 44 rfl) rfl
theorem q485 : (Jvm.Cond.instanceMethod ({ cls := "TwoTongues$Row", name := "become", desc := "(LTwoTongues$Row;)V" } : Jvm.MethodName)) ∈ lw_all := lw_g (lw_at lw_m2 115 rfl) rfl
theorem q486 : (Jvm.Cond.selects "TwoTongues$Row" ({ cls := "TwoTongues$Row", name := "become", desc := "(LTwoTongues$Row;)V" } : Jvm.MethodName) ({ cls := "TwoTongues$Row", name := "become", desc := "(LTwoTongues$Row;)V" } : Jvm.MethodName)) ∈ lw_all := lw_g (lw_at lw_m2 116 rfl) rfl
theorem q487 : (Jvm.Cond.code ({ cls := "TwoTongues$Row", name := "become", desc := "(LTwoTongues$Row;)V" } : Jvm.MethodName) prog_13_method_2_code (3 : Nat) (Option.none : Option Jvm.ClassFile.FieldType)) ∈ lw_all := lw_g (lw_at lw_m2 117 rfl) rfl
theorem q916 : (Jvm.Cond.selects "TwoTongues$Row" ({ cls := "java/lang/Object", name := "getClass", desc := "()Ljava/lang/Class;" } : Jvm.MethodName) ({ cls := "java/lang/Object", name := "getClass", desc := "()Ljava/lang/Class;" } : Jvm.MethodName)) ∈ lw_all := lw_g (lw_at lw_m4 66 rfl) rfl
theorem q1253 : (Jvm.Cond.instanceMethod ({ cls := "TwoTongues$Row", name := "code", desc := "()J" } : Jvm.MethodName)) ∈ lw_all := lw_g (lw_at lw_m5 163 rfl) rfl
theorem q1254 : (Jvm.Cond.selects "TwoTongues$Row" ({ cls := "TwoTongues$Row", name := "code", desc := "()J" } : Jvm.MethodName) ({ cls := "TwoTongues$Row", name := "code", desc := "()J" } : Jvm.MethodName)) ∈ lw_all := lw_g (lw_at lw_m5 164 rfl) rfl
theorem q1255 : (Jvm.Cond.code ({ cls := "TwoTongues$Row", name := "code", desc := "()J" } : Jvm.MethodName) prog_13_method_4_code (4 : Nat) (Option.some Jvm.ClassFile.FieldType.long)) ∈ lw_all := lw_g (lw_at lw_m5 165 rfl) rfl
theorem q1362 : (Jvm.Cond.instanceMethod ({ cls := "TwoTongues$Row", name := "lost", desc := "()I" } : Jvm.MethodName)) ∈ lw_all := lw_g (lw_at lw_m6 32 rfl) rfl
theorem q1363 : (Jvm.Cond.selects "TwoTongues$Row" ({ cls := "TwoTongues$Row", name := "lost", desc := "()I" } : Jvm.MethodName) ({ cls := "TwoTongues$Row", name := "lost", desc := "()I" } : Jvm.MethodName)) ∈ lw_all := lw_g (lw_at lw_m6 33 rfl) rfl
theorem q1364 : (Jvm.Cond.code ({ cls := "TwoTongues$Row", name := "lost", desc := "()I" } : Jvm.MethodName) prog_13_method_3_code (3 : Nat) (Option.some Jvm.ClassFile.FieldType.int)) ∈ lw_all := lw_g (lw_at lw_m6 34 rfl) rfl
theorem q2265 : (Jvm.Cond.castable "TwoTongues$Row" "java/lang/Object") ∈ lw_tbl := lw_at lw_m9 215 rfl
theorem q145 : (Jvm.Cond.initialized "TwoTongues$Net") ∈ lw_all := lw_g (lw_at lw_m1 15 rfl) rfl
theorem q231 : (Jvm.Cond.fieldLinkNest "TwoTongues$Net" (33 : Nat) "TwoTongues$Store" "many" "I" "TwoTongues") ∈ lw_tbl := lw_at lw_m1 101 rfl
theorem q438 : (Jvm.Cond.instantiable "TwoTongues$Net" (3 : Nat)) ∈ lw_all := lw_g (lw_at lw_m2 68 rfl) rfl
theorem q440 : (Jvm.Cond.instanceMethod ({ cls := "TwoTongues$Net", name := "<init>", desc := "(LTwoTongues;)V" } : Jvm.MethodName)) ∈ lw_all := lw_g (lw_at lw_m2 70 rfl) rfl
theorem q441 : (Jvm.Cond.code ({ cls := "TwoTongues$Net", name := "<init>", desc := "(LTwoTongues;)V" } : Jvm.MethodName) prog_7_method_1_code (2 : Nat) (Option.none : Option Jvm.ClassFile.FieldType)) ∈ lw_all := lw_g (lw_at lw_m2 71 rfl) rfl
theorem q442 : (Jvm.Cond.methodLink "TwoTongues$Net" (9 : Nat) ({ cls := "java/lang/Object", name := "<init>", desc := "()V" } : Jvm.MethodName)) ∈ lw_all := lw_g (lw_at lw_m2 72 rfl) rfl
theorem q443 : (Jvm.Cond.fieldLink "TwoTongues$Net" (15 : Nat) "TwoTongues$Net" "store" "LTwoTongues$Store;") ∈ lw_all := lw_g (lw_at lw_m2 73 rfl) rfl
theorem q444 : (Jvm.Cond.fieldLink "TwoTongues$Net" (19 : Nat) "TwoTongues$Net" "isTurned" "Z") ∈ lw_all := lw_g (lw_at lw_m2 74 rfl) rfl
theorem q445 : (Jvm.Cond.fieldLink "TwoTongues$Net" (3 : Nat) "TwoTongues$Net" "this$0" "LTwoTongues;") ∈ lw_all := lw_g (lw_at lw_m2 75 rfl) rfl
theorem q446 : (Jvm.Cond.lays "TwoTongues$Net" "TwoTongues$Net" "store" "LTwoTongues$Store;") ∈ lw_all := lw_g (lw_at lw_m2 76 rfl) rfl
theorem q447 : (Jvm.Cond.soleField "TwoTongues$Net" "store") ∈ lw_all := lw_g (lw_at lw_m2 77 rfl) rfl
theorem q448 : (Jvm.Cond.lays "TwoTongues$Net" "TwoTongues$Net" "isTurned" "Z") ∈ lw_all := lw_g (lw_at lw_m2 78 rfl) rfl
theorem q449 : (Jvm.Cond.soleField "TwoTongues$Net" "isTurned") ∈ lw_all := lw_g (lw_at lw_m2 79 rfl) rfl
theorem q450 : (Jvm.Cond.laysFinal "TwoTongues$Net" "TwoTongues$Net" "this$0" "LTwoTongues;") ∈ lw_all := lw_g (lw_at lw_m2 80 rfl) rfl
theorem q451 : (Jvm.Cond.soleField "TwoTongues$Net" "this$0") ∈ lw_all := lw_g (lw_at lw_m2 81 rfl) rfl
theorem q452 : (Jvm.Cond.superclass "TwoTongues$Net" "java/lang/Object") ∈ lw_all := lw_g (lw_at lw_m2 82 rfl) rfl
theorem q911 : (Jvm.Cond.selects "TwoTongues$Net" ({ cls := "java/lang/Object", name := "getClass", desc := "()Ljava/lang/Class;" } : Jvm.MethodName) ({ cls := "java/lang/Object", name := "getClass", desc := "()Ljava/lang/Class;" } : Jvm.MethodName)) ∈ lw_all := lw_g (lw_at lw_m4 61 rfl) rfl
theorem q1208 : (Jvm.Cond.instanceMethod ({ cls := "TwoTongues$Net", name := "lay", desc := "(LTwoTongues$Store;Z)V" } : Jvm.MethodName)) ∈ lw_all := lw_g (lw_at lw_m5 118 rfl) rfl
theorem q1209 : (Jvm.Cond.selects "TwoTongues$Net" ({ cls := "TwoTongues$Net", name := "lay", desc := "(LTwoTongues$Store;Z)V" } : Jvm.MethodName) ({ cls := "TwoTongues$Net", name := "lay", desc := "(LTwoTongues$Store;Z)V" } : Jvm.MethodName)) ∈ lw_all := lw_g (lw_at lw_m5 119 rfl) rfl
theorem q1210 : (Jvm.Cond.code ({ cls := "TwoTongues$Net", name := "lay", desc := "(LTwoTongues$Store;Z)V" } : Jvm.MethodName) prog_7_method_2_code (3 : Nat) (Option.none : Option Jvm.ClassFile.FieldType)) ∈ lw_all := lw_g (lw_at lw_m5 120 rfl) rfl
theorem q1221 : (Jvm.Cond.instanceMethod ({ cls := "TwoTongues$Net", name := "only", desc := "(I)I" } : Jvm.MethodName)) ∈ lw_all := lw_g (lw_at lw_m5 131 rfl) rfl
theorem q1222 : (Jvm.Cond.selects "TwoTongues$Net" ({ cls := "TwoTongues$Net", name := "only", desc := "(I)I" } : Jvm.MethodName) ({ cls := "TwoTongues$Net", name := "only", desc := "(I)I" } : Jvm.MethodName)) ∈ lw_all := lw_g (lw_at lw_m5 132 rfl) rfl
theorem q1223 : (Jvm.Cond.code ({ cls := "TwoTongues$Net", name := "only", desc := "(I)I" } : Jvm.MethodName) prog_7_method_7_code (4 : Nat) (Option.some Jvm.ClassFile.FieldType.int)) ∈ lw_all := lw_g (lw_at lw_m5 133 rfl) rfl
theorem q1224 : (Jvm.Cond.methodLink "TwoTongues$Net" (23 : Nat) ({ cls := "TwoTongues$Store", name := "length", desc := "(I)I" } : Jvm.MethodName)) ∈ lw_all := lw_g (lw_at lw_m5 134 rfl) rfl
theorem q1225 : (Jvm.Cond.methodLink "TwoTongues$Net" (37 : Nat) ({ cls := "TwoTongues$Net", name := "letter", desc := "(II)I" } : Jvm.MethodName)) ∈ lw_all := lw_g (lw_at lw_m5 135 rfl) rfl
theorem q1226 : (Jvm.Cond.privateMethod ({ cls := "TwoTongues$Net", name := "letter", desc := "(II)I" } : Jvm.MethodName)) ∈ lw_tbl := lw_at lw_m5 136 rfl
theorem q1227 : (Jvm.Cond.instanceMethod ({ cls := "TwoTongues$Net", name := "letter", desc := "(II)I" } : Jvm.MethodName)) ∈ lw_all := lw_g (lw_at lw_m5 137 rfl) rfl
theorem q1228 : (Jvm.Cond.code ({ cls := "TwoTongues$Net", name := "letter", desc := "(II)I" } : Jvm.MethodName) prog_7_method_3_code (3 : Nat) (Option.some Jvm.ClassFile.FieldType.int)) ∈ lw_all := lw_g (lw_at lw_m5 138 rfl) rfl
theorem q1229 : (Jvm.Cond.methodLink "TwoTongues$Net" (29 : Nat) ({ cls := "TwoTongues$Store", name := "letter", desc := "(II)I" } : Jvm.MethodName)) ∈ lw_all := lw_g (lw_at lw_m5 139 rfl) rfl
theorem q1231 : (Jvm.Cond.instanceMethod ({ cls := "TwoTongues$Net", name := "goes", desc := "(III)I" } : Jvm.MethodName)) ∈ lw_all := lw_g (lw_at lw_m5 141 rfl) rfl
theorem q1232 : (Jvm.Cond.selects "TwoTongues$Net" ({ cls := "TwoTongues$Net", name := "goes", desc := "(III)I" } : Jvm.MethodName) ({ cls := "TwoTongues$Net", name := "goes", desc := "(III)I" } : Jvm.MethodName)) ∈ lw_all := lw_g (lw_at lw_m5 142 rfl) rfl
theorem q1233 : (Jvm.Cond.code ({ cls := "TwoTongues$Net", name := "goes", desc := "(III)I" } : Jvm.MethodName) prog_7_method_5_code (5 : Nat) (Option.some Jvm.ClassFile.FieldType.int)) ∈ lw_all := lw_g (lw_at lw_m5 143 rfl) rfl
theorem q1234 : (Jvm.Cond.methodLink "TwoTongues$Net" (38 : Nat) ({ cls := "TwoTongues$Net", name := "placeOf", desc := "(II)I" } : Jvm.MethodName)) ∈ lw_all := lw_g (lw_at lw_m5 144 rfl) rfl
theorem q1235 : (Jvm.Cond.privateMethod ({ cls := "TwoTongues$Net", name := "placeOf", desc := "(II)I" } : Jvm.MethodName)) ∈ lw_tbl := lw_at lw_m5 145 rfl
theorem q1236 : (Jvm.Cond.instanceMethod ({ cls := "TwoTongues$Net", name := "placeOf", desc := "(II)I" } : Jvm.MethodName)) ∈ lw_all := lw_g (lw_at lw_m5 146 rfl) rfl
theorem q1237 : (Jvm.Cond.code ({ cls := "TwoTongues$Net", name := "placeOf", desc := "(II)I" } : Jvm.MethodName) prog_7_method_4_code (3 : Nat) (Option.some Jvm.ClassFile.FieldType.int)) ∈ lw_all := lw_g (lw_at lw_m5 147 rfl) rfl
theorem q1257 : (Jvm.Cond.instanceMethod ({ cls := "TwoTongues$Net", name := "goes", desc := "(JI)J" } : Jvm.MethodName)) ∈ lw_all := lw_g (lw_at lw_m5 167 rfl) rfl
theorem q1258 : (Jvm.Cond.selects "TwoTongues$Net" ({ cls := "TwoTongues$Net", name := "goes", desc := "(JI)J" } : Jvm.MethodName) ({ cls := "TwoTongues$Net", name := "goes", desc := "(JI)J" } : Jvm.MethodName)) ∈ lw_all := lw_g (lw_at lw_m5 168 rfl) rfl
theorem q1259 : (Jvm.Cond.code ({ cls := "TwoTongues$Net", name := "goes", desc := "(JI)J" } : Jvm.MethodName) prog_7_method_6_code (9 : Nat) (Option.some Jvm.ClassFile.FieldType.long)) ∈ lw_all := lw_g (lw_at lw_m5 169 rfl) rfl
theorem q2267 : (Jvm.Cond.castable "TwoTongues$Net" "java/lang/Object") ∈ lw_tbl := lw_at lw_m9 217 rfl
theorem q148 : (Jvm.Cond.initialized "TwoTonguesModel") ∈ lw_all := lw_g (lw_at lw_m1 18 rfl) rfl
theorem q924 : (Jvm.Cond.selects "TwoTonguesModel" ({ cls := "java/lang/Object", name := "getClass", desc := "()Ljava/lang/Class;" } : Jvm.MethodName) ({ cls := "java/lang/Object", name := "getClass", desc := "()Ljava/lang/Class;" } : Jvm.MethodName)) ∈ lw_all := lw_g (lw_at lw_m4 74 rfl) rfl
theorem q1507 : (Jvm.Cond.instantiable "TwoTonguesModel" (89 : Nat)) ∈ lw_all := lw_g (lw_at lw_m6 177 rfl) rfl
theorem q1509 : (Jvm.Cond.instanceMethod ({ cls := "TwoTonguesModel", name := "<init>", desc := "()V" } : Jvm.MethodName)) ∈ lw_all := lw_g (lw_at lw_m6 179 rfl) rfl
theorem q1510 : (Jvm.Cond.code ({ cls := "TwoTonguesModel", name := "<init>", desc := "()V" } : Jvm.MethodName) prog_22_method_1_code (1 : Nat) (Option.none : Option Jvm.ClassFile.FieldType)) ∈ lw_all := lw_g (lw_at lw_m6 180 rfl) rfl
theorem q1511 : (Jvm.Cond.methodLink "TwoTonguesModel" (1 : Nat) ({ cls := "java/lang/Object", name := "<init>", desc := "()V" } : Jvm.MethodName)) ∈ lw_all := lw_g (lw_at lw_m6 181 rfl) rfl
theorem q1512 : (Jvm.Cond.constant "TwoTonguesModel" (99 : Nat) (69277 : Int32)) ∈ lw_all := lw_g (lw_at lw_m6 182 rfl) rfl
theorem q1513 : (Jvm.Cond.methodLink "TwoTonguesModel" (134 : Nat) ({ cls := "TwoTonguesModel", name := "plain", desc := "()V" } : Jvm.MethodName)) ∈ lw_all := lw_g (lw_at lw_m6 183 rfl) rfl
theorem q1514 : (Jvm.Cond.privateMethod ({ cls := "TwoTonguesModel", name := "plain", desc := "()V" } : Jvm.MethodName)) ∈ lw_tbl := lw_at lw_m6 184 rfl
theorem q1515 : (Jvm.Cond.instanceMethod ({ cls := "TwoTonguesModel", name := "plain", desc := "()V" } : Jvm.MethodName)) ∈ lw_all := lw_g (lw_at lw_m6 185 rfl) rfl
theorem q1516 : (Jvm.Cond.code ({ cls := "TwoTonguesModel", name := "plain", desc := "()V" } : Jvm.MethodName) prog_22_method_17_code (2 : Nat) (Option.none : Option Jvm.ClassFile.FieldType)) ∈ lw_all := lw_g (lw_at lw_m6 186 rfl) rfl
theorem q1517 : (Jvm.Cond.methodLink "TwoTonguesModel" (137 : Nat) ({ cls := "TwoTonguesModel", name := "keepText", desc := "()V" } : Jvm.MethodName)) ∈ lw_all := lw_g (lw_at lw_m6 187 rfl) rfl
theorem q1518 : (Jvm.Cond.privateMethod ({ cls := "TwoTonguesModel", name := "keepText", desc := "()V" } : Jvm.MethodName)) ∈ lw_tbl := lw_at lw_m6 188 rfl
theorem q1519 : (Jvm.Cond.instanceMethod ({ cls := "TwoTonguesModel", name := "keepText", desc := "()V" } : Jvm.MethodName)) ∈ lw_all := lw_g (lw_at lw_m6 189 rfl) rfl
theorem q1520 : (Jvm.Cond.code ({ cls := "TwoTonguesModel", name := "keepText", desc := "()V" } : Jvm.MethodName) prog_22_method_19_code (1 : Nat) (Option.none : Option Jvm.ClassFile.FieldType)) ∈ lw_all := lw_g (lw_at lw_m6 190 rfl) rfl
theorem q1521 : (Jvm.Cond.methodLink "TwoTonguesModel" (260 : Nat) ({ cls := "TwoTonguesModel", name := "copies", desc := "([II)V" } : Jvm.MethodName)) ∈ lw_all := lw_g (lw_at lw_m6 191 rfl) rfl
theorem q1522 : (Jvm.Cond.static ({ cls := "TwoTonguesModel", name := "copies", desc := "([II)V" } : Jvm.MethodName)) ∈ lw_all := lw_g (lw_at lw_m6 192 rfl) rfl
theorem q1523 : (Jvm.Cond.code ({ cls := "TwoTonguesModel", name := "copies", desc := "([II)V" } : Jvm.MethodName) prog_22_method_18_code (3 : Nat) (Option.none : Option Jvm.ClassFile.FieldType)) ∈ lw_all := lw_g (lw_at lw_m6 193 rfl) rfl
theorem q1524 : (Jvm.Cond.methodLink "TwoTonguesModel" (264 : Nat) ({ cls := "TwoTonguesModel", name := "begin", desc := "()V" } : Jvm.MethodName)) ∈ lw_all := lw_g (lw_at lw_m6 194 rfl) rfl
theorem q1525 : (Jvm.Cond.privateMethod ({ cls := "TwoTonguesModel", name := "begin", desc := "()V" } : Jvm.MethodName)) ∈ lw_tbl := lw_at lw_m6 195 rfl
theorem q1526 : (Jvm.Cond.instanceMethod ({ cls := "TwoTonguesModel", name := "begin", desc := "()V" } : Jvm.MethodName)) ∈ lw_all := lw_g (lw_at lw_m6 196 rfl) rfl
theorem q1527 : (Jvm.Cond.code ({ cls := "TwoTonguesModel", name := "begin", desc := "()V" } : Jvm.MethodName) prog_22_method_48_code (2 : Nat) (Option.none : Option Jvm.ClassFile.FieldType)) ∈ lw_all := lw_g (lw_at lw_m6 197 rfl) rfl
theorem q1528 : (Jvm.Cond.fieldLink "TwoTonguesModel" (7 : Nat) "TwoTonguesModel" "tape" "[I") ∈ lw_all := lw_g (lw_at lw_m6 198 rfl) rfl
theorem q1529 : (Jvm.Cond.fieldLink "TwoTonguesModel" (143 : Nat) "TwoTonguesModel" "tapeSize" "I") ∈ lw_all := lw_g (lw_at lw_m6 199 rfl) rfl
theorem q1530 : (Jvm.Cond.fieldLink "TwoTonguesModel" (140 : Nat) "TwoTonguesModel" "thrown" "I") ∈ lw_all := lw_g (lw_at lw_m6 200 rfl) rfl
theorem q1531 : (Jvm.Cond.fieldLink "TwoTonguesModel" (13 : Nat) "TwoTonguesModel" "words" "[I") ∈ lw_all := lw_g (lw_at lw_m6 201 rfl) rfl
theorem q1532 : (Jvm.Cond.fieldLink "TwoTonguesModel" (146 : Nat) "TwoTonguesModel" "fault" "I") ∈ lw_all := lw_g (lw_at lw_m6 202 rfl) rfl
theorem q1533 : (Jvm.Cond.fieldLink "TwoTonguesModel" (16 : Nat) "TwoTonguesModel" "faultPlace" "I") ∈ lw_all := lw_g (lw_at lw_m6 203 rfl) rfl
theorem q1534 : (Jvm.Cond.fieldLink "TwoTonguesModel" (152 : Nat) "TwoTonguesModel" "stop" "I") ∈ lw_all := lw_g (lw_at lw_m6 204 rfl) rfl
theorem q1535 : (Jvm.Cond.fieldLink "TwoTonguesModel" (155 : Nat) "TwoTonguesModel" "next" "I") ∈ lw_all := lw_g (lw_at lw_m6 205 rfl) rfl
theorem q1536 : (Jvm.Cond.fieldLink "TwoTonguesModel" (158 : Nat) "TwoTonguesModel" "kind" "I") ∈ lw_all := lw_g (lw_at lw_m6 206 rfl) rfl
theorem q1537 : (Jvm.Cond.fieldLink "TwoTonguesModel" (169 : Nat) "TwoTonguesModel" "which" "I") ∈ lw_all := lw_g (lw_at lw_m6 207 rfl) rfl
theorem q1538 : (Jvm.Cond.fieldLink "TwoTonguesModel" (149 : Nat) "TwoTonguesModel" "at" "I") ∈ lw_all := lw_g (lw_at lw_m6 208 rfl) rfl
theorem q1539 : (Jvm.Cond.fieldLink "TwoTonguesModel" (189 : Nat) "TwoTonguesModel" "got" "I") ∈ lw_all := lw_g (lw_at lw_m6 209 rfl) rfl
theorem q1540 : (Jvm.Cond.fieldLink "TwoTonguesModel" (236 : Nat) "TwoTonguesModel" "signs" "I") ∈ lw_all := lw_g (lw_at lw_m6 210 rfl) rfl
theorem q1541 : (Jvm.Cond.fieldLink "TwoTonguesModel" (239 : Nat) "TwoTonguesModel" "corners" "I") ∈ lw_all := lw_g (lw_at lw_m6 211 rfl) rfl
theorem q1542 : (Jvm.Cond.fieldLink "TwoTonguesModel" (242 : Nat) "TwoTonguesModel" "feasts" "I") ∈ lw_all := lw_g (lw_at lw_m6 212 rfl) rfl
theorem q1543 : (Jvm.Cond.fieldLink "TwoTonguesModel" (245 : Nat) "TwoTonguesModel" "mays" "I") ∈ lw_all := lw_g (lw_at lw_m6 213 rfl) rfl
theorem q1544 : (Jvm.Cond.fieldLink "TwoTonguesModel" (248 : Nat) "TwoTonguesModel" "knots" "I") ∈ lw_all := lw_g (lw_at lw_m6 214 rfl) rfl
theorem q1545 : (Jvm.Cond.fieldLink "TwoTonguesModel" (251 : Nat) "TwoTonguesModel" "seedTold" "I") ∈ lw_all := lw_g (lw_at lw_m6 215 rfl) rfl
theorem q1546 : (Jvm.Cond.fieldLink "TwoTonguesModel" (254 : Nat) "TwoTonguesModel" "purseTold" "I") ∈ lw_all := lw_g (lw_at lw_m6 216 rfl) rfl
theorem q1547 : (Jvm.Cond.fieldLink "TwoTonguesModel" (257 : Nat) "TwoTonguesModel" "lawTold" "Z") ∈ lw_all := lw_g (lw_at lw_m6 217 rfl) rfl
theorem q1548 : (Jvm.Cond.fieldLink "TwoTonguesModel" (202 : Nat) "TwoTonguesModel" "signsRead" "I") ∈ lw_all := lw_g (lw_at lw_m6 218 rfl) rfl
theorem q1549 : (Jvm.Cond.fieldLink "TwoTonguesModel" (205 : Nat) "TwoTonguesModel" "cornersRead" "I") ∈ lw_all := lw_g (lw_at lw_m6 219 rfl) rfl
theorem q1550 : (Jvm.Cond.fieldLink "TwoTonguesModel" (208 : Nat) "TwoTonguesModel" "feastsRead" "I") ∈ lw_all := lw_g (lw_at lw_m6 220 rfl) rfl
theorem q1551 : (Jvm.Cond.fieldLink "TwoTonguesModel" (211 : Nat) "TwoTonguesModel" "maysRead" "I") ∈ lw_all := lw_g (lw_at lw_m6 221 rfl) rfl
theorem q1552 : (Jvm.Cond.fieldLink "TwoTonguesModel" (214 : Nat) "TwoTonguesModel" "knotsRead" "I") ∈ lw_all := lw_g (lw_at lw_m6 222 rfl) rfl
theorem q1553 : (Jvm.Cond.fieldLink "TwoTonguesModel" (220 : Nat) "TwoTonguesModel" "seedRead" "I") ∈ lw_all := lw_g (lw_at lw_m6 223 rfl) rfl
theorem q1554 : (Jvm.Cond.fieldLink "TwoTonguesModel" (223 : Nat) "TwoTonguesModel" "purseRead" "I") ∈ lw_all := lw_g (lw_at lw_m6 224 rfl) rfl
theorem q1555 : (Jvm.Cond.fieldLink "TwoTonguesModel" (226 : Nat) "TwoTonguesModel" "lawRead" "Z") ∈ lw_all := lw_g (lw_at lw_m6 225 rfl) rfl
theorem q1556 : (Jvm.Cond.fieldLink "TwoTonguesModel" (230 : Nat) "TwoTonguesModel" "purseSaid" "Z") ∈ lw_all := lw_g (lw_at lw_m6 226 rfl) rfl
theorem q1557 : (Jvm.Cond.fieldLink "TwoTonguesModel" (233 : Nat) "TwoTonguesModel" "seedSaid" "Z") ∈ lw_all := lw_g (lw_at lw_m6 227 rfl) rfl
theorem q1558 : (Jvm.Cond.fieldLink "TwoTonguesModel" (20 : Nat) "TwoTonguesModel" "store" "[I") ∈ lw_all := lw_g (lw_at lw_m6 228 rfl) rfl
theorem q1559 : (Jvm.Cond.fieldLink "TwoTonguesModel" (23 : Nat) "TwoTonguesModel" "storeNow" "[I") ∈ lw_all := lw_g (lw_at lw_m6 229 rfl) rfl
theorem q1560 : (Jvm.Cond.fieldLink "TwoTonguesModel" (26 : Nat) "TwoTonguesModel" "wordOf" "[I") ∈ lw_all := lw_g (lw_at lw_m6 230 rfl) rfl
theorem q1561 : (Jvm.Cond.fieldLink "TwoTonguesModel" (29 : Nat) "TwoTonguesModel" "worthOf" "[I") ∈ lw_all := lw_g (lw_at lw_m6 231 rfl) rfl
theorem q1562 : (Jvm.Cond.fieldLink "TwoTonguesModel" (32 : Nat) "TwoTonguesModel" "signName" "[I") ∈ lw_all := lw_g (lw_at lw_m6 232 rfl) rfl
theorem q1563 : (Jvm.Cond.fieldLink "TwoTonguesModel" (35 : Nat) "TwoTonguesModel" "signKind" "[I") ∈ lw_all := lw_g (lw_at lw_m6 233 rfl) rfl
theorem q1564 : (Jvm.Cond.fieldLink "TwoTonguesModel" (38 : Nat) "TwoTonguesModel" "signLong" "[I") ∈ lw_all := lw_g (lw_at lw_m6 234 rfl) rfl
theorem q1565 : (Jvm.Cond.fieldLink "TwoTonguesModel" (41 : Nat) "TwoTonguesModel" "signRow" "[I") ∈ lw_all := lw_g (lw_at lw_m6 235 rfl) rfl
theorem q1566 : (Jvm.Cond.fieldLink "TwoTonguesModel" (44 : Nat) "TwoTonguesModel" "corner" "[I") ∈ lw_all := lw_g (lw_at lw_m6 236 rfl) rfl
theorem q1567 : (Jvm.Cond.fieldLink "TwoTonguesModel" (47 : Nat) "TwoTonguesModel" "feast" "[I") ∈ lw_all := lw_g (lw_at lw_m6 237 rfl) rfl
theorem q1568 : (Jvm.Cond.fieldLink "TwoTonguesModel" (50 : Nat) "TwoTonguesModel" "mayLong" "[I") ∈ lw_all := lw_g (lw_at lw_m6 238 rfl) rfl
theorem q1569 : (Jvm.Cond.fieldLink "TwoTonguesModel" (53 : Nat) "TwoTonguesModel" "mayRow" "[I") ∈ lw_all := lw_g (lw_at lw_m6 239 rfl) rfl
theorem q1570 : (Jvm.Cond.fieldLink "TwoTonguesModel" (56 : Nat) "TwoTonguesModel" "weight" "[I") ∈ lw_all := lw_g (lw_at lw_m7 0 rfl) rfl
theorem q1571 : (Jvm.Cond.fieldLink "TwoTonguesModel" (59 : Nat) "TwoTonguesModel" "knot" "[I") ∈ lw_all := lw_g (lw_at lw_m7 1 rfl) rfl
theorem q1572 : (Jvm.Cond.fieldLink "TwoTonguesModel" (62 : Nat) "TwoTonguesModel" "part" "[I") ∈ lw_all := lw_g (lw_at lw_m7 2 rfl) rfl
theorem q1573 : (Jvm.Cond.fieldLink "TwoTonguesModel" (65 : Nat) "TwoTonguesModel" "other" "[I") ∈ lw_all := lw_g (lw_at lw_m7 3 rfl) rfl
theorem q1574 : (Jvm.Cond.fieldLink "TwoTonguesModel" (68 : Nat) "TwoTonguesModel" "wait" "[I") ∈ lw_all := lw_g (lw_at lw_m7 4 rfl) rfl
theorem q1575 : (Jvm.Cond.fieldLink "TwoTonguesModel" (71 : Nat) "TwoTonguesModel" "held" "[I") ∈ lw_all := lw_g (lw_at lw_m7 5 rfl) rfl
theorem q1576 : (Jvm.Cond.fieldLink "TwoTonguesModel" (313 : Nat) "TwoTonguesModel" "waits" "I") ∈ lw_all := lw_g (lw_at lw_m7 6 rfl) rfl
theorem q1577 : (Jvm.Cond.fieldLink "TwoTonguesModel" (310 : Nat) "TwoTonguesModel" "helds" "I") ∈ lw_all := lw_g (lw_at lw_m7 7 rfl) rfl
theorem q1578 : (Jvm.Cond.fieldLink "TwoTonguesModel" (327 : Nat) "TwoTonguesModel" "brackets" "I") ∈ lw_all := lw_g (lw_at lw_m7 8 rfl) rfl
theorem q1579 : (Jvm.Cond.fieldLink "TwoTonguesModel" (217 : Nat) "TwoTonguesModel" "counted" "I") ∈ lw_all := lw_g (lw_at lw_m7 9 rfl) rfl
theorem q1580 : (Jvm.Cond.fieldLink "TwoTonguesModel" (343 : Nat) "TwoTonguesModel" "wants" "Z") ∈ lw_all := lw_g (lw_at lw_m7 10 rfl) rfl
theorem q1581 : (Jvm.Cond.fieldLink "TwoTonguesModel" (334 : Nat) "TwoTonguesModel" "mayNot" "Z") ∈ lw_all := lw_g (lw_at lw_m7 11 rfl) rfl
theorem q1582 : (Jvm.Cond.fieldLink "TwoTonguesModel" (74 : Nat) "TwoTonguesModel" "names" "[J") ∈ lw_all := lw_g (lw_at lw_m7 12 rfl) rfl
theorem q1583 : (Jvm.Cond.fieldLink "TwoTonguesModel" (78 : Nat) "TwoTonguesModel" "value" "[J") ∈ lw_all := lw_g (lw_at lw_m7 13 rfl) rfl
theorem q1584 : (Jvm.Cond.fieldLink "TwoTonguesModel" (354 : Nat) "TwoTonguesModel" "isError" "Z") ∈ lw_all := lw_g (lw_at lw_m7 14 rfl) rfl
theorem q1585 : (Jvm.Cond.fieldLink "TwoTonguesModel" (373 : Nat) "TwoTonguesModel" "day" "I") ∈ lw_all := lw_g (lw_at lw_m7 15 rfl) rfl
theorem q1586 : (Jvm.Cond.fieldLink "TwoTonguesModel" (376 : Nat) "TwoTonguesModel" "purse" "I") ∈ lw_all := lw_g (lw_at lw_m7 16 rfl) rfl
theorem q1587 : (Jvm.Cond.fieldLink "TwoTonguesModel" (379 : Nat) "TwoTonguesModel" "drawn" "J") ∈ lw_all := lw_g (lw_at lw_m7 17 rfl) rfl
theorem q1588 : (Jvm.Cond.fieldLink "TwoTonguesModel" (81 : Nat) "TwoTonguesModel" "row" "[I") ∈ lw_all := lw_g (lw_at lw_m7 18 rfl) rfl
theorem q1589 : (Jvm.Cond.fieldLink "TwoTonguesModel" (84 : Nat) "TwoTonguesModel" "met" "[I") ∈ lw_all := lw_g (lw_at lw_m7 19 rfl) rfl
theorem q1590 : (Jvm.Cond.fieldLink "TwoTonguesModel" (407 : Nat) "TwoTonguesModel" "metMany" "I") ∈ lw_all := lw_g (lw_at lw_m7 20 rfl) rfl
theorem q1591 : (Jvm.Cond.fieldLink "TwoTonguesModel" (410 : Nat) "TwoTonguesModel" "hasGap" "Z") ∈ lw_all := lw_g (lw_at lw_m7 21 rfl) rfl
theorem q1592 : (Jvm.Cond.fieldLink "TwoTonguesModel" (87 : Nat) "TwoTonguesModel" "waysFrom" "[J") ∈ lw_all := lw_g (lw_at lw_m7 22 rfl) rfl
theorem q1593 : (Jvm.Cond.fieldLink "TwoTonguesModel" (90 : Nat) "TwoTonguesModel" "bestFrom" "[I") ∈ lw_all := lw_g (lw_at lw_m7 23 rfl) rfl
theorem q1594 : (Jvm.Cond.fieldLink "TwoTonguesModel" (383 : Nat) "TwoTonguesModel" "undos" "I") ∈ lw_all := lw_g (lw_at lw_m7 24 rfl) rfl
theorem q1595 : (Jvm.Cond.fieldLink "TwoTonguesModel" (93 : Nat) "TwoTonguesModel" "undo" "[I") ∈ lw_all := lw_g (lw_at lw_m7 25 rfl) rfl
theorem q1596 : (Jvm.Cond.fieldLink "TwoTonguesModel" (475 : Nat) "TwoTonguesModel" "rowMany" "I") ∈ lw_all := lw_g (lw_at lw_m7 26 rfl) rfl
theorem q1597 : (Jvm.Cond.fieldLink "TwoTonguesModel" (458 : Nat) "TwoTonguesModel" "rowKind" "I") ∈ lw_all := lw_g (lw_at lw_m7 27 rfl) rfl
theorem q1598 : (Jvm.Cond.fieldLink "TwoTonguesModel" (96 : Nat) "TwoTonguesModel" "fixed" "[I") ∈ lw_all := lw_g (lw_at lw_m7 28 rfl) rfl
theorem q1599 : (Jvm.Cond.fieldLink "TwoTonguesModel" (100 : Nat) "TwoTonguesModel" "least" "[I") ∈ lw_all := lw_g (lw_at lw_m7 29 rfl) rfl
theorem q1600 : (Jvm.Cond.fieldLink "TwoTonguesModel" (103 : Nat) "TwoTonguesModel" "atEast" "[Z") ∈ lw_all := lw_g (lw_at lw_m7 30 rfl) rfl
theorem q1601 : (Jvm.Cond.fieldLink "TwoTonguesModel" (107 : Nat) "TwoTonguesModel" "atWest" "[Z") ∈ lw_all := lw_g (lw_at lw_m7 31 rfl) rfl
theorem q1602 : (Jvm.Cond.fieldLink "TwoTonguesModel" (110 : Nat) "TwoTonguesModel" "tried" "[I") ∈ lw_all := lw_g (lw_at lw_m7 32 rfl) rfl
theorem q1603 : (Jvm.Cond.fieldLink "TwoTonguesModel" (491 : Nat) "TwoTonguesModel" "rows" "I") ∈ lw_all := lw_g (lw_at lw_m7 33 rfl) rfl
theorem q1604 : (Jvm.Cond.fieldLink "TwoTonguesModel" (494 : Nat) "TwoTonguesModel" "rowAsked" "J") ∈ lw_all := lw_g (lw_at lw_m7 34 rfl) rfl
theorem q1605 : (Jvm.Cond.fieldLink "TwoTonguesModel" (113 : Nat) "TwoTonguesModel" "take" "[I") ∈ lw_all := lw_g (lw_at lw_m7 35 rfl) rfl
theorem q1606 : (Jvm.Cond.fieldLink "TwoTonguesModel" (116 : Nat) "TwoTonguesModel" "takeBest" "[I") ∈ lw_all := lw_g (lw_at lw_m7 36 rfl) rfl
theorem q1607 : (Jvm.Cond.fieldLink "TwoTonguesModel" (546 : Nat) "TwoTonguesModel" "takes" "I") ∈ lw_all := lw_g (lw_at lw_m7 37 rfl) rfl
theorem q1608 : (Jvm.Cond.fieldLink "TwoTonguesModel" (119 : Nat) "TwoTonguesModel" "fits" "[Z") ∈ lw_all := lw_g (lw_at lw_m7 38 rfl) rfl
theorem q1609 : (Jvm.Cond.fieldLink "TwoTonguesModel" (386 : Nat) "TwoTonguesModel" "hasImage" "Z") ∈ lw_all := lw_g (lw_at lw_m7 39 rfl) rfl
theorem q1610 : (Jvm.Cond.fieldLink "TwoTonguesModel" (572 : Nat) "TwoTonguesModel" "imageDay" "I") ∈ lw_all := lw_g (lw_at lw_m7 40 rfl) rfl
theorem q1611 : (Jvm.Cond.fieldLink "TwoTonguesModel" (575 : Nat) "TwoTonguesModel" "imagePurse" "I") ∈ lw_all := lw_g (lw_at lw_m7 41 rfl) rfl
theorem q1612 : (Jvm.Cond.fieldLink "TwoTonguesModel" (578 : Nat) "TwoTonguesModel" "imageDrawn" "J") ∈ lw_all := lw_g (lw_at lw_m7 42 rfl) rfl
theorem q1613 : (Jvm.Cond.fieldLink "TwoTonguesModel" (122 : Nat) "TwoTonguesModel" "imageRow" "[I") ∈ lw_all := lw_g (lw_at lw_m7 43 rfl) rfl
theorem q1614 : (Jvm.Cond.fieldLink "TwoTonguesModel" (125 : Nat) "TwoTonguesModel" "imageStore" "[I") ∈ lw_all := lw_g (lw_at lw_m7 44 rfl) rfl
theorem q1615 : (Jvm.Cond.fieldLink "TwoTonguesModel" (128 : Nat) "TwoTonguesModel" "imageWord" "[I") ∈ lw_all := lw_g (lw_at lw_m7 45 rfl) rfl
theorem q1616 : (Jvm.Cond.fieldLink "TwoTonguesModel" (131 : Nat) "TwoTonguesModel" "imageWorth" "[I") ∈ lw_all := lw_g (lw_at lw_m7 46 rfl) rfl
theorem q1617 : (Jvm.Cond.laysFinal "TwoTonguesModel" "TwoTonguesModel" "tape" "[I") ∈ lw_all := lw_g (lw_at lw_m7 47 rfl) rfl
theorem q1618 : (Jvm.Cond.soleField "TwoTonguesModel" "tape") ∈ lw_all := lw_g (lw_at lw_m7 48 rfl) rfl
theorem q1619 : (Jvm.Cond.lays "TwoTonguesModel" "TwoTonguesModel" "tapeSize" "I") ∈ lw_all := lw_g (lw_at lw_m7 49 rfl) rfl
theorem q1620 : (Jvm.Cond.soleField "TwoTonguesModel" "tapeSize") ∈ lw_all := lw_g (lw_at lw_m7 50 rfl) rfl
theorem q1621 : (Jvm.Cond.lays "TwoTonguesModel" "TwoTonguesModel" "thrown" "I") ∈ lw_all := lw_g (lw_at lw_m7 51 rfl) rfl
theorem q1622 : (Jvm.Cond.soleField "TwoTonguesModel" "thrown") ∈ lw_all := lw_g (lw_at lw_m7 52 rfl) rfl
theorem q1623 : (Jvm.Cond.laysFinal "TwoTonguesModel" "TwoTonguesModel" "words" "[I") ∈ lw_all := lw_g (lw_at lw_m7 53 rfl) rfl
theorem q1624 : (Jvm.Cond.soleField "TwoTonguesModel" "words") ∈ lw_all := lw_g (lw_at lw_m7 54 rfl) rfl
theorem q1625 : (Jvm.Cond.lays "TwoTonguesModel" "TwoTonguesModel" "fault" "I") ∈ lw_all := lw_g (lw_at lw_m7 55 rfl) rfl
theorem q1626 : (Jvm.Cond.soleField "TwoTonguesModel" "fault") ∈ lw_all := lw_g (lw_at lw_m7 56 rfl) rfl
theorem q1627 : (Jvm.Cond.lays "TwoTonguesModel" "TwoTonguesModel" "faultPlace" "I") ∈ lw_all := lw_g (lw_at lw_m7 57 rfl) rfl
theorem q1628 : (Jvm.Cond.soleField "TwoTonguesModel" "faultPlace") ∈ lw_all := lw_g (lw_at lw_m7 58 rfl) rfl
theorem q1629 : (Jvm.Cond.lays "TwoTonguesModel" "TwoTonguesModel" "stop" "I") ∈ lw_all := lw_g (lw_at lw_m7 59 rfl) rfl
theorem q1630 : (Jvm.Cond.soleField "TwoTonguesModel" "stop") ∈ lw_all := lw_g (lw_at lw_m7 60 rfl) rfl
theorem q1631 : (Jvm.Cond.lays "TwoTonguesModel" "TwoTonguesModel" "next" "I") ∈ lw_all := lw_g (lw_at lw_m7 61 rfl) rfl
theorem q1632 : (Jvm.Cond.soleField "TwoTonguesModel" "next") ∈ lw_all := lw_g (lw_at lw_m7 62 rfl) rfl
theorem q1633 : (Jvm.Cond.lays "TwoTonguesModel" "TwoTonguesModel" "kind" "I") ∈ lw_all := lw_g (lw_at lw_m7 63 rfl) rfl
theorem q1634 : (Jvm.Cond.soleField "TwoTonguesModel" "kind") ∈ lw_all := lw_g (lw_at lw_m7 64 rfl) rfl
theorem q1635 : (Jvm.Cond.lays "TwoTonguesModel" "TwoTonguesModel" "which" "I") ∈ lw_all := lw_g (lw_at lw_m7 65 rfl) rfl
theorem q1636 : (Jvm.Cond.soleField "TwoTonguesModel" "which") ∈ lw_all := lw_g (lw_at lw_m7 66 rfl) rfl
theorem q1637 : (Jvm.Cond.lays "TwoTonguesModel" "TwoTonguesModel" "at" "I") ∈ lw_all := lw_g (lw_at lw_m7 67 rfl) rfl
theorem q1638 : (Jvm.Cond.soleField "TwoTonguesModel" "at") ∈ lw_all := lw_g (lw_at lw_m7 68 rfl) rfl
theorem q1639 : (Jvm.Cond.lays "TwoTonguesModel" "TwoTonguesModel" "got" "I") ∈ lw_all := lw_g (lw_at lw_m7 69 rfl) rfl
theorem q1640 : (Jvm.Cond.soleField "TwoTonguesModel" "got") ∈ lw_all := lw_g (lw_at lw_m7 70 rfl) rfl
theorem q1641 : (Jvm.Cond.lays "TwoTonguesModel" "TwoTonguesModel" "signs" "I") ∈ lw_all := lw_g (lw_at lw_m7 71 rfl) rfl
theorem q1642 : (Jvm.Cond.soleField "TwoTonguesModel" "signs") ∈ lw_all := lw_g (lw_at lw_m7 72 rfl) rfl
theorem q1643 : (Jvm.Cond.lays "TwoTonguesModel" "TwoTonguesModel" "corners" "I") ∈ lw_all := lw_g (lw_at lw_m7 73 rfl) rfl
theorem q1644 : (Jvm.Cond.soleField "TwoTonguesModel" "corners") ∈ lw_all := lw_g (lw_at lw_m7 74 rfl) rfl
theorem q1645 : (Jvm.Cond.lays "TwoTonguesModel" "TwoTonguesModel" "feasts" "I") ∈ lw_all := lw_g (lw_at lw_m7 75 rfl) rfl
theorem q1646 : (Jvm.Cond.soleField "TwoTonguesModel" "feasts") ∈ lw_all := lw_g (lw_at lw_m7 76 rfl) rfl
theorem q1647 : (Jvm.Cond.lays "TwoTonguesModel" "TwoTonguesModel" "mays" "I") ∈ lw_all := lw_g (lw_at lw_m7 77 rfl) rfl
theorem q1648 : (Jvm.Cond.soleField "TwoTonguesModel" "mays") ∈ lw_all := lw_g (lw_at lw_m7 78 rfl) rfl
theorem q1649 : (Jvm.Cond.lays "TwoTonguesModel" "TwoTonguesModel" "knots" "I") ∈ lw_all := lw_g (lw_at lw_m7 79 rfl) rfl
theorem q1650 : (Jvm.Cond.soleField "TwoTonguesModel" "knots") ∈ lw_all := lw_g (lw_at lw_m7 80 rfl) rfl
theorem q1651 : (Jvm.Cond.lays "TwoTonguesModel" "TwoTonguesModel" "seedTold" "I") ∈ lw_all := lw_g (lw_at lw_m7 81 rfl) rfl
theorem q1652 : (Jvm.Cond.soleField "TwoTonguesModel" "seedTold") ∈ lw_all := lw_g (lw_at lw_m7 82 rfl) rfl
theorem q1653 : (Jvm.Cond.lays "TwoTonguesModel" "TwoTonguesModel" "purseTold" "I") ∈ lw_all := lw_g (lw_at lw_m7 83 rfl) rfl
theorem q1654 : (Jvm.Cond.soleField "TwoTonguesModel" "purseTold") ∈ lw_all := lw_g (lw_at lw_m7 84 rfl) rfl
theorem q1655 : (Jvm.Cond.lays "TwoTonguesModel" "TwoTonguesModel" "lawTold" "Z") ∈ lw_all := lw_g (lw_at lw_m7 85 rfl) rfl
theorem q1656 : (Jvm.Cond.soleField "TwoTonguesModel" "lawTold") ∈ lw_all := lw_g (lw_at lw_m7 86 rfl) rfl
theorem q1657 : (Jvm.Cond.lays "TwoTonguesModel" "TwoTonguesModel" "signsRead" "I") ∈ lw_all := lw_g (lw_at lw_m7 87 rfl) rfl
theorem q1658 : (Jvm.Cond.soleField "TwoTonguesModel" "signsRead") ∈ lw_all := lw_g (lw_at lw_m7 88 rfl) rfl
theorem q1659 : (Jvm.Cond.lays "TwoTonguesModel" "TwoTonguesModel" "cornersRead" "I") ∈ lw_all := lw_g (lw_at lw_m7 89 rfl) rfl
theorem q1660 : (Jvm.Cond.soleField "TwoTonguesModel" "cornersRead") ∈ lw_all := lw_g (lw_at lw_m7 90 rfl) rfl
theorem q1661 : (Jvm.Cond.lays "TwoTonguesModel" "TwoTonguesModel" "feastsRead" "I") ∈ lw_all := lw_g (lw_at lw_m7 91 rfl) rfl
theorem q1662 : (Jvm.Cond.soleField "TwoTonguesModel" "feastsRead") ∈ lw_all := lw_g (lw_at lw_m7 92 rfl) rfl
theorem q1663 : (Jvm.Cond.lays "TwoTonguesModel" "TwoTonguesModel" "maysRead" "I") ∈ lw_all := lw_g (lw_at lw_m7 93 rfl) rfl
theorem q1664 : (Jvm.Cond.soleField "TwoTonguesModel" "maysRead") ∈ lw_all := lw_g (lw_at lw_m7 94 rfl) rfl
theorem q1665 : (Jvm.Cond.lays "TwoTonguesModel" "TwoTonguesModel" "knotsRead" "I") ∈ lw_all := lw_g (lw_at lw_m7 95 rfl) rfl
theorem q1666 : (Jvm.Cond.soleField "TwoTonguesModel" "knotsRead") ∈ lw_all := lw_g (lw_at lw_m7 96 rfl) rfl
theorem q1667 : (Jvm.Cond.lays "TwoTonguesModel" "TwoTonguesModel" "seedRead" "I") ∈ lw_all := lw_g (lw_at lw_m7 97 rfl) rfl
theorem q1668 : (Jvm.Cond.soleField "TwoTonguesModel" "seedRead") ∈ lw_all := lw_g (lw_at lw_m7 98 rfl) rfl
theorem q1669 : (Jvm.Cond.lays "TwoTonguesModel" "TwoTonguesModel" "purseRead" "I") ∈ lw_all := lw_g (lw_at lw_m7 99 rfl) rfl
theorem q1670 : (Jvm.Cond.soleField "TwoTonguesModel" "purseRead") ∈ lw_all := lw_g (lw_at lw_m7 100 rfl) rfl
theorem q1671 : (Jvm.Cond.lays "TwoTonguesModel" "TwoTonguesModel" "lawRead" "Z") ∈ lw_all := lw_g (lw_at lw_m7 101 rfl) rfl
theorem q1672 : (Jvm.Cond.soleField "TwoTonguesModel" "lawRead") ∈ lw_all := lw_g (lw_at lw_m7 102 rfl) rfl
theorem q1673 : (Jvm.Cond.lays "TwoTonguesModel" "TwoTonguesModel" "purseSaid" "Z") ∈ lw_all := lw_g (lw_at lw_m7 103 rfl) rfl
theorem q1674 : (Jvm.Cond.soleField "TwoTonguesModel" "purseSaid") ∈ lw_all := lw_g (lw_at lw_m7 104 rfl) rfl
theorem q1675 : (Jvm.Cond.lays "TwoTonguesModel" "TwoTonguesModel" "seedSaid" "Z") ∈ lw_all := lw_g (lw_at lw_m7 105 rfl) rfl
theorem q1676 : (Jvm.Cond.soleField "TwoTonguesModel" "seedSaid") ∈ lw_all := lw_g (lw_at lw_m7 106 rfl) rfl
theorem q1677 : (Jvm.Cond.laysFinal "TwoTonguesModel" "TwoTonguesModel" "store" "[I") ∈ lw_all := lw_g (lw_at lw_m7 107 rfl) rfl
theorem q1678 : (Jvm.Cond.soleField "TwoTonguesModel" "store") ∈ lw_all := lw_g (lw_at lw_m7 108 rfl) rfl
theorem q1679 : (Jvm.Cond.laysFinal "TwoTonguesModel" "TwoTonguesModel" "storeNow" "[I") ∈ lw_all := lw_g (lw_at lw_m7 109 rfl) rfl
theorem q1680 : (Jvm.Cond.soleField "TwoTonguesModel" "storeNow") ∈ lw_all := lw_g (lw_at lw_m7 110 rfl) rfl
theorem q1681 : (Jvm.Cond.laysFinal "TwoTonguesModel" "TwoTonguesModel" "wordOf" "[I") ∈ lw_all := lw_g (lw_at lw_m7 111 rfl) rfl
theorem q1682 : (Jvm.Cond.soleField "TwoTonguesModel" "wordOf") ∈ lw_all := lw_g (lw_at lw_m7 112 rfl) rfl
theorem q1683 : (Jvm.Cond.laysFinal "TwoTonguesModel" "TwoTonguesModel" "worthOf" "[I") ∈ lw_all := lw_g (lw_at lw_m7 113 rfl) rfl
theorem q1684 : (Jvm.Cond.soleField "TwoTonguesModel" "worthOf") ∈ lw_all := lw_g (lw_at lw_m7 114 rfl) rfl
theorem q1685 : (Jvm.Cond.laysFinal "TwoTonguesModel" "TwoTonguesModel" "signName" "[I") ∈ lw_all := lw_g (lw_at lw_m7 115 rfl) rfl
theorem q1686 : (Jvm.Cond.soleField "TwoTonguesModel" "signName") ∈ lw_all := lw_g (lw_at lw_m7 116 rfl) rfl
theorem q1687 : (Jvm.Cond.laysFinal "TwoTonguesModel" "TwoTonguesModel" "signKind" "[I") ∈ lw_all := lw_g (lw_at lw_m7 117 rfl) rfl
theorem q1688 : (Jvm.Cond.soleField "TwoTonguesModel" "signKind") ∈ lw_all := lw_g (lw_at lw_m7 118 rfl) rfl
theorem q1689 : (Jvm.Cond.laysFinal "TwoTonguesModel" "TwoTonguesModel" "signLong" "[I") ∈ lw_all := lw_g (lw_at lw_m7 119 rfl) rfl
theorem q1690 : (Jvm.Cond.soleField "TwoTonguesModel" "signLong") ∈ lw_all := lw_g (lw_at lw_m7 120 rfl) rfl
theorem q1691 : (Jvm.Cond.laysFinal "TwoTonguesModel" "TwoTonguesModel" "signRow" "[I") ∈ lw_all := lw_g (lw_at lw_m7 121 rfl) rfl
theorem q1692 : (Jvm.Cond.soleField "TwoTonguesModel" "signRow") ∈ lw_all := lw_g (lw_at lw_m7 122 rfl) rfl
theorem q1693 : (Jvm.Cond.laysFinal "TwoTonguesModel" "TwoTonguesModel" "corner" "[I") ∈ lw_all := lw_g (lw_at lw_m7 123 rfl) rfl
theorem q1694 : (Jvm.Cond.soleField "TwoTonguesModel" "corner") ∈ lw_all := lw_g (lw_at lw_m7 124 rfl) rfl
theorem q1695 : (Jvm.Cond.laysFinal "TwoTonguesModel" "TwoTonguesModel" "feast" "[I") ∈ lw_all := lw_g (lw_at lw_m7 125 rfl) rfl
theorem q1696 : (Jvm.Cond.soleField "TwoTonguesModel" "feast") ∈ lw_all := lw_g (lw_at lw_m7 126 rfl) rfl
theorem q1697 : (Jvm.Cond.laysFinal "TwoTonguesModel" "TwoTonguesModel" "mayLong" "[I") ∈ lw_all := lw_g (lw_at lw_m7 127 rfl) rfl
theorem q1698 : (Jvm.Cond.soleField "TwoTonguesModel" "mayLong") ∈ lw_all := lw_g (lw_at lw_m7 128 rfl) rfl
theorem q1699 : (Jvm.Cond.laysFinal "TwoTonguesModel" "TwoTonguesModel" "mayRow" "[I") ∈ lw_all := lw_g (lw_at lw_m7 129 rfl) rfl
theorem q1700 : (Jvm.Cond.soleField "TwoTonguesModel" "mayRow") ∈ lw_all := lw_g (lw_at lw_m7 130 rfl) rfl
theorem q1701 : (Jvm.Cond.laysFinal "TwoTonguesModel" "TwoTonguesModel" "weight" "[I") ∈ lw_all := lw_g (lw_at lw_m7 131 rfl) rfl
theorem q1702 : (Jvm.Cond.soleField "TwoTonguesModel" "weight") ∈ lw_all := lw_g (lw_at lw_m7 132 rfl) rfl
theorem q1703 : (Jvm.Cond.laysFinal "TwoTonguesModel" "TwoTonguesModel" "knot" "[I") ∈ lw_all := lw_g (lw_at lw_m7 133 rfl) rfl
theorem q1704 : (Jvm.Cond.soleField "TwoTonguesModel" "knot") ∈ lw_all := lw_g (lw_at lw_m7 134 rfl) rfl
theorem q1705 : (Jvm.Cond.laysFinal "TwoTonguesModel" "TwoTonguesModel" "part" "[I") ∈ lw_all := lw_g (lw_at lw_m7 135 rfl) rfl
theorem q1706 : (Jvm.Cond.soleField "TwoTonguesModel" "part") ∈ lw_all := lw_g (lw_at lw_m7 136 rfl) rfl
theorem q1707 : (Jvm.Cond.laysFinal "TwoTonguesModel" "TwoTonguesModel" "other" "[I") ∈ lw_all := lw_g (lw_at lw_m7 137 rfl) rfl
theorem q1708 : (Jvm.Cond.soleField "TwoTonguesModel" "other") ∈ lw_all := lw_g (lw_at lw_m7 138 rfl) rfl
theorem q1709 : (Jvm.Cond.laysFinal "TwoTonguesModel" "TwoTonguesModel" "wait" "[I") ∈ lw_all := lw_g (lw_at lw_m7 139 rfl) rfl
theorem q1710 : (Jvm.Cond.soleField "TwoTonguesModel" "wait") ∈ lw_all := lw_g (lw_at lw_m7 140 rfl) rfl
theorem q1711 : (Jvm.Cond.laysFinal "TwoTonguesModel" "TwoTonguesModel" "held" "[I") ∈ lw_all := lw_g (lw_at lw_m7 141 rfl) rfl
theorem q1712 : (Jvm.Cond.soleField "TwoTonguesModel" "held") ∈ lw_all := lw_g (lw_at lw_m7 142 rfl) rfl
theorem q1713 : (Jvm.Cond.lays "TwoTonguesModel" "TwoTonguesModel" "waits" "I") ∈ lw_all := lw_g (lw_at lw_m7 143 rfl) rfl
theorem q1714 : (Jvm.Cond.soleField "TwoTonguesModel" "waits") ∈ lw_all := lw_g (lw_at lw_m7 144 rfl) rfl
theorem q1715 : (Jvm.Cond.lays "TwoTonguesModel" "TwoTonguesModel" "helds" "I") ∈ lw_all := lw_g (lw_at lw_m7 145 rfl) rfl
theorem q1716 : (Jvm.Cond.soleField "TwoTonguesModel" "helds") ∈ lw_all := lw_g (lw_at lw_m7 146 rfl) rfl
theorem q1717 : (Jvm.Cond.lays "TwoTonguesModel" "TwoTonguesModel" "brackets" "I") ∈ lw_all := lw_g (lw_at lw_m7 147 rfl) rfl
theorem q1718 : (Jvm.Cond.soleField "TwoTonguesModel" "brackets") ∈ lw_all := lw_g (lw_at lw_m7 148 rfl) rfl
theorem q1719 : (Jvm.Cond.lays "TwoTonguesModel" "TwoTonguesModel" "counted" "I") ∈ lw_all := lw_g (lw_at lw_m7 149 rfl) rfl
theorem q1720 : (Jvm.Cond.soleField "TwoTonguesModel" "counted") ∈ lw_all := lw_g (lw_at lw_m7 150 rfl) rfl
theorem q1721 : (Jvm.Cond.lays "TwoTonguesModel" "TwoTonguesModel" "wants" "Z") ∈ lw_all := lw_g (lw_at lw_m7 151 rfl) rfl
theorem q1722 : (Jvm.Cond.soleField "TwoTonguesModel" "wants") ∈ lw_all := lw_g (lw_at lw_m7 152 rfl) rfl
theorem q1723 : (Jvm.Cond.lays "TwoTonguesModel" "TwoTonguesModel" "mayNot" "Z") ∈ lw_all := lw_g (lw_at lw_m7 153 rfl) rfl
theorem q1724 : (Jvm.Cond.soleField "TwoTonguesModel" "mayNot") ∈ lw_all := lw_g (lw_at lw_m7 154 rfl) rfl
theorem q1725 : (Jvm.Cond.laysFinal "TwoTonguesModel" "TwoTonguesModel" "names" "[J") ∈ lw_all := lw_g (lw_at lw_m7 155 rfl) rfl
theorem q1726 : (Jvm.Cond.soleField "TwoTonguesModel" "names") ∈ lw_all := lw_g (lw_at lw_m7 156 rfl) rfl
theorem q1727 : (Jvm.Cond.laysFinal "TwoTonguesModel" "TwoTonguesModel" "value" "[J") ∈ lw_all := lw_g (lw_at lw_m7 157 rfl) rfl
theorem q1728 : (Jvm.Cond.soleField "TwoTonguesModel" "value") ∈ lw_all := lw_g (lw_at lw_m7 158 rfl) rfl
theorem q1729 : (Jvm.Cond.lays "TwoTonguesModel" "TwoTonguesModel" "isError" "Z") ∈ lw_all := lw_g (lw_at lw_m7 159 rfl) rfl
theorem q1730 : (Jvm.Cond.soleField "TwoTonguesModel" "isError") ∈ lw_all := lw_g (lw_at lw_m7 160 rfl) rfl
theorem q1731 : (Jvm.Cond.lays "TwoTonguesModel" "TwoTonguesModel" "day" "I") ∈ lw_all := lw_g (lw_at lw_m7 161 rfl) rfl
theorem q1732 : (Jvm.Cond.soleField "TwoTonguesModel" "day") ∈ lw_all := lw_g (lw_at lw_m7 162 rfl) rfl
theorem q1733 : (Jvm.Cond.lays "TwoTonguesModel" "TwoTonguesModel" "purse" "I") ∈ lw_all := lw_g (lw_at lw_m7 163 rfl) rfl
theorem q1734 : (Jvm.Cond.soleField "TwoTonguesModel" "purse") ∈ lw_all := lw_g (lw_at lw_m7 164 rfl) rfl
theorem q1735 : (Jvm.Cond.lays "TwoTonguesModel" "TwoTonguesModel" "drawn" "J") ∈ lw_all := lw_g (lw_at lw_m7 165 rfl) rfl
theorem q1736 : (Jvm.Cond.soleField "TwoTonguesModel" "drawn") ∈ lw_all := lw_g (lw_at lw_m7 166 rfl) rfl
theorem q1737 : (Jvm.Cond.laysFinal "TwoTonguesModel" "TwoTonguesModel" "row" "[I") ∈ lw_all := lw_g (lw_at lw_m7 167 rfl) rfl
theorem q1738 : (Jvm.Cond.soleField "TwoTonguesModel" "row") ∈ lw_all := lw_g (lw_at lw_m7 168 rfl) rfl
theorem q1739 : (Jvm.Cond.laysFinal "TwoTonguesModel" "TwoTonguesModel" "met" "[I") ∈ lw_all := lw_g (lw_at lw_m7 169 rfl) rfl
theorem q1740 : (Jvm.Cond.soleField "TwoTonguesModel" "met") ∈ lw_all := lw_g (lw_at lw_m7 170 rfl) rfl
theorem q1741 : (Jvm.Cond.lays "TwoTonguesModel" "TwoTonguesModel" "metMany" "I") ∈ lw_all := lw_g (lw_at lw_m7 171 rfl) rfl
theorem q1742 : (Jvm.Cond.soleField "TwoTonguesModel" "metMany") ∈ lw_all := lw_g (lw_at lw_m7 172 rfl) rfl
theorem q1743 : (Jvm.Cond.lays "TwoTonguesModel" "TwoTonguesModel" "hasGap" "Z") ∈ lw_all := lw_g (lw_at lw_m7 173 rfl) rfl
theorem q1744 : (Jvm.Cond.soleField "TwoTonguesModel" "hasGap") ∈ lw_all := lw_g (lw_at lw_m7 174 rfl) rfl
theorem q1745 : (Jvm.Cond.laysFinal "TwoTonguesModel" "TwoTonguesModel" "waysFrom" "[J") ∈ lw_all := lw_g (lw_at lw_m7 175 rfl) rfl
theorem q1746 : (Jvm.Cond.soleField "TwoTonguesModel" "waysFrom") ∈ lw_all := lw_g (lw_at lw_m7 176 rfl) rfl
theorem q1747 : (Jvm.Cond.laysFinal "TwoTonguesModel" "TwoTonguesModel" "bestFrom" "[I") ∈ lw_all := lw_g (lw_at lw_m7 177 rfl) rfl
theorem q1748 : (Jvm.Cond.soleField "TwoTonguesModel" "bestFrom") ∈ lw_all := lw_g (lw_at lw_m7 178 rfl) rfl
theorem q1749 : (Jvm.Cond.lays "TwoTonguesModel" "TwoTonguesModel" "undos" "I") ∈ lw_all := lw_g (lw_at lw_m7 179 rfl) rfl
theorem q1750 : (Jvm.Cond.soleField "TwoTonguesModel" "undos") ∈ lw_all := lw_g (lw_at lw_m7 180 rfl) rfl
theorem q1751 : (Jvm.Cond.laysFinal "TwoTonguesModel" "TwoTonguesModel" "undo" "[I") ∈ lw_all := lw_g (lw_at lw_m7 181 rfl) rfl
theorem q1752 : (Jvm.Cond.soleField "TwoTonguesModel" "undo") ∈ lw_all := lw_g (lw_at lw_m7 182 rfl) rfl
theorem q1753 : (Jvm.Cond.lays "TwoTonguesModel" "TwoTonguesModel" "rowMany" "I") ∈ lw_all := lw_g (lw_at lw_m7 183 rfl) rfl
theorem q1754 : (Jvm.Cond.soleField "TwoTonguesModel" "rowMany") ∈ lw_all := lw_g (lw_at lw_m7 184 rfl) rfl
theorem q1755 : (Jvm.Cond.lays "TwoTonguesModel" "TwoTonguesModel" "rowKind" "I") ∈ lw_all := lw_g (lw_at lw_m7 185 rfl) rfl
theorem q1756 : (Jvm.Cond.soleField "TwoTonguesModel" "rowKind") ∈ lw_all := lw_g (lw_at lw_m7 186 rfl) rfl
theorem q1757 : (Jvm.Cond.laysFinal "TwoTonguesModel" "TwoTonguesModel" "fixed" "[I") ∈ lw_all := lw_g (lw_at lw_m7 187 rfl) rfl
theorem q1758 : (Jvm.Cond.soleField "TwoTonguesModel" "fixed") ∈ lw_all := lw_g (lw_at lw_m7 188 rfl) rfl
theorem q1759 : (Jvm.Cond.laysFinal "TwoTonguesModel" "TwoTonguesModel" "least" "[I") ∈ lw_all := lw_g (lw_at lw_m7 189 rfl) rfl
theorem q1760 : (Jvm.Cond.soleField "TwoTonguesModel" "least") ∈ lw_all := lw_g (lw_at lw_m7 190 rfl) rfl
theorem q1761 : (Jvm.Cond.laysFinal "TwoTonguesModel" "TwoTonguesModel" "atEast" "[Z") ∈ lw_all := lw_g (lw_at lw_m7 191 rfl) rfl
theorem q1762 : (Jvm.Cond.soleField "TwoTonguesModel" "atEast") ∈ lw_all := lw_g (lw_at lw_m7 192 rfl) rfl
theorem q1763 : (Jvm.Cond.laysFinal "TwoTonguesModel" "TwoTonguesModel" "atWest" "[Z") ∈ lw_all := lw_g (lw_at lw_m7 193 rfl) rfl
theorem q1764 : (Jvm.Cond.soleField "TwoTonguesModel" "atWest") ∈ lw_all := lw_g (lw_at lw_m7 194 rfl) rfl
theorem q1765 : (Jvm.Cond.laysFinal "TwoTonguesModel" "TwoTonguesModel" "tried" "[I") ∈ lw_all := lw_g (lw_at lw_m7 195 rfl) rfl
theorem q1766 : (Jvm.Cond.soleField "TwoTonguesModel" "tried") ∈ lw_all := lw_g (lw_at lw_m7 196 rfl) rfl
theorem q1767 : (Jvm.Cond.lays "TwoTonguesModel" "TwoTonguesModel" "rows" "I") ∈ lw_all := lw_g (lw_at lw_m7 197 rfl) rfl
theorem q1768 : (Jvm.Cond.soleField "TwoTonguesModel" "rows") ∈ lw_all := lw_g (lw_at lw_m7 198 rfl) rfl
theorem q1769 : (Jvm.Cond.lays "TwoTonguesModel" "TwoTonguesModel" "rowAsked" "J") ∈ lw_all := lw_g (lw_at lw_m7 199 rfl) rfl
theorem q1770 : (Jvm.Cond.soleField "TwoTonguesModel" "rowAsked") ∈ lw_all := lw_g (lw_at lw_m7 200 rfl) rfl
theorem q1771 : (Jvm.Cond.laysFinal "TwoTonguesModel" "TwoTonguesModel" "take" "[I") ∈ lw_all := lw_g (lw_at lw_m7 201 rfl) rfl
theorem q1772 : (Jvm.Cond.soleField "TwoTonguesModel" "take") ∈ lw_all := lw_g (lw_at lw_m7 202 rfl) rfl
theorem q1773 : (Jvm.Cond.laysFinal "TwoTonguesModel" "TwoTonguesModel" "takeBest" "[I") ∈ lw_all := lw_g (lw_at lw_m7 203 rfl) rfl
theorem q1774 : (Jvm.Cond.soleField "TwoTonguesModel" "takeBest") ∈ lw_all := lw_g (lw_at lw_m7 204 rfl) rfl
theorem q1775 : (Jvm.Cond.lays "TwoTonguesModel" "TwoTonguesModel" "takes" "I") ∈ lw_all := lw_g (lw_at lw_m7 205 rfl) rfl
theorem q1776 : (Jvm.Cond.soleField "TwoTonguesModel" "takes") ∈ lw_all := lw_g (lw_at lw_m7 206 rfl) rfl
theorem q1777 : (Jvm.Cond.laysFinal "TwoTonguesModel" "TwoTonguesModel" "fits" "[Z") ∈ lw_all := lw_g (lw_at lw_m7 207 rfl) rfl
theorem q1778 : (Jvm.Cond.soleField "TwoTonguesModel" "fits") ∈ lw_all := lw_g (lw_at lw_m7 208 rfl) rfl
theorem q1779 : (Jvm.Cond.lays "TwoTonguesModel" "TwoTonguesModel" "hasImage" "Z") ∈ lw_all := lw_g (lw_at lw_m7 209 rfl) rfl
theorem q1780 : (Jvm.Cond.soleField "TwoTonguesModel" "hasImage") ∈ lw_all := lw_g (lw_at lw_m7 210 rfl) rfl
theorem q1781 : (Jvm.Cond.lays "TwoTonguesModel" "TwoTonguesModel" "imageDay" "I") ∈ lw_all := lw_g (lw_at lw_m7 211 rfl) rfl
theorem q1782 : (Jvm.Cond.soleField "TwoTonguesModel" "imageDay") ∈ lw_all := lw_g (lw_at lw_m7 212 rfl) rfl
theorem q1783 : (Jvm.Cond.lays "TwoTonguesModel" "TwoTonguesModel" "imagePurse" "I") ∈ lw_all := lw_g (lw_at lw_m7 213 rfl) rfl
theorem q1784 : (Jvm.Cond.soleField "TwoTonguesModel" "imagePurse") ∈ lw_all := lw_g (lw_at lw_m7 214 rfl) rfl
theorem q1785 : (Jvm.Cond.lays "TwoTonguesModel" "TwoTonguesModel" "imageDrawn" "J") ∈ lw_all := lw_g (lw_at lw_m7 215 rfl) rfl
theorem q1786 : (Jvm.Cond.soleField "TwoTonguesModel" "imageDrawn") ∈ lw_all := lw_g (lw_at lw_m7 216 rfl) rfl
theorem q1787 : (Jvm.Cond.laysFinal "TwoTonguesModel" "TwoTonguesModel" "imageRow" "[I") ∈ lw_all := lw_g (lw_at lw_m7 217 rfl) rfl
theorem q1788 : (Jvm.Cond.soleField "TwoTonguesModel" "imageRow") ∈ lw_all := lw_g (lw_at lw_m7 218 rfl) rfl
theorem q1789 : (Jvm.Cond.laysFinal "TwoTonguesModel" "TwoTonguesModel" "imageStore" "[I") ∈ lw_all := lw_g (lw_at lw_m7 219 rfl) rfl
theorem q1790 : (Jvm.Cond.soleField "TwoTonguesModel" "imageStore") ∈ lw_all := lw_g (lw_at lw_m7 220 rfl) rfl
theorem q1791 : (Jvm.Cond.laysFinal "TwoTonguesModel" "TwoTonguesModel" "imageWord" "[I") ∈ lw_all := lw_g (lw_at lw_m7 221 rfl) rfl
theorem q1792 : (Jvm.Cond.soleField "TwoTonguesModel" "imageWord") ∈ lw_all := lw_g (lw_at lw_m7 222 rfl) rfl
theorem q1793 : (Jvm.Cond.laysFinal "TwoTonguesModel" "TwoTonguesModel" "imageWorth" "[I") ∈ lw_all := lw_g (lw_at lw_m7 223 rfl) rfl
theorem q1794 : (Jvm.Cond.soleField "TwoTonguesModel" "imageWorth") ∈ lw_all := lw_g (lw_at lw_m7 224 rfl) rfl
theorem q1795 : (Jvm.Cond.superclass "TwoTonguesModel" "java/lang/Object") ∈ lw_all := lw_g (lw_at lw_m7 225 rfl) rfl
theorem q1798 : (Jvm.Cond.instanceMethod ({ cls := "TwoTonguesModel", name := "thrown", desc := "()I" } : Jvm.MethodName)) ∈ lw_all := lw_g (lw_at lw_m7 228 rfl) rfl
theorem q1799 : (Jvm.Cond.selects "TwoTonguesModel" ({ cls := "TwoTonguesModel", name := "thrown", desc := "()I" } : Jvm.MethodName) ({ cls := "TwoTonguesModel", name := "thrown", desc := "()I" } : Jvm.MethodName)) ∈ lw_all := lw_g (lw_at lw_m7 229 rfl) rfl
theorem q1800 : (Jvm.Cond.code ({ cls := "TwoTonguesModel", name := "thrown", desc := "()I" } : Jvm.MethodName) prog_22_method_2_code (1 : Nat) (Option.some Jvm.ClassFile.FieldType.int)) ∈ lw_all := lw_g (lw_at lw_m7 230 rfl) rfl
theorem q1802 : (Jvm.Cond.instanceMethod ({ cls := "TwoTonguesModel", name := "feed", desc := "(IIIII)I" } : Jvm.MethodName)) ∈ lw_all := lw_g (lw_at lw_m7 232 rfl) rfl
theorem q1803 : (Jvm.Cond.selects "TwoTonguesModel" ({ cls := "TwoTonguesModel", name := "feed", desc := "(IIIII)I" } : Jvm.MethodName) ({ cls := "TwoTonguesModel", name := "feed", desc := "(IIIII)I" } : Jvm.MethodName)) ∈ lw_all := lw_g (lw_at lw_m7 233 rfl) rfl
theorem q1804 : (Jvm.Cond.code ({ cls := "TwoTonguesModel", name := "feed", desc := "(IIIII)I" } : Jvm.MethodName) prog_22_method_3_code (8 : Nat) (Option.some Jvm.ClassFile.FieldType.int)) ∈ lw_all := lw_g (lw_at lw_m7 234 rfl) rfl
theorem q1806 : (Jvm.Cond.instanceMethod ({ cls := "TwoTonguesModel", name := "text", desc := "(I)I" } : Jvm.MethodName)) ∈ lw_all := lw_g (lw_at lw_m7 236 rfl) rfl
theorem q1807 : (Jvm.Cond.selects "TwoTonguesModel" ({ cls := "TwoTonguesModel", name := "text", desc := "(I)I" } : Jvm.MethodName) ({ cls := "TwoTonguesModel", name := "text", desc := "(I)I" } : Jvm.MethodName)) ∈ lw_all := lw_g (lw_at lw_m7 237 rfl) rfl
theorem q1808 : (Jvm.Cond.code ({ cls := "TwoTonguesModel", name := "text", desc := "(I)I" } : Jvm.MethodName) prog_22_method_31_code (3 : Nat) (Option.some Jvm.ClassFile.FieldType.int)) ∈ lw_all := lw_g (lw_at lw_m7 238 rfl) rfl
theorem q1809 : (Jvm.Cond.methodLink "TwoTonguesModel" (192 : Nat) ({ cls := "TwoTonguesModel", name := "token", desc := "()V" } : Jvm.MethodName)) ∈ lw_all := lw_g (lw_at lw_m7 239 rfl) rfl
theorem q1810 : (Jvm.Cond.privateMethod ({ cls := "TwoTonguesModel", name := "token", desc := "()V" } : Jvm.MethodName)) ∈ lw_tbl := lw_at lw_m8 0 rfl
theorem q1811 : (Jvm.Cond.instanceMethod ({ cls := "TwoTonguesModel", name := "token", desc := "()V" } : Jvm.MethodName)) ∈ lw_all := lw_g (lw_at lw_m8 1 rfl) rfl
theorem q1812 : (Jvm.Cond.code ({ cls := "TwoTonguesModel", name := "token", desc := "()V" } : Jvm.MethodName) prog_22_method_10_code (1 : Nat) (Option.none : Option Jvm.ClassFile.FieldType)) ∈ lw_all := lw_g (lw_at lw_m8 2 rfl) rfl
theorem q1813 : (Jvm.Cond.methodLink "TwoTonguesModel" (161 : Nat) ({ cls := "TwoTonguesModel", name := "isSmall", desc := "(I)Z" } : Jvm.MethodName)) ∈ lw_all := lw_g (lw_at lw_m8 3 rfl) rfl
theorem q1814 : (Jvm.Cond.privateMethod ({ cls := "TwoTonguesModel", name := "isSmall", desc := "(I)Z" } : Jvm.MethodName)) ∈ lw_tbl := lw_at lw_m8 4 rfl
theorem q1815 : (Jvm.Cond.instanceMethod ({ cls := "TwoTonguesModel", name := "isSmall", desc := "(I)Z" } : Jvm.MethodName)) ∈ lw_all := lw_g (lw_at lw_m8 5 rfl) rfl
theorem q1816 : (Jvm.Cond.code ({ cls := "TwoTonguesModel", name := "isSmall", desc := "(I)Z" } : Jvm.MethodName) prog_22_method_8_code (2 : Nat) (Option.some Jvm.ClassFile.FieldType.boolean)) ∈ lw_all := lw_g (lw_at lw_m8 6 rfl) rfl
theorem q1817 : (Jvm.Cond.methodLink "TwoTonguesModel" (165 : Nat) ({ cls := "TwoTonguesModel", name := "wordAt", desc := "(II)I" } : Jvm.MethodName)) ∈ lw_all := lw_g (lw_at lw_m8 7 rfl) rfl
theorem q1818 : (Jvm.Cond.privateMethod ({ cls := "TwoTonguesModel", name := "wordAt", desc := "(II)I" } : Jvm.MethodName)) ∈ lw_tbl := lw_at lw_m8 8 rfl
theorem q1819 : (Jvm.Cond.instanceMethod ({ cls := "TwoTonguesModel", name := "wordAt", desc := "(II)I" } : Jvm.MethodName)) ∈ lw_all := lw_g (lw_at lw_m8 9 rfl) rfl
theorem q1820 : (Jvm.Cond.code ({ cls := "TwoTonguesModel", name := "wordAt", desc := "(II)I" } : Jvm.MethodName) prog_22_method_7_code (8 : Nat) (Option.some Jvm.ClassFile.FieldType.int)) ∈ lw_all := lw_g (lw_at lw_m8 10 rfl) rfl
theorem q1821 : (Jvm.Cond.methodLink "TwoTonguesModel" (172 : Nat) ({ cls := "TwoTonguesModel", name := "packed", desc := "(II)I" } : Jvm.MethodName)) ∈ lw_all := lw_g (lw_at lw_m8 11 rfl) rfl
theorem q1822 : (Jvm.Cond.privateMethod ({ cls := "TwoTonguesModel", name := "packed", desc := "(II)I" } : Jvm.MethodName)) ∈ lw_tbl := lw_at lw_m8 12 rfl
theorem q1823 : (Jvm.Cond.instanceMethod ({ cls := "TwoTonguesModel", name := "packed", desc := "(II)I" } : Jvm.MethodName)) ∈ lw_all := lw_g (lw_at lw_m8 13 rfl) rfl
theorem q1824 : (Jvm.Cond.code ({ cls := "TwoTonguesModel", name := "packed", desc := "(II)I" } : Jvm.MethodName) prog_22_method_12_code (5 : Nat) (Option.some Jvm.ClassFile.FieldType.int)) ∈ lw_all := lw_g (lw_at lw_m8 14 rfl) rfl
theorem q1825 : (Jvm.Cond.methodLink "TwoTonguesModel" (175 : Nat) ({ cls := "TwoTonguesModel", name := "isDigit", desc := "(I)Z" } : Jvm.MethodName)) ∈ lw_all := lw_g (lw_at lw_m8 15 rfl) rfl
theorem q1826 : (Jvm.Cond.privateMethod ({ cls := "TwoTonguesModel", name := "isDigit", desc := "(I)Z" } : Jvm.MethodName)) ∈ lw_tbl := lw_at lw_m8 16 rfl
theorem q1827 : (Jvm.Cond.instanceMethod ({ cls := "TwoTonguesModel", name := "isDigit", desc := "(I)Z" } : Jvm.MethodName)) ∈ lw_all := lw_g (lw_at lw_m8 17 rfl) rfl
theorem q1828 : (Jvm.Cond.code ({ cls := "TwoTonguesModel", name := "isDigit", desc := "(I)Z" } : Jvm.MethodName) prog_22_method_9_code (2 : Nat) (Option.some Jvm.ClassFile.FieldType.boolean)) ∈ lw_all := lw_g (lw_at lw_m8 18 rfl) rfl
theorem q1829 : (Jvm.Cond.constant "TwoTonguesModel" (178 : Nat) (99999 : Int32)) ∈ lw_all := lw_g (lw_at lw_m8 19 rfl) rfl
theorem q1830 : (Jvm.Cond.methodLink "TwoTonguesModel" (179 : Nat) ({ cls := "TwoTonguesModel", name := "signToken", desc := "()V" } : Jvm.MethodName)) ∈ lw_all := lw_g (lw_at lw_m8 20 rfl) rfl
theorem q1831 : (Jvm.Cond.privateMethod ({ cls := "TwoTonguesModel", name := "signToken", desc := "()V" } : Jvm.MethodName)) ∈ lw_tbl := lw_at lw_m8 21 rfl
theorem q1832 : (Jvm.Cond.instanceMethod ({ cls := "TwoTonguesModel", name := "signToken", desc := "()V" } : Jvm.MethodName)) ∈ lw_all := lw_g (lw_at lw_m8 22 rfl) rfl
theorem q1833 : (Jvm.Cond.code ({ cls := "TwoTonguesModel", name := "signToken", desc := "()V" } : Jvm.MethodName) prog_22_method_11_code (4 : Nat) (Option.none : Option Jvm.ClassFile.FieldType)) ∈ lw_all := lw_g (lw_at lw_m8 23 rfl) rfl
theorem q1834 : (Jvm.Cond.methodLink "TwoTonguesModel" (307 : Nat) ({ cls := "TwoTonguesModel", name := "lineRead", desc := "()Z" } : Jvm.MethodName)) ∈ lw_all := lw_g (lw_at lw_m8 24 rfl) rfl
theorem q1835 : (Jvm.Cond.privateMethod ({ cls := "TwoTonguesModel", name := "lineRead", desc := "()Z" } : Jvm.MethodName)) ∈ lw_tbl := lw_at lw_m8 25 rfl
theorem q1836 : (Jvm.Cond.instanceMethod ({ cls := "TwoTonguesModel", name := "lineRead", desc := "()Z" } : Jvm.MethodName)) ∈ lw_all := lw_g (lw_at lw_m8 26 rfl) rfl
theorem q1837 : (Jvm.Cond.code ({ cls := "TwoTonguesModel", name := "lineRead", desc := "()Z" } : Jvm.MethodName) prog_22_method_30_code (2 : Nat) (Option.some Jvm.ClassFile.FieldType.boolean)) ∈ lw_all := lw_g (lw_at lw_m8 27 rfl) rfl
theorem q1838 : (Jvm.Cond.methodLink "TwoTonguesModel" (182 : Nat) ({ cls := "TwoTonguesModel", name := "wrong", desc := "(I)Z" } : Jvm.MethodName)) ∈ lw_all := lw_g (lw_at lw_m8 28 rfl) rfl
theorem q1839 : (Jvm.Cond.privateMethod ({ cls := "TwoTonguesModel", name := "wrong", desc := "(I)Z" } : Jvm.MethodName)) ∈ lw_tbl := lw_at lw_m8 29 rfl
theorem q1840 : (Jvm.Cond.instanceMethod ({ cls := "TwoTonguesModel", name := "wrong", desc := "(I)Z" } : Jvm.MethodName)) ∈ lw_all := lw_g (lw_at lw_m8 30 rfl) rfl
theorem q1841 : (Jvm.Cond.code ({ cls := "TwoTonguesModel", name := "wrong", desc := "(I)Z" } : Jvm.MethodName) prog_22_method_6_code (2 : Nat) (Option.some Jvm.ClassFile.FieldType.boolean)) ∈ lw_all := lw_g (lw_at lw_m8 31 rfl) rfl
theorem q1842 : (Jvm.Cond.methodLink "TwoTonguesModel" (288 : Nat) ({ cls := "TwoTonguesModel", name := "wordLine", desc := "(I)Z" } : Jvm.MethodName)) ∈ lw_all := lw_g (lw_at lw_m8 32 rfl) rfl
theorem q1843 : (Jvm.Cond.privateMethod ({ cls := "TwoTonguesModel", name := "wordLine", desc := "(I)Z" } : Jvm.MethodName)) ∈ lw_tbl := lw_at lw_m8 33 rfl
theorem q1844 : (Jvm.Cond.instanceMethod ({ cls := "TwoTonguesModel", name := "wordLine", desc := "(I)Z" } : Jvm.MethodName)) ∈ lw_all := lw_g (lw_at lw_m8 34 rfl) rfl
theorem q1845 : (Jvm.Cond.code ({ cls := "TwoTonguesModel", name := "wordLine", desc := "(I)Z" } : Jvm.MethodName) prog_22_method_23_code (3 : Nat) (Option.some Jvm.ClassFile.FieldType.boolean)) ∈ lw_all := lw_g (lw_at lw_m8 35 rfl) rfl
theorem q1846 : (Jvm.Cond.methodLink "TwoTonguesModel" (267 : Nat) ({ cls := "TwoTonguesModel", name := "find", desc := "([IIII)I" } : Jvm.MethodName)) ∈ lw_all := lw_g (lw_at lw_m8 36 rfl) rfl
theorem q1847 : (Jvm.Cond.static ({ cls := "TwoTonguesModel", name := "find", desc := "([IIII)I" } : Jvm.MethodName)) ∈ lw_all := lw_g (lw_at lw_m8 37 rfl) rfl
theorem q1848 : (Jvm.Cond.code ({ cls := "TwoTonguesModel", name := "find", desc := "([IIII)I" } : Jvm.MethodName) prog_22_method_20_code (5 : Nat) (Option.some Jvm.ClassFile.FieldType.int)) ∈ lw_all := lw_g (lw_at lw_m8 38 rfl) rfl
theorem q1849 : (Jvm.Cond.methodLink "TwoTonguesModel" (198 : Nat) ({ cls := "TwoTonguesModel", name := "number", desc := "(II)Z" } : Jvm.MethodName)) ∈ lw_all := lw_g (lw_at lw_m8 39 rfl) rfl
theorem q1850 : (Jvm.Cond.privateMethod ({ cls := "TwoTonguesModel", name := "number", desc := "(II)Z" } : Jvm.MethodName)) ∈ lw_tbl := lw_at lw_m8 40 rfl
theorem q1851 : (Jvm.Cond.instanceMethod ({ cls := "TwoTonguesModel", name := "number", desc := "(II)Z" } : Jvm.MethodName)) ∈ lw_all := lw_g (lw_at lw_m8 41 rfl) rfl
theorem q1852 : (Jvm.Cond.code ({ cls := "TwoTonguesModel", name := "number", desc := "(II)Z" } : Jvm.MethodName) prog_22_method_15_code (3 : Nat) (Option.some Jvm.ClassFile.FieldType.boolean)) ∈ lw_all := lw_g (lw_at lw_m8 42 rfl) rfl
theorem q1853 : (Jvm.Cond.methodLink "TwoTonguesModel" (185 : Nat) ({ cls := "TwoTonguesModel", name := "isIn", desc := "(III)Z" } : Jvm.MethodName)) ∈ lw_all := lw_g (lw_at lw_m8 43 rfl) rfl
theorem q1854 : (Jvm.Cond.static ({ cls := "TwoTonguesModel", name := "isIn", desc := "(III)Z" } : Jvm.MethodName)) ∈ lw_all := lw_g (lw_at lw_m8 44 rfl) rfl
theorem q1855 : (Jvm.Cond.code ({ cls := "TwoTonguesModel", name := "isIn", desc := "(III)Z" } : Jvm.MethodName) prog_22_method_4_code (3 : Nat) (Option.some Jvm.ClassFile.FieldType.boolean)) ∈ lw_all := lw_g (lw_at lw_m8 45 rfl) rfl
theorem q1856 : (Jvm.Cond.methodLink "TwoTonguesModel" (291 : Nat) ({ cls := "TwoTonguesModel", name := "signLine", desc := "()Z" } : Jvm.MethodName)) ∈ lw_all := lw_g (lw_at lw_m8 46 rfl) rfl
theorem q1857 : (Jvm.Cond.privateMethod ({ cls := "TwoTonguesModel", name := "signLine", desc := "()Z" } : Jvm.MethodName)) ∈ lw_tbl := lw_at lw_m8 47 rfl
theorem q1858 : (Jvm.Cond.instanceMethod ({ cls := "TwoTonguesModel", name := "signLine", desc := "()Z" } : Jvm.MethodName)) ∈ lw_all := lw_g (lw_at lw_m8 48 rfl) rfl
theorem q1859 : (Jvm.Cond.code ({ cls := "TwoTonguesModel", name := "signLine", desc := "()Z" } : Jvm.MethodName) prog_22_method_25_code (2 : Nat) (Option.some Jvm.ClassFile.FieldType.boolean)) ∈ lw_all := lw_g (lw_at lw_m8 49 rfl) rfl
theorem q1860 : (Jvm.Cond.methodLink "TwoTonguesModel" (278 : Nat) ({ cls := "TwoTonguesModel", name := "rowRead", desc := "([II)Z" } : Jvm.MethodName)) ∈ lw_all := lw_g (lw_at lw_m8 50 rfl) rfl
theorem q1861 : (Jvm.Cond.privateMethod ({ cls := "TwoTonguesModel", name := "rowRead", desc := "([II)Z" } : Jvm.MethodName)) ∈ lw_tbl := lw_at lw_m8 51 rfl
theorem q1862 : (Jvm.Cond.instanceMethod ({ cls := "TwoTonguesModel", name := "rowRead", desc := "([II)Z" } : Jvm.MethodName)) ∈ lw_all := lw_g (lw_at lw_m8 52 rfl) rfl
theorem q1863 : (Jvm.Cond.code ({ cls := "TwoTonguesModel", name := "rowRead", desc := "([II)Z" } : Jvm.MethodName) prog_22_method_24_code (6 : Nat) (Option.some Jvm.ClassFile.FieldType.boolean)) ∈ lw_all := lw_g (lw_at lw_m8 53 rfl) rfl
theorem q1864 : (Jvm.Cond.methodLink "TwoTonguesModel" (271 : Nat) ({ cls := "TwoTonguesModel", name := "longOf", desc := "(I)I" } : Jvm.MethodName)) ∈ lw_all := lw_g (lw_at lw_m8 54 rfl) rfl
theorem q1865 : (Jvm.Cond.static ({ cls := "TwoTonguesModel", name := "longOf", desc := "(I)I" } : Jvm.MethodName)) ∈ lw_all := lw_g (lw_at lw_m8 55 rfl) rfl
theorem q1866 : (Jvm.Cond.code ({ cls := "TwoTonguesModel", name := "longOf", desc := "(I)I" } : Jvm.MethodName) prog_22_method_21_code (2 : Nat) (Option.some Jvm.ClassFile.FieldType.int)) ∈ lw_all := lw_g (lw_at lw_m8 56 rfl) rfl
theorem q1867 : (Jvm.Cond.methodLink "TwoTonguesModel" (275 : Nat) ({ cls := "TwoTonguesModel", name := "letterOf", desc := "(II)I" } : Jvm.MethodName)) ∈ lw_all := lw_g (lw_at lw_m8 57 rfl) rfl
theorem q1868 : (Jvm.Cond.static ({ cls := "TwoTonguesModel", name := "letterOf", desc := "(II)I" } : Jvm.MethodName)) ∈ lw_all := lw_g (lw_at lw_m8 58 rfl) rfl
theorem q1869 : (Jvm.Cond.code ({ cls := "TwoTonguesModel", name := "letterOf", desc := "(II)I" } : Jvm.MethodName) prog_22_method_22_code (2 : Nat) (Option.some Jvm.ClassFile.FieldType.int)) ∈ lw_all := lw_g (lw_at lw_m8 59 rfl) rfl
theorem q1870 : (Jvm.Cond.methodLink "TwoTonguesModel" (295 : Nat) ({ cls := "TwoTonguesModel", name := "cornerLine", desc := "()Z" } : Jvm.MethodName)) ∈ lw_all := lw_g (lw_at lw_m8 60 rfl) rfl
theorem q1871 : (Jvm.Cond.privateMethod ({ cls := "TwoTonguesModel", name := "cornerLine", desc := "()Z" } : Jvm.MethodName)) ∈ lw_tbl := lw_at lw_m8 61 rfl
theorem q1872 : (Jvm.Cond.instanceMethod ({ cls := "TwoTonguesModel", name := "cornerLine", desc := "()Z" } : Jvm.MethodName)) ∈ lw_all := lw_g (lw_at lw_m8 62 rfl) rfl
theorem q1873 : (Jvm.Cond.code ({ cls := "TwoTonguesModel", name := "cornerLine", desc := "()Z" } : Jvm.MethodName) prog_22_method_27_code (2 : Nat) (Option.some Jvm.ClassFile.FieldType.boolean)) ∈ lw_all := lw_g (lw_at lw_m8 63 rfl) rfl
theorem q1874 : (Jvm.Cond.methodLink "TwoTonguesModel" (282 : Nat) ({ cls := "TwoTonguesModel", name := "signThere", desc := "(I)Z" } : Jvm.MethodName)) ∈ lw_all := lw_g (lw_at lw_m8 64 rfl) rfl
theorem q1875 : (Jvm.Cond.privateMethod ({ cls := "TwoTonguesModel", name := "signThere", desc := "(I)Z" } : Jvm.MethodName)) ∈ lw_tbl := lw_at lw_m8 65 rfl
theorem q1876 : (Jvm.Cond.instanceMethod ({ cls := "TwoTonguesModel", name := "signThere", desc := "(I)Z" } : Jvm.MethodName)) ∈ lw_all := lw_g (lw_at lw_m8 66 rfl) rfl
theorem q1877 : (Jvm.Cond.code ({ cls := "TwoTonguesModel", name := "signThere", desc := "(I)Z" } : Jvm.MethodName) prog_22_method_26_code (3 : Nat) (Option.some Jvm.ClassFile.FieldType.boolean)) ∈ lw_all := lw_g (lw_at lw_m8 67 rfl) rfl
theorem q1878 : (Jvm.Cond.methodLink "TwoTonguesModel" (298 : Nat) ({ cls := "TwoTonguesModel", name := "weighLine", desc := "()Z" } : Jvm.MethodName)) ∈ lw_all := lw_g (lw_at lw_m8 68 rfl) rfl
theorem q1879 : (Jvm.Cond.privateMethod ({ cls := "TwoTonguesModel", name := "weighLine", desc := "()Z" } : Jvm.MethodName)) ∈ lw_tbl := lw_at lw_m8 69 rfl
theorem q1880 : (Jvm.Cond.instanceMethod ({ cls := "TwoTonguesModel", name := "weighLine", desc := "()Z" } : Jvm.MethodName)) ∈ lw_all := lw_g (lw_at lw_m8 70 rfl) rfl
theorem q1881 : (Jvm.Cond.code ({ cls := "TwoTonguesModel", name := "weighLine", desc := "()Z" } : Jvm.MethodName) prog_22_method_28_code (3 : Nat) (Option.some Jvm.ClassFile.FieldType.boolean)) ∈ lw_all := lw_g (lw_at lw_m8 71 rfl) rfl
theorem q1882 : (Jvm.Cond.methodLink "TwoTonguesModel" (301 : Nat) ({ cls := "TwoTonguesModel", name := "feastLine", desc := "()Z" } : Jvm.MethodName)) ∈ lw_all := lw_g (lw_at lw_m8 72 rfl) rfl
theorem q1883 : (Jvm.Cond.privateMethod ({ cls := "TwoTonguesModel", name := "feastLine", desc := "()Z" } : Jvm.MethodName)) ∈ lw_tbl := lw_at lw_m8 73 rfl
theorem q1884 : (Jvm.Cond.instanceMethod ({ cls := "TwoTonguesModel", name := "feastLine", desc := "()Z" } : Jvm.MethodName)) ∈ lw_all := lw_g (lw_at lw_m8 74 rfl) rfl
theorem q1885 : (Jvm.Cond.code ({ cls := "TwoTonguesModel", name := "feastLine", desc := "()Z" } : Jvm.MethodName) prog_22_method_29_code (3 : Nat) (Option.some Jvm.ClassFile.FieldType.boolean)) ∈ lw_all := lw_g (lw_at lw_m8 75 rfl) rfl
theorem q1886 : (Jvm.Cond.methodLink "TwoTonguesModel" (285 : Nat) ({ cls := "TwoTonguesModel", name := "isKey", desc := "(I)Z" } : Jvm.MethodName)) ∈ lw_all := lw_g (lw_at lw_m8 76 rfl) rfl
theorem q1887 : (Jvm.Cond.privateMethod ({ cls := "TwoTonguesModel", name := "isKey", desc := "(I)Z" } : Jvm.MethodName)) ∈ lw_tbl := lw_at lw_m8 77 rfl
theorem q1888 : (Jvm.Cond.instanceMethod ({ cls := "TwoTonguesModel", name := "isKey", desc := "(I)Z" } : Jvm.MethodName)) ∈ lw_all := lw_g (lw_at lw_m8 78 rfl) rfl
theorem q1889 : (Jvm.Cond.code ({ cls := "TwoTonguesModel", name := "isKey", desc := "(I)Z" } : Jvm.MethodName) prog_22_method_13_code (2 : Nat) (Option.some Jvm.ClassFile.FieldType.boolean)) ∈ lw_all := lw_g (lw_at lw_m8 79 rfl) rfl
theorem q1890 : (Jvm.Cond.methodLink "TwoTonguesModel" (304 : Nat) ({ cls := "TwoTonguesModel", name := "sumRead", desc := "()Z" } : Jvm.MethodName)) ∈ lw_all := lw_g (lw_at lw_m8 80 rfl) rfl
theorem q1891 : (Jvm.Cond.privateMethod ({ cls := "TwoTonguesModel", name := "sumRead", desc := "()Z" } : Jvm.MethodName)) ∈ lw_tbl := lw_at lw_m8 81 rfl
theorem q1892 : (Jvm.Cond.instanceMethod ({ cls := "TwoTonguesModel", name := "sumRead", desc := "()Z" } : Jvm.MethodName)) ∈ lw_all := lw_g (lw_at lw_m8 82 rfl) rfl
theorem q1893 : (Jvm.Cond.code ({ cls := "TwoTonguesModel", name := "sumRead", desc := "()Z" } : Jvm.MethodName) prog_22_method_43_code (1 : Nat) (Option.some Jvm.ClassFile.FieldType.boolean)) ∈ lw_all := lw_g (lw_at lw_m8 83 rfl) rfl
theorem q1894 : (Jvm.Cond.methodLink "TwoTonguesModel" (195 : Nat) ({ cls := "TwoTonguesModel", name := "isSign", desc := "(I)Z" } : Jvm.MethodName)) ∈ lw_all := lw_g (lw_at lw_m8 84 rfl) rfl
theorem q1895 : (Jvm.Cond.privateMethod ({ cls := "TwoTonguesModel", name := "isSign", desc := "(I)Z" } : Jvm.MethodName)) ∈ lw_tbl := lw_at lw_m8 85 rfl
theorem q1896 : (Jvm.Cond.instanceMethod ({ cls := "TwoTonguesModel", name := "isSign", desc := "(I)Z" } : Jvm.MethodName)) ∈ lw_all := lw_g (lw_at lw_m8 86 rfl) rfl
theorem q1897 : (Jvm.Cond.code ({ cls := "TwoTonguesModel", name := "isSign", desc := "(I)Z" } : Jvm.MethodName) prog_22_method_14_code (2 : Nat) (Option.some Jvm.ClassFile.FieldType.boolean)) ∈ lw_all := lw_g (lw_at lw_m8 87 rfl) rfl
theorem q1898 : (Jvm.Cond.methodLink "TwoTonguesModel" (349 : Nat) ({ cls := "TwoTonguesModel", name := "leafRead", desc := "()Z" } : Jvm.MethodName)) ∈ lw_all := lw_g (lw_at lw_m8 88 rfl) rfl
theorem q1899 : (Jvm.Cond.privateMethod ({ cls := "TwoTonguesModel", name := "leafRead", desc := "()Z" } : Jvm.MethodName)) ∈ lw_tbl := lw_at lw_m8 89 rfl
theorem q1900 : (Jvm.Cond.instanceMethod ({ cls := "TwoTonguesModel", name := "leafRead", desc := "()Z" } : Jvm.MethodName)) ∈ lw_all := lw_g (lw_at lw_m8 90 rfl) rfl
theorem q1901 : (Jvm.Cond.code ({ cls := "TwoTonguesModel", name := "leafRead", desc := "()Z" } : Jvm.MethodName) prog_22_method_41_code (2 : Nat) (Option.some Jvm.ClassFile.FieldType.boolean)) ∈ lw_all := lw_g (lw_at lw_m8 91 rfl) rfl
theorem q1902 : (Jvm.Cond.methodLink "TwoTonguesModel" (330 : Nat) ({ cls := "TwoTonguesModel", name := "waitsFor", desc := "(I)V" } : Jvm.MethodName)) ∈ lw_all := lw_g (lw_at lw_m8 92 rfl) rfl
theorem q1903 : (Jvm.Cond.privateMethod ({ cls := "TwoTonguesModel", name := "waitsFor", desc := "(I)V" } : Jvm.MethodName)) ∈ lw_tbl := lw_at lw_m8 93 rfl
theorem q1904 : (Jvm.Cond.instanceMethod ({ cls := "TwoTonguesModel", name := "waitsFor", desc := "(I)V" } : Jvm.MethodName)) ∈ lw_all := lw_g (lw_at lw_m8 94 rfl) rfl
theorem q1905 : (Jvm.Cond.code ({ cls := "TwoTonguesModel", name := "waitsFor", desc := "(I)V" } : Jvm.MethodName) prog_22_method_39_code (2 : Nat) (Option.none : Option Jvm.ClassFile.FieldType)) ∈ lw_all := lw_g (lw_at lw_m8 95 rfl) rfl
theorem q1906 : (Jvm.Cond.methodLink "TwoTonguesModel" (337 : Nat) ({ cls := "TwoTonguesModel", name := "isCounted", desc := "()Z" } : Jvm.MethodName)) ∈ lw_all := lw_g (lw_at lw_m8 96 rfl) rfl
theorem q1907 : (Jvm.Cond.privateMethod ({ cls := "TwoTonguesModel", name := "isCounted", desc := "()Z" } : Jvm.MethodName)) ∈ lw_tbl := lw_at lw_m8 97 rfl
theorem q1908 : (Jvm.Cond.instanceMethod ({ cls := "TwoTonguesModel", name := "isCounted", desc := "()Z" } : Jvm.MethodName)) ∈ lw_all := lw_g (lw_at lw_m8 98 rfl) rfl
theorem q1909 : (Jvm.Cond.code ({ cls := "TwoTonguesModel", name := "isCounted", desc := "()Z" } : Jvm.MethodName) prog_22_method_38_code (1 : Nat) (Option.some Jvm.ClassFile.FieldType.boolean)) ∈ lw_all := lw_g (lw_at lw_m8 99 rfl) rfl
theorem q1910 : (Jvm.Cond.methodLink "TwoTonguesModel" (340 : Nat) ({ cls := "TwoTonguesModel", name := "nameMet", desc := "()I" } : Jvm.MethodName)) ∈ lw_all := lw_g (lw_at lw_m8 100 rfl) rfl
theorem q1911 : (Jvm.Cond.privateMethod ({ cls := "TwoTonguesModel", name := "nameMet", desc := "()I" } : Jvm.MethodName)) ∈ lw_tbl := lw_at lw_m8 101 rfl
theorem q1912 : (Jvm.Cond.instanceMethod ({ cls := "TwoTonguesModel", name := "nameMet", desc := "()I" } : Jvm.MethodName)) ∈ lw_all := lw_g (lw_at lw_m8 102 rfl) rfl
theorem q1913 : (Jvm.Cond.code ({ cls := "TwoTonguesModel", name := "nameMet", desc := "()I" } : Jvm.MethodName) prog_22_method_40_code (1 : Nat) (Option.some Jvm.ClassFile.FieldType.int)) ∈ lw_all := lw_g (lw_at lw_m8 103 rfl) rfl
theorem q1914 : (Jvm.Cond.methodLink "TwoTonguesModel" (323 : Nat) ({ cls := "TwoTonguesModel", name := "grown", desc := "(III)V" } : Jvm.MethodName)) ∈ lw_all := lw_g (lw_at lw_m8 104 rfl) rfl
theorem q1915 : (Jvm.Cond.privateMethod ({ cls := "TwoTonguesModel", name := "grown", desc := "(III)V" } : Jvm.MethodName)) ∈ lw_tbl := lw_at lw_m8 105 rfl
theorem q1916 : (Jvm.Cond.instanceMethod ({ cls := "TwoTonguesModel", name := "grown", desc := "(III)V" } : Jvm.MethodName)) ∈ lw_all := lw_g (lw_at lw_m8 106 rfl) rfl
theorem q1917 : (Jvm.Cond.code ({ cls := "TwoTonguesModel", name := "grown", desc := "(III)V" } : Jvm.MethodName) prog_22_method_35_code (4 : Nat) (Option.none : Option Jvm.ClassFile.FieldType)) ∈ lw_all := lw_g (lw_at lw_m8 107 rfl) rfl
theorem q1918 : (Jvm.Cond.methodLink "TwoTonguesModel" (352 : Nat) ({ cls := "TwoTonguesModel", name := "signs", desc := "()Z" } : Jvm.MethodName)) ∈ lw_all := lw_g (lw_at lw_m8 108 rfl) rfl
theorem q1919 : (Jvm.Cond.privateMethod ({ cls := "TwoTonguesModel", name := "signs", desc := "()Z" } : Jvm.MethodName)) ∈ lw_tbl := lw_at lw_m8 109 rfl
theorem q1920 : (Jvm.Cond.instanceMethod ({ cls := "TwoTonguesModel", name := "signs", desc := "()Z" } : Jvm.MethodName)) ∈ lw_all := lw_g (lw_at lw_m8 110 rfl) rfl
theorem q1921 : (Jvm.Cond.code ({ cls := "TwoTonguesModel", name := "signs", desc := "()Z" } : Jvm.MethodName) prog_22_method_42_code (2 : Nat) (Option.some Jvm.ClassFile.FieldType.boolean)) ∈ lw_all := lw_g (lw_at lw_m8 111 rfl) rfl
theorem q1922 : (Jvm.Cond.methodLink "TwoTonguesModel" (346 : Nat) ({ cls := "TwoTonguesModel", name := "bind", desc := "(I)V" } : Jvm.MethodName)) ∈ lw_all := lw_g (lw_at lw_m8 112 rfl) rfl
theorem q1923 : (Jvm.Cond.privateMethod ({ cls := "TwoTonguesModel", name := "bind", desc := "(I)V" } : Jvm.MethodName)) ∈ lw_tbl := lw_at lw_m8 113 rfl
theorem q1924 : (Jvm.Cond.instanceMethod ({ cls := "TwoTonguesModel", name := "bind", desc := "(I)V" } : Jvm.MethodName)) ∈ lw_all := lw_g (lw_at lw_m8 114 rfl) rfl
theorem q1925 : (Jvm.Cond.code ({ cls := "TwoTonguesModel", name := "bind", desc := "(I)V" } : Jvm.MethodName) prog_22_method_37_code (5 : Nat) (Option.none : Option Jvm.ClassFile.FieldType)) ∈ lw_all := lw_g (lw_at lw_m8 115 rfl) rfl
theorem q1926 : (Jvm.Cond.methodLink "TwoTonguesModel" (316 : Nat) ({ cls := "TwoTonguesModel", name := "rank", desc := "(I)I" } : Jvm.MethodName)) ∈ lw_all := lw_g (lw_at lw_m8 116 rfl) rfl
theorem q1927 : (Jvm.Cond.static ({ cls := "TwoTonguesModel", name := "rank", desc := "(I)I" } : Jvm.MethodName)) ∈ lw_all := lw_g (lw_at lw_m8 117 rfl) rfl
theorem q1928 : (Jvm.Cond.code ({ cls := "TwoTonguesModel", name := "rank", desc := "(I)I" } : Jvm.MethodName) prog_22_method_34_code (1 : Nat) (Option.some Jvm.ClassFile.FieldType.int)) ∈ lw_all := lw_g (lw_at lw_m8 118 rfl) rfl
theorem q1929 : (Jvm.Cond.methodLink "TwoTonguesModel" (319 : Nat) ({ cls := "TwoTonguesModel", name := "dropHeld", desc := "()I" } : Jvm.MethodName)) ∈ lw_all := lw_g (lw_at lw_m8 119 rfl) rfl
theorem q1930 : (Jvm.Cond.privateMethod ({ cls := "TwoTonguesModel", name := "dropHeld", desc := "()I" } : Jvm.MethodName)) ∈ lw_tbl := lw_at lw_m8 120 rfl
theorem q1931 : (Jvm.Cond.instanceMethod ({ cls := "TwoTonguesModel", name := "dropHeld", desc := "()I" } : Jvm.MethodName)) ∈ lw_all := lw_g (lw_at lw_m8 121 rfl) rfl
theorem q1932 : (Jvm.Cond.code ({ cls := "TwoTonguesModel", name := "dropHeld", desc := "()I" } : Jvm.MethodName) prog_22_method_36_code (1 : Nat) (Option.some Jvm.ClassFile.FieldType.int)) ∈ lw_all := lw_g (lw_at lw_m8 122 rfl) rfl
theorem q1934 : (Jvm.Cond.instanceMethod ({ cls := "TwoTonguesModel", name := "fault", desc := "(I)I" } : Jvm.MethodName)) ∈ lw_all := lw_g (lw_at lw_m8 124 rfl) rfl
theorem q1935 : (Jvm.Cond.selects "TwoTonguesModel" ({ cls := "TwoTonguesModel", name := "fault", desc := "(I)I" } : Jvm.MethodName) ({ cls := "TwoTonguesModel", name := "fault", desc := "(I)I" } : Jvm.MethodName)) ∈ lw_all := lw_g (lw_at lw_m8 125 rfl) rfl
theorem q1936 : (Jvm.Cond.code ({ cls := "TwoTonguesModel", name := "fault", desc := "(I)I" } : Jvm.MethodName) prog_22_method_32_code (2 : Nat) (Option.some Jvm.ClassFile.FieldType.int)) ∈ lw_all := lw_g (lw_at lw_m8 126 rfl) rfl
theorem q1938 : (Jvm.Cond.instanceMethod ({ cls := "TwoTonguesModel", name := "named", desc := "(II)I" } : Jvm.MethodName)) ∈ lw_all := lw_g (lw_at lw_m8 128 rfl) rfl
theorem q1939 : (Jvm.Cond.selects "TwoTonguesModel" ({ cls := "TwoTonguesModel", name := "named", desc := "(II)I" } : Jvm.MethodName) ({ cls := "TwoTonguesModel", name := "named", desc := "(II)I" } : Jvm.MethodName)) ∈ lw_all := lw_g (lw_at lw_m8 129 rfl) rfl
theorem q1940 : (Jvm.Cond.code ({ cls := "TwoTonguesModel", name := "named", desc := "(II)I" } : Jvm.MethodName) prog_22_method_33_code (3 : Nat) (Option.some Jvm.ClassFile.FieldType.int)) ∈ lw_all := lw_g (lw_at lw_m8 130 rfl) rfl
theorem q1942 : (Jvm.Cond.instanceMethod ({ cls := "TwoTonguesModel", name := "look", desc := "(II)I" } : Jvm.MethodName)) ∈ lw_all := lw_g (lw_at lw_m8 132 rfl) rfl
theorem q1943 : (Jvm.Cond.selects "TwoTonguesModel" ({ cls := "TwoTonguesModel", name := "look", desc := "(II)I" } : Jvm.MethodName) ({ cls := "TwoTonguesModel", name := "look", desc := "(II)I" } : Jvm.MethodName)) ∈ lw_all := lw_g (lw_at lw_m8 133 rfl) rfl
theorem q1944 : (Jvm.Cond.code ({ cls := "TwoTonguesModel", name := "look", desc := "(II)I" } : Jvm.MethodName) prog_22_method_55_code (3 : Nat) (Option.some Jvm.ClassFile.FieldType.int)) ∈ lw_all := lw_g (lw_at lw_m8 134 rfl) rfl
theorem q1945 : (Jvm.Cond.methodLink "TwoTonguesModel" (389 : Nat) ({ cls := "TwoTonguesModel", name := "isBoard", desc := "(I)Z" } : Jvm.MethodName)) ∈ lw_all := lw_g (lw_at lw_m8 135 rfl) rfl
theorem q1946 : (Jvm.Cond.privateMethod ({ cls := "TwoTonguesModel", name := "isBoard", desc := "(I)Z" } : Jvm.MethodName)) ∈ lw_tbl := lw_at lw_m8 136 rfl
theorem q1947 : (Jvm.Cond.instanceMethod ({ cls := "TwoTonguesModel", name := "isBoard", desc := "(I)Z" } : Jvm.MethodName)) ∈ lw_all := lw_g (lw_at lw_m8 137 rfl) rfl
theorem q1948 : (Jvm.Cond.code ({ cls := "TwoTonguesModel", name := "isBoard", desc := "(I)Z" } : Jvm.MethodName) prog_22_method_49_code (2 : Nat) (Option.some Jvm.ClassFile.FieldType.boolean)) ∈ lw_all := lw_g (lw_at lw_m8 138 rfl) rfl
theorem q1949 : (Jvm.Cond.methodLink "TwoTonguesModel" (392 : Nat) ({ cls := "TwoTonguesModel", name := "fails", desc := "(I)I" } : Jvm.MethodName)) ∈ lw_all := lw_g (lw_at lw_m8 139 rfl) rfl
theorem q1950 : (Jvm.Cond.privateMethod ({ cls := "TwoTonguesModel", name := "fails", desc := "(I)I" } : Jvm.MethodName)) ∈ lw_tbl := lw_at lw_m8 140 rfl
theorem q1951 : (Jvm.Cond.instanceMethod ({ cls := "TwoTonguesModel", name := "fails", desc := "(I)I" } : Jvm.MethodName)) ∈ lw_all := lw_g (lw_at lw_m8 141 rfl) rfl
theorem q1952 : (Jvm.Cond.code ({ cls := "TwoTonguesModel", name := "fails", desc := "(I)I" } : Jvm.MethodName) prog_22_method_54_code (2 : Nat) (Option.some Jvm.ClassFile.FieldType.int)) ∈ lw_all := lw_g (lw_at lw_m8 142 rfl) rfl
theorem q1953 : (Jvm.Cond.methodLink "TwoTonguesModel" (395 : Nat) ({ cls := "TwoTonguesModel", name := "lostOf", desc := "(I)I" } : Jvm.MethodName)) ∈ lw_all := lw_g (lw_at lw_m8 143 rfl) rfl
theorem q1954 : (Jvm.Cond.privateMethod ({ cls := "TwoTonguesModel", name := "lostOf", desc := "(I)I" } : Jvm.MethodName)) ∈ lw_tbl := lw_at lw_m8 144 rfl
theorem q1955 : (Jvm.Cond.instanceMethod ({ cls := "TwoTonguesModel", name := "lostOf", desc := "(I)I" } : Jvm.MethodName)) ∈ lw_all := lw_g (lw_at lw_m8 145 rfl) rfl
theorem q1956 : (Jvm.Cond.code ({ cls := "TwoTonguesModel", name := "lostOf", desc := "(I)I" } : Jvm.MethodName) prog_22_method_52_code (4 : Nat) (Option.some Jvm.ClassFile.FieldType.int)) ∈ lw_all := lw_g (lw_at lw_m8 146 rfl) rfl
theorem q1957 : (Jvm.Cond.methodLink "TwoTonguesModel" (398 : Nat) ({ cls := "TwoTonguesModel", name := "ironOf", desc := "(I)I" } : Jvm.MethodName)) ∈ lw_all := lw_g (lw_at lw_m8 147 rfl) rfl
theorem q1958 : (Jvm.Cond.privateMethod ({ cls := "TwoTonguesModel", name := "ironOf", desc := "(I)I" } : Jvm.MethodName)) ∈ lw_tbl := lw_at lw_m8 148 rfl
theorem q1959 : (Jvm.Cond.instanceMethod ({ cls := "TwoTonguesModel", name := "ironOf", desc := "(I)I" } : Jvm.MethodName)) ∈ lw_all := lw_g (lw_at lw_m8 149 rfl) rfl
theorem q1960 : (Jvm.Cond.code ({ cls := "TwoTonguesModel", name := "ironOf", desc := "(I)I" } : Jvm.MethodName) prog_22_method_53_code (4 : Nat) (Option.some Jvm.ClassFile.FieldType.int)) ∈ lw_all := lw_g (lw_at lw_m8 150 rfl) rfl
theorem q1962 : (Jvm.Cond.instanceMethod ({ cls := "TwoTonguesModel", name := "letter", desc := "(II)I" } : Jvm.MethodName)) ∈ lw_all := lw_g (lw_at lw_m8 152 rfl) rfl
theorem q1963 : (Jvm.Cond.selects "TwoTonguesModel" ({ cls := "TwoTonguesModel", name := "letter", desc := "(II)I" } : Jvm.MethodName) ({ cls := "TwoTonguesModel", name := "letter", desc := "(II)I" } : Jvm.MethodName)) ∈ lw_all := lw_g (lw_at lw_m8 153 rfl) rfl
theorem q1964 : (Jvm.Cond.code ({ cls := "TwoTonguesModel", name := "letter", desc := "(II)I" } : Jvm.MethodName) prog_22_method_56_code (3 : Nat) (Option.some Jvm.ClassFile.FieldType.int)) ∈ lw_all := lw_g (lw_at lw_m8 154 rfl) rfl
theorem q1965 : (Jvm.Cond.methodLink "TwoTonguesModel" (401 : Nat) ({ cls := "TwoTonguesModel", name := "isLetter", desc := "(II)Z" } : Jvm.MethodName)) ∈ lw_all := lw_g (lw_at lw_m8 155 rfl) rfl
theorem q1966 : (Jvm.Cond.privateMethod ({ cls := "TwoTonguesModel", name := "isLetter", desc := "(II)Z" } : Jvm.MethodName)) ∈ lw_tbl := lw_at lw_m8 156 rfl
theorem q1967 : (Jvm.Cond.instanceMethod ({ cls := "TwoTonguesModel", name := "isLetter", desc := "(II)Z" } : Jvm.MethodName)) ∈ lw_all := lw_g (lw_at lw_m8 157 rfl) rfl
theorem q1968 : (Jvm.Cond.code ({ cls := "TwoTonguesModel", name := "isLetter", desc := "(II)Z" } : Jvm.MethodName) prog_22_method_50_code (3 : Nat) (Option.some Jvm.ClassFile.FieldType.boolean)) ∈ lw_all := lw_g (lw_at lw_m8 158 rfl) rfl
theorem q1970 : (Jvm.Cond.instanceMethod ({ cls := "TwoTonguesModel", name := "word", desc := "(III)I" } : Jvm.MethodName)) ∈ lw_all := lw_g (lw_at lw_m8 160 rfl) rfl
theorem q1971 : (Jvm.Cond.selects "TwoTonguesModel" ({ cls := "TwoTonguesModel", name := "word", desc := "(III)I" } : Jvm.MethodName) ({ cls := "TwoTonguesModel", name := "word", desc := "(III)I" } : Jvm.MethodName)) ∈ lw_all := lw_g (lw_at lw_m8 161 rfl) rfl
theorem q1972 : (Jvm.Cond.code ({ cls := "TwoTonguesModel", name := "word", desc := "(III)I" } : Jvm.MethodName) prog_22_method_57_code (4 : Nat) (Option.some Jvm.ClassFile.FieldType.int)) ∈ lw_all := lw_g (lw_at lw_m8 162 rfl) rfl
theorem q1973 : (Jvm.Cond.methodLink "TwoTonguesModel" (404 : Nat) ({ cls := "TwoTonguesModel", name := "isTongue", desc := "(I)Z" } : Jvm.MethodName)) ∈ lw_all := lw_g (lw_at lw_m8 163 rfl) rfl
theorem q1974 : (Jvm.Cond.static ({ cls := "TwoTonguesModel", name := "isTongue", desc := "(I)Z" } : Jvm.MethodName)) ∈ lw_all := lw_g (lw_at lw_m8 164 rfl) rfl
theorem q1975 : (Jvm.Cond.code ({ cls := "TwoTonguesModel", name := "isTongue", desc := "(I)Z" } : Jvm.MethodName) prog_22_method_51_code (1 : Nat) (Option.some Jvm.ClassFile.FieldType.boolean)) ∈ lw_all := lw_g (lw_at lw_m8 165 rfl) rfl
theorem q1977 : (Jvm.Cond.instanceMethod ({ cls := "TwoTonguesModel", name := "ways", desc := "(II)J" } : Jvm.MethodName)) ∈ lw_all := lw_g (lw_at lw_m8 167 rfl) rfl
theorem q1978 : (Jvm.Cond.selects "TwoTonguesModel" ({ cls := "TwoTonguesModel", name := "ways", desc := "(II)J" } : Jvm.MethodName) ({ cls := "TwoTonguesModel", name := "ways", desc := "(II)J" } : Jvm.MethodName)) ∈ lw_all := lw_g (lw_at lw_m8 168 rfl) rfl
theorem q1979 : (Jvm.Cond.code ({ cls := "TwoTonguesModel", name := "ways", desc := "(II)J" } : Jvm.MethodName) prog_22_method_63_code (3 : Nat) (Option.some Jvm.ClassFile.FieldType.long)) ∈ lw_all := lw_g (lw_at lw_m8 169 rfl) rfl
theorem q1980 : (Jvm.Cond.constantLong "TwoTonguesModel" (426 : Nat) (-1 : Int64)) ∈ lw_all := lw_g (lw_at lw_m8 170 rfl) rfl
theorem q1981 : (Jvm.Cond.methodLink "TwoTonguesModel" (428 : Nat) ({ cls := "TwoTonguesModel", name := "reads", desc := "(II)V" } : Jvm.MethodName)) ∈ lw_all := lw_g (lw_at lw_m8 171 rfl) rfl
theorem q1982 : (Jvm.Cond.privateMethod ({ cls := "TwoTonguesModel", name := "reads", desc := "(II)V" } : Jvm.MethodName)) ∈ lw_tbl := lw_at lw_m8 172 rfl
theorem q1983 : (Jvm.Cond.instanceMethod ({ cls := "TwoTonguesModel", name := "reads", desc := "(II)V" } : Jvm.MethodName)) ∈ lw_all := lw_g (lw_at lw_m8 173 rfl) rfl
theorem q1984 : (Jvm.Cond.code ({ cls := "TwoTonguesModel", name := "reads", desc := "(II)V" } : Jvm.MethodName) prog_22_method_62_code (3 : Nat) (Option.none : Option Jvm.ClassFile.FieldType)) ∈ lw_all := lw_g (lw_at lw_m8 174 rfl) rfl
theorem q1985 : (Jvm.Cond.methodLink "TwoTonguesModel" (416 : Nat) ({ cls := "TwoTonguesModel", name := "isLeft", desc := "(II)Z" } : Jvm.MethodName)) ∈ lw_all := lw_g (lw_at lw_m8 175 rfl) rfl
theorem q1986 : (Jvm.Cond.static ({ cls := "TwoTonguesModel", name := "isLeft", desc := "(II)Z" } : Jvm.MethodName)) ∈ lw_all := lw_g (lw_at lw_m8 176 rfl) rfl
theorem q1987 : (Jvm.Cond.code ({ cls := "TwoTonguesModel", name := "isLeft", desc := "(II)Z" } : Jvm.MethodName) prog_22_method_58_code (2 : Nat) (Option.some Jvm.ClassFile.FieldType.boolean)) ∈ lw_all := lw_g (lw_at lw_m8 177 rfl) rfl
theorem q1988 : (Jvm.Cond.methodLink "TwoTonguesModel" (419 : Nat) ({ cls := "TwoTonguesModel", name := "layMet", desc := "([IIIZ)V" } : Jvm.MethodName)) ∈ lw_all := lw_g (lw_at lw_m8 178 rfl) rfl
theorem q1989 : (Jvm.Cond.privateMethod ({ cls := "TwoTonguesModel", name := "layMet", desc := "([IIIZ)V" } : Jvm.MethodName)) ∈ lw_tbl := lw_at lw_m8 179 rfl
theorem q1990 : (Jvm.Cond.instanceMethod ({ cls := "TwoTonguesModel", name := "layMet", desc := "([IIIZ)V" } : Jvm.MethodName)) ∈ lw_all := lw_g (lw_at lw_m8 180 rfl) rfl
theorem q1991 : (Jvm.Cond.code ({ cls := "TwoTonguesModel", name := "layMet", desc := "([IIIZ)V" } : Jvm.MethodName) prog_22_method_59_code (6 : Nat) (Option.none : Option Jvm.ClassFile.FieldType)) ∈ lw_all := lw_g (lw_at lw_m8 181 rfl) rfl
theorem q1992 : (Jvm.Cond.methodLink "TwoTonguesModel" (423 : Nat) ({ cls := "TwoTonguesModel", name := "layReadings", desc := "(I)V" } : Jvm.MethodName)) ∈ lw_all := lw_g (lw_at lw_m8 182 rfl) rfl
theorem q1993 : (Jvm.Cond.privateMethod ({ cls := "TwoTonguesModel", name := "layReadings", desc := "(I)V" } : Jvm.MethodName)) ∈ lw_tbl := lw_at lw_m8 183 rfl
theorem q1994 : (Jvm.Cond.instanceMethod ({ cls := "TwoTonguesModel", name := "layReadings", desc := "(I)V" } : Jvm.MethodName)) ∈ lw_all := lw_g (lw_at lw_m8 184 rfl) rfl
theorem q1995 : (Jvm.Cond.code ({ cls := "TwoTonguesModel", name := "layReadings", desc := "(I)V" } : Jvm.MethodName) prog_22_method_61_code (5 : Nat) (Option.none : Option Jvm.ClassFile.FieldType)) ∈ lw_all := lw_g (lw_at lw_m8 185 rfl) rfl
theorem q1996 : (Jvm.Cond.methodLink "TwoTonguesModel" (413 : Nat) ({ cls := "TwoTonguesModel", name := "standsAt", desc := "(II)Z" } : Jvm.MethodName)) ∈ lw_all := lw_g (lw_at lw_m8 186 rfl) rfl
theorem q1997 : (Jvm.Cond.privateMethod ({ cls := "TwoTonguesModel", name := "standsAt", desc := "(II)Z" } : Jvm.MethodName)) ∈ lw_tbl := lw_at lw_m8 187 rfl
theorem q1998 : (Jvm.Cond.instanceMethod ({ cls := "TwoTonguesModel", name := "standsAt", desc := "(II)Z" } : Jvm.MethodName)) ∈ lw_all := lw_g (lw_at lw_m8 188 rfl) rfl
theorem q1999 : (Jvm.Cond.code ({ cls := "TwoTonguesModel", name := "standsAt", desc := "(II)Z" } : Jvm.MethodName) prog_22_method_60_code (5 : Nat) (Option.some Jvm.ClassFile.FieldType.boolean)) ∈ lw_all := lw_g (lw_at lw_m8 189 rfl) rfl
theorem q2001 : (Jvm.Cond.instanceMethod ({ cls := "TwoTonguesModel", name := "worth", desc := "(II)I" } : Jvm.MethodName)) ∈ lw_all := lw_g (lw_at lw_m8 191 rfl) rfl
theorem q2002 : (Jvm.Cond.selects "TwoTonguesModel" ({ cls := "TwoTonguesModel", name := "worth", desc := "(II)I" } : Jvm.MethodName) ({ cls := "TwoTonguesModel", name := "worth", desc := "(II)I" } : Jvm.MethodName)) ∈ lw_all := lw_g (lw_at lw_m8 192 rfl) rfl
theorem q2003 : (Jvm.Cond.code ({ cls := "TwoTonguesModel", name := "worth", desc := "(II)I" } : Jvm.MethodName) prog_22_method_64_code (3 : Nat) (Option.some Jvm.ClassFile.FieldType.int)) ∈ lw_all := lw_g (lw_at lw_m8 193 rfl) rfl
theorem q2005 : (Jvm.Cond.instanceMethod ({ cls := "TwoTonguesModel", name := "said", desc := "(III)I" } : Jvm.MethodName)) ∈ lw_all := lw_g (lw_at lw_m8 195 rfl) rfl
theorem q2006 : (Jvm.Cond.selects "TwoTonguesModel" ({ cls := "TwoTonguesModel", name := "said", desc := "(III)I" } : Jvm.MethodName) ({ cls := "TwoTonguesModel", name := "said", desc := "(III)I" } : Jvm.MethodName)) ∈ lw_all := lw_g (lw_at lw_m8 196 rfl) rfl
theorem q2007 : (Jvm.Cond.code ({ cls := "TwoTonguesModel", name := "said", desc := "(III)I" } : Jvm.MethodName) prog_22_method_65_code (7 : Nat) (Option.some Jvm.ClassFile.FieldType.int)) ∈ lw_all := lw_g (lw_at lw_m8 197 rfl) rfl
theorem q2009 : (Jvm.Cond.instanceMethod ({ cls := "TwoTonguesModel", name := "says", desc := "(III)I" } : Jvm.MethodName)) ∈ lw_all := lw_g (lw_at lw_m8 199 rfl) rfl
theorem q2010 : (Jvm.Cond.selects "TwoTonguesModel" ({ cls := "TwoTonguesModel", name := "says", desc := "(III)I" } : Jvm.MethodName) ({ cls := "TwoTonguesModel", name := "says", desc := "(III)I" } : Jvm.MethodName)) ∈ lw_all := lw_g (lw_at lw_m8 200 rfl) rfl
theorem q2011 : (Jvm.Cond.code ({ cls := "TwoTonguesModel", name := "says", desc := "(III)I" } : Jvm.MethodName) prog_22_method_69_code (4 : Nat) (Option.some Jvm.ClassFile.FieldType.int)) ∈ lw_all := lw_g (lw_at lw_m8 201 rfl) rfl
theorem q2012 : (Jvm.Cond.methodLink "TwoTonguesModel" (435 : Nat) ({ cls := "TwoTonguesModel", name := "isDay", desc := "(I)Z" } : Jvm.MethodName)) ∈ lw_all := lw_g (lw_at lw_m8 202 rfl) rfl
theorem q2013 : (Jvm.Cond.static ({ cls := "TwoTonguesModel", name := "isDay", desc := "(I)Z" } : Jvm.MethodName)) ∈ lw_all := lw_g (lw_at lw_m8 203 rfl) rfl
theorem q2014 : (Jvm.Cond.code ({ cls := "TwoTonguesModel", name := "isDay", desc := "(I)Z" } : Jvm.MethodName) prog_22_method_68_code (1 : Nat) (Option.some Jvm.ClassFile.FieldType.boolean)) ∈ lw_all := lw_g (lw_at lw_m8 204 rfl) rfl
theorem q2015 : (Jvm.Cond.methodLink "TwoTonguesModel" (438 : Nat) ({ cls := "TwoTonguesModel", name := "saysOn", desc := "(III)Z" } : Jvm.MethodName)) ∈ lw_all := lw_g (lw_at lw_m8 205 rfl) rfl
theorem q2016 : (Jvm.Cond.privateMethod ({ cls := "TwoTonguesModel", name := "saysOn", desc := "(III)Z" } : Jvm.MethodName)) ∈ lw_tbl := lw_at lw_m8 206 rfl
theorem q2017 : (Jvm.Cond.instanceMethod ({ cls := "TwoTonguesModel", name := "saysOn", desc := "(III)Z" } : Jvm.MethodName)) ∈ lw_all := lw_g (lw_at lw_m8 207 rfl) rfl
theorem q2018 : (Jvm.Cond.code ({ cls := "TwoTonguesModel", name := "saysOn", desc := "(III)Z" } : Jvm.MethodName) prog_22_method_67_code (4 : Nat) (Option.some Jvm.ClassFile.FieldType.boolean)) ∈ lw_all := lw_g (lw_at lw_m8 208 rfl) rfl
theorem q2019 : (Jvm.Cond.methodLink "TwoTonguesModel" (432 : Nat) ({ cls := "TwoTonguesModel", name := "isCovered", desc := "(II)Z" } : Jvm.MethodName)) ∈ lw_all := lw_g (lw_at lw_m8 209 rfl) rfl
theorem q2020 : (Jvm.Cond.privateMethod ({ cls := "TwoTonguesModel", name := "isCovered", desc := "(II)Z" } : Jvm.MethodName)) ∈ lw_tbl := lw_at lw_m8 210 rfl
theorem q2021 : (Jvm.Cond.instanceMethod ({ cls := "TwoTonguesModel", name := "isCovered", desc := "(II)Z" } : Jvm.MethodName)) ∈ lw_all := lw_g (lw_at lw_m8 211 rfl) rfl
theorem q2022 : (Jvm.Cond.code ({ cls := "TwoTonguesModel", name := "isCovered", desc := "(II)Z" } : Jvm.MethodName) prog_22_method_66_code (4 : Nat) (Option.some Jvm.ClassFile.FieldType.boolean)) ∈ lw_all := lw_g (lw_at lw_m8 212 rfl) rfl
theorem q2024 : (Jvm.Cond.instanceMethod ({ cls := "TwoTonguesModel", name := "nights", desc := "(I)I" } : Jvm.MethodName)) ∈ lw_all := lw_g (lw_at lw_m8 214 rfl) rfl
theorem q2025 : (Jvm.Cond.selects "TwoTonguesModel" ({ cls := "TwoTonguesModel", name := "nights", desc := "(I)I" } : Jvm.MethodName) ({ cls := "TwoTonguesModel", name := "nights", desc := "(I)I" } : Jvm.MethodName)) ∈ lw_all := lw_g (lw_at lw_m8 215 rfl) rfl
theorem q2026 : (Jvm.Cond.code ({ cls := "TwoTonguesModel", name := "nights", desc := "(I)I" } : Jvm.MethodName) prog_22_method_73_code (4 : Nat) (Option.some Jvm.ClassFile.FieldType.int)) ∈ lw_all := lw_g (lw_at lw_m8 216 rfl) rfl
theorem q2027 : (Jvm.Cond.methodLink "TwoTonguesModel" (449 : Nat) ({ cls := "TwoTonguesModel", name := "number1", desc := "(I)I" } : Jvm.MethodName)) ∈ lw_all := lw_g (lw_at lw_m8 217 rfl) rfl
theorem q2028 : (Jvm.Cond.privateMethod ({ cls := "TwoTonguesModel", name := "number1", desc := "(I)I" } : Jvm.MethodName)) ∈ lw_tbl := lw_at lw_m8 218 rfl
theorem q2029 : (Jvm.Cond.instanceMethod ({ cls := "TwoTonguesModel", name := "number1", desc := "(I)I" } : Jvm.MethodName)) ∈ lw_all := lw_g (lw_at lw_m8 219 rfl) rfl
theorem q2030 : (Jvm.Cond.code ({ cls := "TwoTonguesModel", name := "number1", desc := "(I)I" } : Jvm.MethodName) prog_22_method_72_code (2 : Nat) (Option.some Jvm.ClassFile.FieldType.int)) ∈ lw_all := lw_g (lw_at lw_m8 220 rfl) rfl
theorem q2031 : (Jvm.Cond.constantLong "TwoTonguesModel" (441 : Nat) (1103515245 : Int64)) ∈ lw_all := lw_g (lw_at lw_m8 221 rfl) rfl
theorem q2032 : (Jvm.Cond.constantLong "TwoTonguesModel" (443 : Nat) (12345 : Int64)) ∈ lw_all := lw_g (lw_at lw_m8 222 rfl) rfl
theorem q2033 : (Jvm.Cond.constantLong "TwoTonguesModel" (445 : Nat) (2147483647 : Int64)) ∈ lw_all := lw_g (lw_at lw_m8 223 rfl) rfl
theorem q2034 : (Jvm.Cond.constantLong "TwoTonguesModel" (447 : Nat) (65536 : Int64)) ∈ lw_all := lw_g (lw_at lw_m8 224 rfl) rfl
theorem q2036 : (Jvm.Cond.instanceMethod ({ cls := "TwoTonguesModel", name := "put", desc := "(III)I" } : Jvm.MethodName)) ∈ lw_all := lw_g (lw_at lw_m8 226 rfl) rfl
theorem q2037 : (Jvm.Cond.selects "TwoTonguesModel" ({ cls := "TwoTonguesModel", name := "put", desc := "(III)I" } : Jvm.MethodName) ({ cls := "TwoTonguesModel", name := "put", desc := "(III)I" } : Jvm.MethodName)) ∈ lw_all := lw_g (lw_at lw_m8 227 rfl) rfl
theorem q2038 : (Jvm.Cond.code ({ cls := "TwoTonguesModel", name := "put", desc := "(III)I" } : Jvm.MethodName) prog_22_method_74_code (4 : Nat) (Option.some Jvm.ClassFile.FieldType.int)) ∈ lw_all := lw_g (lw_at lw_m8 228 rfl) rfl
theorem q2039 : (Jvm.Cond.methodLink "TwoTonguesModel" (452 : Nat) ({ cls := "TwoTonguesModel", name := "remember", desc := "(III)V" } : Jvm.MethodName)) ∈ lw_all := lw_g (lw_at lw_m8 229 rfl) rfl
theorem q2040 : (Jvm.Cond.privateMethod ({ cls := "TwoTonguesModel", name := "remember", desc := "(III)V" } : Jvm.MethodName)) ∈ lw_tbl := lw_at lw_m8 230 rfl
theorem q2041 : (Jvm.Cond.instanceMethod ({ cls := "TwoTonguesModel", name := "remember", desc := "(III)V" } : Jvm.MethodName)) ∈ lw_all := lw_g (lw_at lw_m8 231 rfl) rfl
theorem q2042 : (Jvm.Cond.code ({ cls := "TwoTonguesModel", name := "remember", desc := "(III)V" } : Jvm.MethodName) prog_22_method_71_code (5 : Nat) (Option.none : Option Jvm.ClassFile.FieldType)) ∈ lw_all := lw_g (lw_at lw_m8 232 rfl) rfl
theorem q2044 : (Jvm.Cond.instanceMethod ({ cls := "TwoTonguesModel", name := "lose", desc := "(II)Z" } : Jvm.MethodName)) ∈ lw_all := lw_g (lw_at lw_m8 234 rfl) rfl
theorem q2045 : (Jvm.Cond.selects "TwoTonguesModel" ({ cls := "TwoTonguesModel", name := "lose", desc := "(II)Z" } : Jvm.MethodName) ({ cls := "TwoTonguesModel", name := "lose", desc := "(II)Z" } : Jvm.MethodName)) ∈ lw_all := lw_g (lw_at lw_m8 235 rfl) rfl
theorem q2046 : (Jvm.Cond.code ({ cls := "TwoTonguesModel", name := "lose", desc := "(II)Z" } : Jvm.MethodName) prog_22_method_75_code (3 : Nat) (Option.some Jvm.ClassFile.FieldType.boolean)) ∈ lw_all := lw_g (lw_at lw_m8 236 rfl) rfl
theorem q2048 : (Jvm.Cond.instanceMethod ({ cls := "TwoTonguesModel", name := "coin", desc := "(III)I" } : Jvm.MethodName)) ∈ lw_all := lw_g (lw_at lw_m8 238 rfl) rfl
theorem q2049 : (Jvm.Cond.selects "TwoTonguesModel" ({ cls := "TwoTonguesModel", name := "coin", desc := "(III)I" } : Jvm.MethodName) ({ cls := "TwoTonguesModel", name := "coin", desc := "(III)I" } : Jvm.MethodName)) ∈ lw_all := lw_g (lw_at lw_m8 239 rfl) rfl
theorem q2050 : (Jvm.Cond.code ({ cls := "TwoTonguesModel", name := "coin", desc := "(III)I" } : Jvm.MethodName) prog_22_method_77_code (4 : Nat) (Option.some Jvm.ClassFile.FieldType.int)) ∈ lw_all := lw_g (lw_at lw_m9 0 rfl) rfl
theorem q2051 : (Jvm.Cond.methodLink "TwoTonguesModel" (455 : Nat) ({ cls := "TwoTonguesModel", name := "isName", desc := "(I)Z" } : Jvm.MethodName)) ∈ lw_all := lw_g (lw_at lw_m9 1 rfl) rfl
theorem q2052 : (Jvm.Cond.static ({ cls := "TwoTonguesModel", name := "isName", desc := "(I)Z" } : Jvm.MethodName)) ∈ lw_all := lw_g (lw_at lw_m9 2 rfl) rfl
theorem q2053 : (Jvm.Cond.code ({ cls := "TwoTonguesModel", name := "isName", desc := "(I)Z" } : Jvm.MethodName) prog_22_method_76_code (3 : Nat) (Option.some Jvm.ClassFile.FieldType.boolean)) ∈ lw_all := lw_g (lw_at lw_m9 3 rfl) rfl
theorem q2055 : (Jvm.Cond.instanceMethod ({ cls := "TwoTonguesModel", name := "undo", desc := "()I" } : Jvm.MethodName)) ∈ lw_all := lw_g (lw_at lw_m9 5 rfl) rfl
theorem q2056 : (Jvm.Cond.selects "TwoTonguesModel" ({ cls := "TwoTonguesModel", name := "undo", desc := "()I" } : Jvm.MethodName) ({ cls := "TwoTonguesModel", name := "undo", desc := "()I" } : Jvm.MethodName)) ∈ lw_all := lw_g (lw_at lw_m9 6 rfl) rfl
theorem q2057 : (Jvm.Cond.code ({ cls := "TwoTonguesModel", name := "undo", desc := "()I" } : Jvm.MethodName) prog_22_method_78_code (3 : Nat) (Option.some Jvm.ClassFile.FieldType.int)) ∈ lw_all := lw_g (lw_at lw_m9 7 rfl) rfl
theorem q2059 : (Jvm.Cond.instanceMethod ({ cls := "TwoTonguesModel", name := "serving", desc := "(II)I" } : Jvm.MethodName)) ∈ lw_all := lw_g (lw_at lw_m9 9 rfl) rfl
theorem q2060 : (Jvm.Cond.selects "TwoTonguesModel" ({ cls := "TwoTonguesModel", name := "serving", desc := "(II)I" } : Jvm.MethodName) ({ cls := "TwoTonguesModel", name := "serving", desc := "(II)I" } : Jvm.MethodName)) ∈ lw_all := lw_g (lw_at lw_m9 10 rfl) rfl
theorem q2061 : (Jvm.Cond.code ({ cls := "TwoTonguesModel", name := "serving", desc := "(II)I" } : Jvm.MethodName) prog_22_method_95_code (3 : Nat) (Option.some Jvm.ClassFile.FieldType.int)) ∈ lw_all := lw_g (lw_at lw_m9 11 rfl) rfl
theorem q2062 : (Jvm.Cond.methodLink "TwoTonguesModel" (509 : Nat) ({ cls := "TwoTonguesModel", name := "areRows", desc := "(II)Z" } : Jvm.MethodName)) ∈ lw_all := lw_g (lw_at lw_m9 12 rfl) rfl
theorem q2063 : (Jvm.Cond.static ({ cls := "TwoTonguesModel", name := "areRows", desc := "(II)Z" } : Jvm.MethodName)) ∈ lw_all := lw_g (lw_at lw_m9 13 rfl) rfl
theorem q2064 : (Jvm.Cond.code ({ cls := "TwoTonguesModel", name := "areRows", desc := "(II)Z" } : Jvm.MethodName) prog_22_method_92_code (2 : Nat) (Option.some Jvm.ClassFile.FieldType.boolean)) ∈ lw_all := lw_g (lw_at lw_m9 14 rfl) rfl
theorem q2065 : (Jvm.Cond.methodLink "TwoTonguesModel" (512 : Nat) ({ cls := "TwoTonguesModel", name := "anyLetters", desc := "()V" } : Jvm.MethodName)) ∈ lw_all := lw_g (lw_at lw_m9 15 rfl) rfl
theorem q2066 : (Jvm.Cond.privateMethod ({ cls := "TwoTonguesModel", name := "anyLetters", desc := "()V" } : Jvm.MethodName)) ∈ lw_tbl := lw_at lw_m9 16 rfl
theorem q2067 : (Jvm.Cond.instanceMethod ({ cls := "TwoTonguesModel", name := "anyLetters", desc := "()V" } : Jvm.MethodName)) ∈ lw_all := lw_g (lw_at lw_m9 17 rfl) rfl
theorem q2068 : (Jvm.Cond.code ({ cls := "TwoTonguesModel", name := "anyLetters", desc := "()V" } : Jvm.MethodName) prog_22_method_86_code (2 : Nat) (Option.none : Option Jvm.ClassFile.FieldType)) ∈ lw_all := lw_g (lw_at lw_m9 18 rfl) rfl
theorem q2069 : (Jvm.Cond.methodLink "TwoTonguesModel" (515 : Nat) ({ cls := "TwoTonguesModel", name := "layRows", desc := "(II)V" } : Jvm.MethodName)) ∈ lw_all := lw_g (lw_at lw_m9 19 rfl) rfl
theorem q2070 : (Jvm.Cond.privateMethod ({ cls := "TwoTonguesModel", name := "layRows", desc := "(II)V" } : Jvm.MethodName)) ∈ lw_tbl := lw_at lw_m9 20 rfl
theorem q2071 : (Jvm.Cond.instanceMethod ({ cls := "TwoTonguesModel", name := "layRows", desc := "(II)V" } : Jvm.MethodName)) ∈ lw_all := lw_g (lw_at lw_m9 21 rfl) rfl
theorem q2072 : (Jvm.Cond.code ({ cls := "TwoTonguesModel", name := "layRows", desc := "(II)V" } : Jvm.MethodName) prog_22_method_85_code (6 : Nat) (Option.none : Option Jvm.ClassFile.FieldType)) ∈ lw_all := lw_g (lw_at lw_m9 22 rfl) rfl
theorem q2073 : (Jvm.Cond.methodLink "TwoTonguesModel" (472 : Nat) ({ cls := "TwoTonguesModel", name := "slot", desc := "(III)I" } : Jvm.MethodName)) ∈ lw_all := lw_g (lw_at lw_m9 23 rfl) rfl
theorem q2074 : (Jvm.Cond.static ({ cls := "TwoTonguesModel", name := "slot", desc := "(III)I" } : Jvm.MethodName)) ∈ lw_all := lw_g (lw_at lw_m9 24 rfl) rfl
theorem q2075 : (Jvm.Cond.code ({ cls := "TwoTonguesModel", name := "slot", desc := "(III)I" } : Jvm.MethodName) prog_22_method_82_code (3 : Nat) (Option.some Jvm.ClassFile.FieldType.int)) ∈ lw_all := lw_g (lw_at lw_m9 25 rfl) rfl
theorem q2076 : (Jvm.Cond.methodLink "TwoTonguesModel" (478 : Nat) ({ cls := "TwoTonguesModel", name := "isSpot", desc := "(II)Z" } : Jvm.MethodName)) ∈ lw_all := lw_g (lw_at lw_m9 26 rfl) rfl
theorem q2077 : (Jvm.Cond.privateMethod ({ cls := "TwoTonguesModel", name := "isSpot", desc := "(II)Z" } : Jvm.MethodName)) ∈ lw_tbl := lw_at lw_m9 27 rfl
theorem q2078 : (Jvm.Cond.instanceMethod ({ cls := "TwoTonguesModel", name := "isSpot", desc := "(II)Z" } : Jvm.MethodName)) ∈ lw_all := lw_g (lw_at lw_m9 28 rfl) rfl
theorem q2079 : (Jvm.Cond.code ({ cls := "TwoTonguesModel", name := "isSpot", desc := "(II)Z" } : Jvm.MethodName) prog_22_method_83_code (3 : Nat) (Option.some Jvm.ClassFile.FieldType.boolean)) ∈ lw_all := lw_g (lw_at lw_m9 29 rfl) rfl
theorem q2080 : (Jvm.Cond.methodLink "TwoTonguesModel" (481 : Nat) ({ cls := "TwoTonguesModel", name := "leastOf", desc := "(III)I" } : Jvm.MethodName)) ∈ lw_all := lw_g (lw_at lw_m9 30 rfl) rfl
theorem q2081 : (Jvm.Cond.privateMethod ({ cls := "TwoTonguesModel", name := "leastOf", desc := "(III)I" } : Jvm.MethodName)) ∈ lw_tbl := lw_at lw_m9 31 rfl
theorem q2082 : (Jvm.Cond.instanceMethod ({ cls := "TwoTonguesModel", name := "leastOf", desc := "(III)I" } : Jvm.MethodName)) ∈ lw_all := lw_g (lw_at lw_m9 32 rfl) rfl
theorem q2083 : (Jvm.Cond.code ({ cls := "TwoTonguesModel", name := "leastOf", desc := "(III)I" } : Jvm.MethodName) prog_22_method_84_code (14 : Nat) (Option.some Jvm.ClassFile.FieldType.int)) ∈ lw_all := lw_g (lw_at lw_m9 33 rfl) rfl
theorem q2084 : (Jvm.Cond.methodLink "TwoTonguesModel" (461 : Nat) ({ cls := "TwoTonguesModel", name := "letterTo", desc := "(III)I" } : Jvm.MethodName)) ∈ lw_all := lw_g (lw_at lw_m9 34 rfl) rfl
theorem q2085 : (Jvm.Cond.privateMethod ({ cls := "TwoTonguesModel", name := "letterTo", desc := "(III)I" } : Jvm.MethodName)) ∈ lw_tbl := lw_at lw_m9 35 rfl
theorem q2086 : (Jvm.Cond.instanceMethod ({ cls := "TwoTonguesModel", name := "letterTo", desc := "(III)I" } : Jvm.MethodName)) ∈ lw_all := lw_g (lw_at lw_m9 36 rfl) rfl
theorem q2087 : (Jvm.Cond.code ({ cls := "TwoTonguesModel", name := "letterTo", desc := "(III)I" } : Jvm.MethodName) prog_22_method_79_code (5 : Nat) (Option.some Jvm.ClassFile.FieldType.int)) ∈ lw_all := lw_g (lw_at lw_m9 37 rfl) rfl
theorem q2088 : (Jvm.Cond.methodLink "TwoTonguesModel" (468 : Nat) ({ cls := "TwoTonguesModel", name := "goes", desc := "(IIII)I" } : Jvm.MethodName)) ∈ lw_all := lw_g (lw_at lw_m9 38 rfl) rfl
theorem q2089 : (Jvm.Cond.privateMethod ({ cls := "TwoTonguesModel", name := "goes", desc := "(IIII)I" } : Jvm.MethodName)) ∈ lw_tbl := lw_at lw_m9 39 rfl
theorem q2090 : (Jvm.Cond.instanceMethod ({ cls := "TwoTonguesModel", name := "goes", desc := "(IIII)I" } : Jvm.MethodName)) ∈ lw_all := lw_g (lw_at lw_m9 40 rfl) rfl
theorem q2091 : (Jvm.Cond.code ({ cls := "TwoTonguesModel", name := "goes", desc := "(IIII)I" } : Jvm.MethodName) prog_22_method_81_code (7 : Nat) (Option.some Jvm.ClassFile.FieldType.int)) ∈ lw_all := lw_g (lw_at lw_m9 41 rfl) rfl
theorem q2092 : (Jvm.Cond.methodLink "TwoTonguesModel" (465 : Nat) ({ cls := "TwoTonguesModel", name := "behind", desc := "(III)I" } : Jvm.MethodName)) ∈ lw_all := lw_g (lw_at lw_m9 42 rfl) rfl
theorem q2093 : (Jvm.Cond.privateMethod ({ cls := "TwoTonguesModel", name := "behind", desc := "(III)I" } : Jvm.MethodName)) ∈ lw_tbl := lw_at lw_m9 43 rfl
theorem q2094 : (Jvm.Cond.instanceMethod ({ cls := "TwoTonguesModel", name := "behind", desc := "(III)I" } : Jvm.MethodName)) ∈ lw_all := lw_g (lw_at lw_m9 44 rfl) rfl
theorem q2095 : (Jvm.Cond.code ({ cls := "TwoTonguesModel", name := "behind", desc := "(III)I" } : Jvm.MethodName) prog_22_method_80_code (4 : Nat) (Option.some Jvm.ClassFile.FieldType.int)) ∈ lw_all := lw_g (lw_at lw_m9 45 rfl) rfl
theorem q2096 : (Jvm.Cond.methodLink "TwoTonguesModel" (518 : Nat) ({ cls := "TwoTonguesModel", name := "manyRows", desc := "()I" } : Jvm.MethodName)) ∈ lw_all := lw_g (lw_at lw_m9 46 rfl) rfl
theorem q2097 : (Jvm.Cond.privateMethod ({ cls := "TwoTonguesModel", name := "manyRows", desc := "()I" } : Jvm.MethodName)) ∈ lw_tbl := lw_at lw_m9 47 rfl
theorem q2098 : (Jvm.Cond.instanceMethod ({ cls := "TwoTonguesModel", name := "manyRows", desc := "()I" } : Jvm.MethodName)) ∈ lw_all := lw_g (lw_at lw_m9 48 rfl) rfl
theorem q2099 : (Jvm.Cond.code ({ cls := "TwoTonguesModel", name := "manyRows", desc := "()I" } : Jvm.MethodName) prog_22_method_93_code (1 : Nat) (Option.some Jvm.ClassFile.FieldType.int)) ∈ lw_all := lw_g (lw_at lw_m9 49 rfl) rfl
theorem q2100 : (Jvm.Cond.methodLink "TwoTonguesModel" (504 : Nat) ({ cls := "TwoTonguesModel", name := "layAll", desc := "(II)V" } : Jvm.MethodName)) ∈ lw_all := lw_g (lw_at lw_m9 50 rfl) rfl
theorem q2101 : (Jvm.Cond.privateMethod ({ cls := "TwoTonguesModel", name := "layAll", desc := "(II)V" } : Jvm.MethodName)) ∈ lw_tbl := lw_at lw_m9 51 rfl
theorem q2102 : (Jvm.Cond.instanceMethod ({ cls := "TwoTonguesModel", name := "layAll", desc := "(II)V" } : Jvm.MethodName)) ∈ lw_all := lw_g (lw_at lw_m9 52 rfl) rfl
theorem q2103 : (Jvm.Cond.code ({ cls := "TwoTonguesModel", name := "layAll", desc := "(II)V" } : Jvm.MethodName) prog_22_method_91_code (4 : Nat) (Option.none : Option Jvm.ClassFile.FieldType)) ∈ lw_all := lw_g (lw_at lw_m9 53 rfl) rfl
theorem q2104 : (Jvm.Cond.methodLink "TwoTonguesModel" (497 : Nat) ({ cls := "TwoTonguesModel", name := "step", desc := "(II)I" } : Jvm.MethodName)) ∈ lw_all := lw_g (lw_at lw_m9 54 rfl) rfl
theorem q2105 : (Jvm.Cond.privateMethod ({ cls := "TwoTonguesModel", name := "step", desc := "(II)I" } : Jvm.MethodName)) ∈ lw_tbl := lw_at lw_m9 55 rfl
theorem q2106 : (Jvm.Cond.instanceMethod ({ cls := "TwoTonguesModel", name := "step", desc := "(II)I" } : Jvm.MethodName)) ∈ lw_all := lw_g (lw_at lw_m9 56 rfl) rfl
theorem q2107 : (Jvm.Cond.code ({ cls := "TwoTonguesModel", name := "step", desc := "(II)I" } : Jvm.MethodName) prog_22_method_89_code (3 : Nat) (Option.some Jvm.ClassFile.FieldType.int)) ∈ lw_all := lw_g (lw_at lw_m9 57 rfl) rfl
theorem q2108 : (Jvm.Cond.methodLink "TwoTonguesModel" (484 : Nat) ({ cls := "TwoTonguesModel", name := "layStep", desc := "([ZIII)V" } : Jvm.MethodName)) ∈ lw_all := lw_g (lw_at lw_m9 58 rfl) rfl
theorem q2109 : (Jvm.Cond.privateMethod ({ cls := "TwoTonguesModel", name := "layStep", desc := "([ZIII)V" } : Jvm.MethodName)) ∈ lw_tbl := lw_at lw_m9 59 rfl
theorem q2110 : (Jvm.Cond.instanceMethod ({ cls := "TwoTonguesModel", name := "layStep", desc := "([ZIII)V" } : Jvm.MethodName)) ∈ lw_all := lw_g (lw_at lw_m9 60 rfl) rfl
theorem q2111 : (Jvm.Cond.code ({ cls := "TwoTonguesModel", name := "layStep", desc := "([ZIII)V" } : Jvm.MethodName) prog_22_method_87_code (9 : Nat) (Option.none : Option Jvm.ClassFile.FieldType)) ∈ lw_all := lw_g (lw_at lw_m9 61 rfl) rfl
theorem q2112 : (Jvm.Cond.methodLink "TwoTonguesModel" (488 : Nat) ({ cls := "TwoTonguesModel", name := "stillOf", desc := "(I)I" } : Jvm.MethodName)) ∈ lw_all := lw_g (lw_at lw_m9 62 rfl) rfl
theorem q2113 : (Jvm.Cond.privateMethod ({ cls := "TwoTonguesModel", name := "stillOf", desc := "(I)I" } : Jvm.MethodName)) ∈ lw_tbl := lw_at lw_m9 63 rfl
theorem q2114 : (Jvm.Cond.instanceMethod ({ cls := "TwoTonguesModel", name := "stillOf", desc := "(I)I" } : Jvm.MethodName)) ∈ lw_all := lw_g (lw_at lw_m9 64 rfl) rfl
theorem q2115 : (Jvm.Cond.code ({ cls := "TwoTonguesModel", name := "stillOf", desc := "(I)I" } : Jvm.MethodName) prog_22_method_88_code (5 : Nat) (Option.some Jvm.ClassFile.FieldType.int)) ∈ lw_all := lw_g (lw_at lw_m9 65 rfl) rfl
theorem q2116 : (Jvm.Cond.methodLink "TwoTonguesModel" (500 : Nat) ({ cls := "TwoTonguesModel", name := "rowTold", desc := "(I)J" } : Jvm.MethodName)) ∈ lw_all := lw_g (lw_at lw_m9 66 rfl) rfl
theorem q2117 : (Jvm.Cond.privateMethod ({ cls := "TwoTonguesModel", name := "rowTold", desc := "(I)J" } : Jvm.MethodName)) ∈ lw_tbl := lw_at lw_m9 67 rfl
theorem q2118 : (Jvm.Cond.instanceMethod ({ cls := "TwoTonguesModel", name := "rowTold", desc := "(I)J" } : Jvm.MethodName)) ∈ lw_all := lw_g (lw_at lw_m9 68 rfl) rfl
theorem q2119 : (Jvm.Cond.code ({ cls := "TwoTonguesModel", name := "rowTold", desc := "(I)J" } : Jvm.MethodName) prog_22_method_90_code (5 : Nat) (Option.some Jvm.ClassFile.FieldType.long)) ∈ lw_all := lw_g (lw_at lw_m9 69 rfl) rfl
theorem q2121 : (Jvm.Cond.instanceMethod ({ cls := "TwoTonguesModel", name := "serves", desc := "(III)J" } : Jvm.MethodName)) ∈ lw_all := lw_g (lw_at lw_m9 71 rfl) rfl
theorem q2122 : (Jvm.Cond.selects "TwoTonguesModel" ({ cls := "TwoTonguesModel", name := "serves", desc := "(III)J" } : Jvm.MethodName) ({ cls := "TwoTonguesModel", name := "serves", desc := "(III)J" } : Jvm.MethodName)) ∈ lw_all := lw_g (lw_at lw_m9 72 rfl) rfl
theorem q2123 : (Jvm.Cond.code ({ cls := "TwoTonguesModel", name := "serves", desc := "(III)J" } : Jvm.MethodName) prog_22_method_96_code (4 : Nat) (Option.some Jvm.ClassFile.FieldType.long)) ∈ lw_all := lw_g (lw_at lw_m9 73 rfl) rfl
theorem q2124 : (Jvm.Cond.methodLink "TwoTonguesModel" (521 : Nat) ({ cls := "TwoTonguesModel", name := "rowAt", desc := "(I)J" } : Jvm.MethodName)) ∈ lw_all := lw_g (lw_at lw_m9 74 rfl) rfl
theorem q2125 : (Jvm.Cond.privateMethod ({ cls := "TwoTonguesModel", name := "rowAt", desc := "(I)J" } : Jvm.MethodName)) ∈ lw_tbl := lw_at lw_m9 75 rfl
theorem q2126 : (Jvm.Cond.instanceMethod ({ cls := "TwoTonguesModel", name := "rowAt", desc := "(I)J" } : Jvm.MethodName)) ∈ lw_all := lw_g (lw_at lw_m9 76 rfl) rfl
theorem q2127 : (Jvm.Cond.code ({ cls := "TwoTonguesModel", name := "rowAt", desc := "(I)J" } : Jvm.MethodName) prog_22_method_94_code (2 : Nat) (Option.some Jvm.ClassFile.FieldType.long)) ∈ lw_all := lw_g (lw_at lw_m9 77 rfl) rfl
theorem q2128 : (Jvm.Cond.constantLong "TwoTonguesModel" (507 : Nat) (-2 : Int64)) ∈ lw_all := lw_g (lw_at lw_m9 78 rfl) rfl
theorem q2130 : (Jvm.Cond.instanceMethod ({ cls := "TwoTonguesModel", name := "lightest", desc := "(II)I" } : Jvm.MethodName)) ∈ lw_all := lw_g (lw_at lw_m9 80 rfl) rfl
theorem q2131 : (Jvm.Cond.selects "TwoTonguesModel" ({ cls := "TwoTonguesModel", name := "lightest", desc := "(II)I" } : Jvm.MethodName) ({ cls := "TwoTonguesModel", name := "lightest", desc := "(II)I" } : Jvm.MethodName)) ∈ lw_all := lw_g (lw_at lw_m9 81 rfl) rfl
theorem q2132 : (Jvm.Cond.code ({ cls := "TwoTonguesModel", name := "lightest", desc := "(II)I" } : Jvm.MethodName) prog_22_method_97_code (4 : Nat) (Option.some Jvm.ClassFile.FieldType.int)) ∈ lw_all := lw_g (lw_at lw_m9 82 rfl) rfl
theorem q2134 : (Jvm.Cond.instanceMethod ({ cls := "TwoTonguesModel", name := "light", desc := "(II)J" } : Jvm.MethodName)) ∈ lw_all := lw_g (lw_at lw_m9 84 rfl) rfl
theorem q2135 : (Jvm.Cond.selects "TwoTonguesModel" ({ cls := "TwoTonguesModel", name := "light", desc := "(II)J" } : Jvm.MethodName) ({ cls := "TwoTonguesModel", name := "light", desc := "(II)J" } : Jvm.MethodName)) ∈ lw_all := lw_g (lw_at lw_m9 85 rfl) rfl
theorem q2136 : (Jvm.Cond.code ({ cls := "TwoTonguesModel", name := "light", desc := "(II)J" } : Jvm.MethodName) prog_22_method_98_code (6 : Nat) (Option.some Jvm.ClassFile.FieldType.long)) ∈ lw_all := lw_g (lw_at lw_m9 86 rfl) rfl
theorem q2138 : (Jvm.Cond.instanceMethod ({ cls := "TwoTonguesModel", name := "charred", desc := "(I)I" } : Jvm.MethodName)) ∈ lw_all := lw_g (lw_at lw_m9 88 rfl) rfl
theorem q2139 : (Jvm.Cond.selects "TwoTonguesModel" ({ cls := "TwoTonguesModel", name := "charred", desc := "(I)I" } : Jvm.MethodName) ({ cls := "TwoTonguesModel", name := "charred", desc := "(I)I" } : Jvm.MethodName)) ∈ lw_all := lw_g (lw_at lw_m9 89 rfl) rfl
theorem q2140 : (Jvm.Cond.code ({ cls := "TwoTonguesModel", name := "charred", desc := "(I)I" } : Jvm.MethodName) prog_22_method_100_code (2 : Nat) (Option.some Jvm.ClassFile.FieldType.int)) ∈ lw_all := lw_g (lw_at lw_m9 90 rfl) rfl
theorem q2141 : (Jvm.Cond.methodLink "TwoTonguesModel" (524 : Nat) ({ cls := "TwoTonguesModel", name := "layCharred", desc := "(I)V" } : Jvm.MethodName)) ∈ lw_all := lw_g (lw_at lw_m9 91 rfl) rfl
theorem q2142 : (Jvm.Cond.privateMethod ({ cls := "TwoTonguesModel", name := "layCharred", desc := "(I)V" } : Jvm.MethodName)) ∈ lw_tbl := lw_at lw_m9 92 rfl
theorem q2143 : (Jvm.Cond.instanceMethod ({ cls := "TwoTonguesModel", name := "layCharred", desc := "(I)V" } : Jvm.MethodName)) ∈ lw_all := lw_g (lw_at lw_m9 93 rfl) rfl
theorem q2144 : (Jvm.Cond.code ({ cls := "TwoTonguesModel", name := "layCharred", desc := "(I)V" } : Jvm.MethodName) prog_22_method_99_code (3 : Nat) (Option.none : Option Jvm.ClassFile.FieldType)) ∈ lw_all := lw_g (lw_at lw_m9 94 rfl) rfl
theorem q2146 : (Jvm.Cond.instanceMethod ({ cls := "TwoTonguesModel", name := "filled", desc := "(II)J" } : Jvm.MethodName)) ∈ lw_all := lw_g (lw_at lw_m9 96 rfl) rfl
theorem q2147 : (Jvm.Cond.selects "TwoTonguesModel" ({ cls := "TwoTonguesModel", name := "filled", desc := "(II)J" } : Jvm.MethodName) ({ cls := "TwoTonguesModel", name := "filled", desc := "(II)J" } : Jvm.MethodName)) ∈ lw_all := lw_g (lw_at lw_m9 97 rfl) rfl
theorem q2148 : (Jvm.Cond.code ({ cls := "TwoTonguesModel", name := "filled", desc := "(II)J" } : Jvm.MethodName) prog_22_method_101_code (3 : Nat) (Option.some Jvm.ClassFile.FieldType.long)) ∈ lw_all := lw_g (lw_at lw_m9 98 rfl) rfl
theorem q2150 : (Jvm.Cond.instanceMethod ({ cls := "TwoTonguesModel", name := "told", desc := "(II)I" } : Jvm.MethodName)) ∈ lw_all := lw_g (lw_at lw_m9 100 rfl) rfl
theorem q2151 : (Jvm.Cond.selects "TwoTonguesModel" ({ cls := "TwoTonguesModel", name := "told", desc := "(II)I" } : Jvm.MethodName) ({ cls := "TwoTonguesModel", name := "told", desc := "(II)I" } : Jvm.MethodName)) ∈ lw_all := lw_g (lw_at lw_m9 101 rfl) rfl
theorem q2152 : (Jvm.Cond.code ({ cls := "TwoTonguesModel", name := "told", desc := "(II)I" } : Jvm.MethodName) prog_22_method_103_code (3 : Nat) (Option.some Jvm.ClassFile.FieldType.int)) ∈ lw_all := lw_g (lw_at lw_m9 102 rfl) rfl
theorem q2153 : (Jvm.Cond.methodLink "TwoTonguesModel" (531 : Nat) ({ cls := "TwoTonguesModel", name := "toldBy", desc := "(II)I" } : Jvm.MethodName)) ∈ lw_all := lw_g (lw_at lw_m9 103 rfl) rfl
theorem q2154 : (Jvm.Cond.privateMethod ({ cls := "TwoTonguesModel", name := "toldBy", desc := "(II)I" } : Jvm.MethodName)) ∈ lw_tbl := lw_at lw_m9 104 rfl
theorem q2155 : (Jvm.Cond.instanceMethod ({ cls := "TwoTonguesModel", name := "toldBy", desc := "(II)I" } : Jvm.MethodName)) ∈ lw_all := lw_g (lw_at lw_m9 105 rfl) rfl
theorem q2156 : (Jvm.Cond.code ({ cls := "TwoTonguesModel", name := "toldBy", desc := "(II)I" } : Jvm.MethodName) prog_22_method_102_code (6 : Nat) (Option.some Jvm.ClassFile.FieldType.int)) ∈ lw_all := lw_g (lw_at lw_m9 106 rfl) rfl
theorem q2157 : (Jvm.Cond.methodLink "TwoTonguesModel" (527 : Nat) ({ cls := "TwoTonguesModel", name := "servesBy", desc := "([IIII)Z" } : Jvm.MethodName)) ∈ lw_all := lw_g (lw_at lw_m9 107 rfl) rfl
theorem q2158 : (Jvm.Cond.privateMethod ({ cls := "TwoTonguesModel", name := "servesBy", desc := "([IIII)Z" } : Jvm.MethodName)) ∈ lw_tbl := lw_at lw_m9 108 rfl
theorem q2159 : (Jvm.Cond.instanceMethod ({ cls := "TwoTonguesModel", name := "servesBy", desc := "([IIII)Z" } : Jvm.MethodName)) ∈ lw_all := lw_g (lw_at lw_m9 109 rfl) rfl
theorem q2160 : (Jvm.Cond.code ({ cls := "TwoTonguesModel", name := "servesBy", desc := "([IIII)Z" } : Jvm.MethodName) prog_22_method_70_code (6 : Nat) (Option.some Jvm.ClassFile.FieldType.boolean)) ∈ lw_all := lw_g (lw_at lw_m9 110 rfl) rfl
theorem q2162 : (Jvm.Cond.instanceMethod ({ cls := "TwoTonguesModel", name := "sure", desc := "(I)I" } : Jvm.MethodName)) ∈ lw_all := lw_g (lw_at lw_m9 112 rfl) rfl
theorem q2163 : (Jvm.Cond.selects "TwoTonguesModel" ({ cls := "TwoTonguesModel", name := "sure", desc := "(I)I" } : Jvm.MethodName) ({ cls := "TwoTonguesModel", name := "sure", desc := "(I)I" } : Jvm.MethodName)) ∈ lw_all := lw_g (lw_at lw_m9 113 rfl) rfl
theorem q2164 : (Jvm.Cond.code ({ cls := "TwoTonguesModel", name := "sure", desc := "(I)I" } : Jvm.MethodName) prog_22_method_104_code (4 : Nat) (Option.some Jvm.ClassFile.FieldType.int)) ∈ lw_all := lw_g (lw_at lw_m9 114 rfl) rfl
theorem q2166 : (Jvm.Cond.instanceMethod ({ cls := "TwoTonguesModel", name := "broken", desc := "()I" } : Jvm.MethodName)) ∈ lw_all := lw_g (lw_at lw_m9 116 rfl) rfl
theorem q2167 : (Jvm.Cond.selects "TwoTonguesModel" ({ cls := "TwoTonguesModel", name := "broken", desc := "()I" } : Jvm.MethodName) ({ cls := "TwoTonguesModel", name := "broken", desc := "()I" } : Jvm.MethodName)) ∈ lw_all := lw_g (lw_at lw_m9 117 rfl) rfl
theorem q2168 : (Jvm.Cond.code ({ cls := "TwoTonguesModel", name := "broken", desc := "()I" } : Jvm.MethodName) prog_22_method_109_code (1 : Nat) (Option.some Jvm.ClassFile.FieldType.int)) ∈ lw_all := lw_g (lw_at lw_m9 118 rfl) rfl
theorem q2169 : (Jvm.Cond.methodLink "TwoTonguesModel" (540 : Nat) ({ cls := "TwoTonguesModel", name := "noTakes", desc := "()V" } : Jvm.MethodName)) ∈ lw_all := lw_g (lw_at lw_m9 119 rfl) rfl
theorem q2170 : (Jvm.Cond.privateMethod ({ cls := "TwoTonguesModel", name := "noTakes", desc := "()V" } : Jvm.MethodName)) ∈ lw_tbl := lw_at lw_m9 120 rfl
theorem q2171 : (Jvm.Cond.instanceMethod ({ cls := "TwoTonguesModel", name := "noTakes", desc := "()V" } : Jvm.MethodName)) ∈ lw_all := lw_g (lw_at lw_m9 121 rfl) rfl
theorem q2172 : (Jvm.Cond.code ({ cls := "TwoTonguesModel", name := "noTakes", desc := "()V" } : Jvm.MethodName) prog_22_method_108_code (2 : Nat) (Option.none : Option Jvm.ClassFile.FieldType)) ∈ lw_all := lw_g (lw_at lw_m9 122 rfl) rfl
theorem q2173 : (Jvm.Cond.methodLink "TwoTonguesModel" (543 : Nat) ({ cls := "TwoTonguesModel", name := "firstBroken", desc := "()I" } : Jvm.MethodName)) ∈ lw_all := lw_g (lw_at lw_m9 123 rfl) rfl
theorem q2174 : (Jvm.Cond.privateMethod ({ cls := "TwoTonguesModel", name := "firstBroken", desc := "()I" } : Jvm.MethodName)) ∈ lw_tbl := lw_at lw_m9 124 rfl
theorem q2175 : (Jvm.Cond.instanceMethod ({ cls := "TwoTonguesModel", name := "firstBroken", desc := "()I" } : Jvm.MethodName)) ∈ lw_all := lw_g (lw_at lw_m9 125 rfl) rfl
theorem q2176 : (Jvm.Cond.code ({ cls := "TwoTonguesModel", name := "firstBroken", desc := "()I" } : Jvm.MethodName) prog_22_method_107_code (2 : Nat) (Option.some Jvm.ClassFile.FieldType.int)) ∈ lw_all := lw_g (lw_at lw_m9 126 rfl) rfl
theorem q2177 : (Jvm.Cond.methodLink "TwoTonguesModel" (537 : Nat) ({ cls := "TwoTonguesModel", name := "isAgreed", desc := "(I)Z" } : Jvm.MethodName)) ∈ lw_all := lw_g (lw_at lw_m9 127 rfl) rfl
theorem q2178 : (Jvm.Cond.privateMethod ({ cls := "TwoTonguesModel", name := "isAgreed", desc := "(I)Z" } : Jvm.MethodName)) ∈ lw_tbl := lw_at lw_m9 128 rfl
theorem q2179 : (Jvm.Cond.instanceMethod ({ cls := "TwoTonguesModel", name := "isAgreed", desc := "(I)Z" } : Jvm.MethodName)) ∈ lw_all := lw_g (lw_at lw_m9 129 rfl) rfl
theorem q2180 : (Jvm.Cond.code ({ cls := "TwoTonguesModel", name := "isAgreed", desc := "(I)Z" } : Jvm.MethodName) prog_22_method_106_code (4 : Nat) (Option.some Jvm.ClassFile.FieldType.boolean)) ∈ lw_all := lw_g (lw_at lw_m9 130 rfl) rfl
theorem q2181 : (Jvm.Cond.methodLink "TwoTonguesModel" (534 : Nat) ({ cls := "TwoTonguesModel", name := "letterBy", desc := "(II)I" } : Jvm.MethodName)) ∈ lw_all := lw_g (lw_at lw_m9 131 rfl) rfl
theorem q2182 : (Jvm.Cond.privateMethod ({ cls := "TwoTonguesModel", name := "letterBy", desc := "(II)I" } : Jvm.MethodName)) ∈ lw_tbl := lw_at lw_m9 132 rfl
theorem q2183 : (Jvm.Cond.instanceMethod ({ cls := "TwoTonguesModel", name := "letterBy", desc := "(II)I" } : Jvm.MethodName)) ∈ lw_all := lw_g (lw_at lw_m9 133 rfl) rfl
theorem q2184 : (Jvm.Cond.code ({ cls := "TwoTonguesModel", name := "letterBy", desc := "(II)I" } : Jvm.MethodName) prog_22_method_105_code (3 : Nat) (Option.some Jvm.ClassFile.FieldType.int)) ∈ lw_all := lw_g (lw_at lw_m9 134 rfl) rfl
theorem q2186 : (Jvm.Cond.instanceMethod ({ cls := "TwoTonguesModel", name := "renamed", desc := "()I" } : Jvm.MethodName)) ∈ lw_all := lw_g (lw_at lw_m9 136 rfl) rfl
theorem q2187 : (Jvm.Cond.selects "TwoTonguesModel" ({ cls := "TwoTonguesModel", name := "renamed", desc := "()I" } : Jvm.MethodName) ({ cls := "TwoTonguesModel", name := "renamed", desc := "()I" } : Jvm.MethodName)) ∈ lw_all := lw_g (lw_at lw_m9 137 rfl) rfl
theorem q2188 : (Jvm.Cond.code ({ cls := "TwoTonguesModel", name := "renamed", desc := "()I" } : Jvm.MethodName) prog_22_method_114_code (1 : Nat) (Option.some Jvm.ClassFile.FieldType.int)) ∈ lw_all := lw_g (lw_at lw_m9 138 rfl) rfl
theorem q2189 : (Jvm.Cond.methodLink "TwoTonguesModel" (558 : Nat) ({ cls := "TwoTonguesModel", name := "layRenamed", desc := "()V" } : Jvm.MethodName)) ∈ lw_all := lw_g (lw_at lw_m9 139 rfl) rfl
theorem q2190 : (Jvm.Cond.privateMethod ({ cls := "TwoTonguesModel", name := "layRenamed", desc := "()V" } : Jvm.MethodName)) ∈ lw_tbl := lw_at lw_m9 140 rfl
theorem q2191 : (Jvm.Cond.instanceMethod ({ cls := "TwoTonguesModel", name := "layRenamed", desc := "()V" } : Jvm.MethodName)) ∈ lw_all := lw_g (lw_at lw_m9 141 rfl) rfl
theorem q2192 : (Jvm.Cond.code ({ cls := "TwoTonguesModel", name := "layRenamed", desc := "()V" } : Jvm.MethodName) prog_22_method_113_code (4 : Nat) (Option.none : Option Jvm.ClassFile.FieldType)) ∈ lw_all := lw_g (lw_at lw_m9 142 rfl) rfl
theorem q2193 : (Jvm.Cond.methodLink "TwoTonguesModel" (549 : Nat) ({ cls := "TwoTonguesModel", name := "takesNow", desc := "()I" } : Jvm.MethodName)) ∈ lw_all := lw_g (lw_at lw_m9 143 rfl) rfl
theorem q2194 : (Jvm.Cond.privateMethod ({ cls := "TwoTonguesModel", name := "takesNow", desc := "()I" } : Jvm.MethodName)) ∈ lw_tbl := lw_at lw_m9 144 rfl
theorem q2195 : (Jvm.Cond.instanceMethod ({ cls := "TwoTonguesModel", name := "takesNow", desc := "()I" } : Jvm.MethodName)) ∈ lw_all := lw_g (lw_at lw_m9 145 rfl) rfl
theorem q2196 : (Jvm.Cond.code ({ cls := "TwoTonguesModel", name := "takesNow", desc := "()I" } : Jvm.MethodName) prog_22_method_111_code (3 : Nat) (Option.some Jvm.ClassFile.FieldType.int)) ∈ lw_all := lw_g (lw_at lw_m9 146 rfl) rfl
theorem q2197 : (Jvm.Cond.methodLink "TwoTonguesModel" (552 : Nat) ({ cls := "TwoTonguesModel", name := "areTakes", desc := "()Z" } : Jvm.MethodName)) ∈ lw_all := lw_g (lw_at lw_m9 147 rfl) rfl
theorem q2198 : (Jvm.Cond.privateMethod ({ cls := "TwoTonguesModel", name := "areTakes", desc := "()Z" } : Jvm.MethodName)) ∈ lw_tbl := lw_at lw_m9 148 rfl
theorem q2199 : (Jvm.Cond.instanceMethod ({ cls := "TwoTonguesModel", name := "areTakes", desc := "()Z" } : Jvm.MethodName)) ∈ lw_all := lw_g (lw_at lw_m9 149 rfl) rfl
theorem q2200 : (Jvm.Cond.code ({ cls := "TwoTonguesModel", name := "areTakes", desc := "()Z" } : Jvm.MethodName) prog_22_method_110_code (3 : Nat) (Option.some Jvm.ClassFile.FieldType.boolean)) ∈ lw_all := lw_g (lw_at lw_m9 150 rfl) rfl
theorem q2201 : (Jvm.Cond.methodLink "TwoTonguesModel" (555 : Nat) ({ cls := "TwoTonguesModel", name := "nextTakes", desc := "()Z" } : Jvm.MethodName)) ∈ lw_all := lw_g (lw_at lw_m9 151 rfl) rfl
theorem q2202 : (Jvm.Cond.privateMethod ({ cls := "TwoTonguesModel", name := "nextTakes", desc := "()Z" } : Jvm.MethodName)) ∈ lw_tbl := lw_at lw_m9 152 rfl
theorem q2203 : (Jvm.Cond.instanceMethod ({ cls := "TwoTonguesModel", name := "nextTakes", desc := "()Z" } : Jvm.MethodName)) ∈ lw_all := lw_g (lw_at lw_m9 153 rfl) rfl
theorem q2204 : (Jvm.Cond.code ({ cls := "TwoTonguesModel", name := "nextTakes", desc := "()Z" } : Jvm.MethodName) prog_22_method_112_code (2 : Nat) (Option.some Jvm.ClassFile.FieldType.boolean)) ∈ lw_all := lw_g (lw_at lw_m9 154 rfl) rfl
theorem q2206 : (Jvm.Cond.instanceMethod ({ cls := "TwoTonguesModel", name := "renames", desc := "(I)I" } : Jvm.MethodName)) ∈ lw_all := lw_g (lw_at lw_m9 156 rfl) rfl
theorem q2207 : (Jvm.Cond.selects "TwoTonguesModel" ({ cls := "TwoTonguesModel", name := "renames", desc := "(I)I" } : Jvm.MethodName) ({ cls := "TwoTonguesModel", name := "renames", desc := "(I)I" } : Jvm.MethodName)) ∈ lw_all := lw_g (lw_at lw_m9 157 rfl) rfl
theorem q2208 : (Jvm.Cond.code ({ cls := "TwoTonguesModel", name := "renames", desc := "(I)I" } : Jvm.MethodName) prog_22_method_115_code (2 : Nat) (Option.some Jvm.ClassFile.FieldType.int)) ∈ lw_all := lw_g (lw_at lw_m9 158 rfl) rfl
theorem q2210 : (Jvm.Cond.instanceMethod ({ cls := "TwoTonguesModel", name := "fine", desc := "(II)I" } : Jvm.MethodName)) ∈ lw_all := lw_g (lw_at lw_m9 160 rfl) rfl
theorem q2211 : (Jvm.Cond.selects "TwoTonguesModel" ({ cls := "TwoTonguesModel", name := "fine", desc := "(II)I" } : Jvm.MethodName) ({ cls := "TwoTonguesModel", name := "fine", desc := "(II)I" } : Jvm.MethodName)) ∈ lw_all := lw_g (lw_at lw_m9 161 rfl) rfl
theorem q2212 : (Jvm.Cond.code ({ cls := "TwoTonguesModel", name := "fine", desc := "(II)I" } : Jvm.MethodName) prog_22_method_117_code (3 : Nat) (Option.some Jvm.ClassFile.FieldType.int)) ∈ lw_all := lw_g (lw_at lw_m9 162 rfl) rfl
theorem q2213 : (Jvm.Cond.methodLink "TwoTonguesModel" (566 : Nat) ({ cls := "TwoTonguesModel", name := "fineOn", desc := "(II)I" } : Jvm.MethodName)) ∈ lw_all := lw_g (lw_at lw_m9 163 rfl) rfl
theorem q2214 : (Jvm.Cond.privateMethod ({ cls := "TwoTonguesModel", name := "fineOn", desc := "(II)I" } : Jvm.MethodName)) ∈ lw_tbl := lw_at lw_m9 164 rfl
theorem q2215 : (Jvm.Cond.instanceMethod ({ cls := "TwoTonguesModel", name := "fineOn", desc := "(II)I" } : Jvm.MethodName)) ∈ lw_all := lw_g (lw_at lw_m9 165 rfl) rfl
theorem q2216 : (Jvm.Cond.code ({ cls := "TwoTonguesModel", name := "fineOn", desc := "(II)I" } : Jvm.MethodName) prog_22_method_116_code (5 : Nat) (Option.some Jvm.ClassFile.FieldType.int)) ∈ lw_all := lw_g (lw_at lw_m9 166 rfl) rfl
theorem q2217 : (Jvm.Cond.methodLink "TwoTonguesModel" (561 : Nat) ({ cls := "TwoTonguesModel", name := "valueOf", desc := "(I)J" } : Jvm.MethodName)) ∈ lw_all := lw_g (lw_at lw_m9 167 rfl) rfl
theorem q2218 : (Jvm.Cond.privateMethod ({ cls := "TwoTonguesModel", name := "valueOf", desc := "(I)J" } : Jvm.MethodName)) ∈ lw_tbl := lw_at lw_m9 168 rfl
theorem q2219 : (Jvm.Cond.instanceMethod ({ cls := "TwoTonguesModel", name := "valueOf", desc := "(I)J" } : Jvm.MethodName)) ∈ lw_all := lw_g (lw_at lw_m9 169 rfl) rfl
theorem q2220 : (Jvm.Cond.code ({ cls := "TwoTonguesModel", name := "valueOf", desc := "(I)J" } : Jvm.MethodName) prog_22_method_47_code (6 : Nat) (Option.some Jvm.ClassFile.FieldType.long)) ∈ lw_all := lw_g (lw_at lw_m9 170 rfl) rfl
theorem q2221 : (Jvm.Cond.methodLink "TwoTonguesModel" (361 : Nat) ({ cls := "TwoTonguesModel", name := "bounded", desc := "(J)J" } : Jvm.MethodName)) ∈ lw_all := lw_g (lw_at lw_m9 171 rfl) rfl
theorem q2222 : (Jvm.Cond.privateMethod ({ cls := "TwoTonguesModel", name := "bounded", desc := "(J)J" } : Jvm.MethodName)) ∈ lw_tbl := lw_at lw_m9 172 rfl
theorem q2223 : (Jvm.Cond.instanceMethod ({ cls := "TwoTonguesModel", name := "bounded", desc := "(J)J" } : Jvm.MethodName)) ∈ lw_all := lw_g (lw_at lw_m9 173 rfl) rfl
theorem q2224 : (Jvm.Cond.code ({ cls := "TwoTonguesModel", name := "bounded", desc := "(J)J" } : Jvm.MethodName) prog_22_method_44_code (3 : Nat) (Option.some Jvm.ClassFile.FieldType.long)) ∈ lw_all := lw_g (lw_at lw_m9 174 rfl) rfl
theorem q2225 : (Jvm.Cond.constantLong "TwoTonguesModel" (357 : Nat) (1000000000000 : Int64)) ∈ lw_all := lw_g (lw_at lw_m9 175 rfl) rfl
theorem q2226 : (Jvm.Cond.constantLong "TwoTonguesModel" (359 : Nat) (-1000000000000 : Int64)) ∈ lw_all := lw_g (lw_at lw_m9 176 rfl) rfl
theorem q2227 : (Jvm.Cond.methodLink "TwoTonguesModel" (365 : Nat) ({ cls := "TwoTonguesModel", name := "times", desc := "(JJ)J" } : Jvm.MethodName)) ∈ lw_all := lw_g (lw_at lw_m9 177 rfl) rfl
theorem q2228 : (Jvm.Cond.privateMethod ({ cls := "TwoTonguesModel", name := "times", desc := "(JJ)J" } : Jvm.MethodName)) ∈ lw_tbl := lw_at lw_m9 178 rfl
theorem q2229 : (Jvm.Cond.instanceMethod ({ cls := "TwoTonguesModel", name := "times", desc := "(JJ)J" } : Jvm.MethodName)) ∈ lw_all := lw_g (lw_at lw_m9 179 rfl) rfl
theorem q2230 : (Jvm.Cond.code ({ cls := "TwoTonguesModel", name := "times", desc := "(JJ)J" } : Jvm.MethodName) prog_22_method_46_code (6 : Nat) (Option.some Jvm.ClassFile.FieldType.long)) ∈ lw_all := lw_g (lw_at lw_m9 180 rfl) rfl
theorem q2231 : (Jvm.Cond.methodLink "TwoTonguesModel" (369 : Nat) ({ cls := "TwoTonguesModel", name := "compares", desc := "(IJJ)Z" } : Jvm.MethodName)) ∈ lw_all := lw_g (lw_at lw_m9 181 rfl) rfl
theorem q2232 : (Jvm.Cond.static ({ cls := "TwoTonguesModel", name := "compares", desc := "(IJJ)Z" } : Jvm.MethodName)) ∈ lw_all := lw_g (lw_at lw_m9 182 rfl) rfl
theorem q2233 : (Jvm.Cond.code ({ cls := "TwoTonguesModel", name := "compares", desc := "(IJJ)Z" } : Jvm.MethodName) prog_22_method_45_code (5 : Nat) (Option.some Jvm.ClassFile.FieldType.boolean)) ∈ lw_all := lw_g (lw_at lw_m9 183 rfl) rfl
theorem q2234 : (Jvm.Cond.constantLong "TwoTonguesModel" (564 : Nat) (9999 : Int64)) ∈ lw_all := lw_g (lw_at lw_m9 184 rfl) rfl
theorem q2236 : (Jvm.Cond.instanceMethod ({ cls := "TwoTonguesModel", name := "bought", desc := "(II)I" } : Jvm.MethodName)) ∈ lw_all := lw_g (lw_at lw_m9 186 rfl) rfl
theorem q2237 : (Jvm.Cond.selects "TwoTonguesModel" ({ cls := "TwoTonguesModel", name := "bought", desc := "(II)I" } : Jvm.MethodName) ({ cls := "TwoTonguesModel", name := "bought", desc := "(II)I" } : Jvm.MethodName)) ∈ lw_all := lw_g (lw_at lw_m9 187 rfl) rfl
theorem q2238 : (Jvm.Cond.code ({ cls := "TwoTonguesModel", name := "bought", desc := "(II)I" } : Jvm.MethodName) prog_22_method_118_code (10 : Nat) (Option.some Jvm.ClassFile.FieldType.int)) ∈ lw_all := lw_g (lw_at lw_m9 188 rfl) rfl
theorem q2239 : (Jvm.Cond.methodLink "TwoTonguesModel" (569 : Nat) ({ cls := "TwoTonguesModel", name := "isOf", desc := "(II)Z" } : Jvm.MethodName)) ∈ lw_all := lw_g (lw_at lw_m9 189 rfl) rfl
theorem q2240 : (Jvm.Cond.static ({ cls := "TwoTonguesModel", name := "isOf", desc := "(II)Z" } : Jvm.MethodName)) ∈ lw_all := lw_g (lw_at lw_m9 190 rfl) rfl
theorem q2241 : (Jvm.Cond.code ({ cls := "TwoTonguesModel", name := "isOf", desc := "(II)Z" } : Jvm.MethodName) prog_22_method_5_code (2 : Nat) (Option.some Jvm.ClassFile.FieldType.boolean)) ∈ lw_all := lw_g (lw_at lw_m9 191 rfl) rfl
theorem q2243 : (Jvm.Cond.instanceMethod ({ cls := "TwoTonguesModel", name := "keep", desc := "()I" } : Jvm.MethodName)) ∈ lw_all := lw_g (lw_at lw_m9 193 rfl) rfl
theorem q2244 : (Jvm.Cond.selects "TwoTonguesModel" ({ cls := "TwoTonguesModel", name := "keep", desc := "()I" } : Jvm.MethodName) ({ cls := "TwoTonguesModel", name := "keep", desc := "()I" } : Jvm.MethodName)) ∈ lw_all := lw_g (lw_at lw_m9 194 rfl) rfl
theorem q2245 : (Jvm.Cond.code ({ cls := "TwoTonguesModel", name := "keep", desc := "()I" } : Jvm.MethodName) prog_22_method_119_code (2 : Nat) (Option.some Jvm.ClassFile.FieldType.int)) ∈ lw_all := lw_g (lw_at lw_m9 195 rfl) rfl
theorem q2247 : (Jvm.Cond.instanceMethod ({ cls := "TwoTonguesModel", name := "back", desc := "()I" } : Jvm.MethodName)) ∈ lw_all := lw_g (lw_at lw_m9 197 rfl) rfl
theorem q2248 : (Jvm.Cond.selects "TwoTonguesModel" ({ cls := "TwoTonguesModel", name := "back", desc := "()I" } : Jvm.MethodName) ({ cls := "TwoTonguesModel", name := "back", desc := "()I" } : Jvm.MethodName)) ∈ lw_all := lw_g (lw_at lw_m9 198 rfl) rfl
theorem q2249 : (Jvm.Cond.code ({ cls := "TwoTonguesModel", name := "back", desc := "()I" } : Jvm.MethodName) prog_22_method_120_code (2 : Nat) (Option.some Jvm.ClassFile.FieldType.int)) ∈ lw_all := lw_g (lw_at lw_m9 199 rfl) rfl
theorem q2251 : (Jvm.Cond.instanceMethod ({ cls := "TwoTonguesModel", name := "count", desc := "(I)I" } : Jvm.MethodName)) ∈ lw_all := lw_g (lw_at lw_m9 201 rfl) rfl
theorem q2252 : (Jvm.Cond.selects "TwoTonguesModel" ({ cls := "TwoTonguesModel", name := "count", desc := "(I)I" } : Jvm.MethodName) ({ cls := "TwoTonguesModel", name := "count", desc := "(I)I" } : Jvm.MethodName)) ∈ lw_all := lw_g (lw_at lw_m9 202 rfl) rfl
theorem q2253 : (Jvm.Cond.code ({ cls := "TwoTonguesModel", name := "count", desc := "(I)I" } : Jvm.MethodName) prog_22_method_122_code (2 : Nat) (Option.some Jvm.ClassFile.FieldType.int)) ∈ lw_all := lw_g (lw_at lw_m9 203 rfl) rfl
theorem q2254 : (Jvm.Cond.methodLink "TwoTonguesModel" (581 : Nat) ({ cls := "TwoTonguesModel", name := "allLost", desc := "()I" } : Jvm.MethodName)) ∈ lw_all := lw_g (lw_at lw_m9 204 rfl) rfl
theorem q2255 : (Jvm.Cond.privateMethod ({ cls := "TwoTonguesModel", name := "allLost", desc := "()I" } : Jvm.MethodName)) ∈ lw_tbl := lw_at lw_m9 205 rfl
theorem q2256 : (Jvm.Cond.instanceMethod ({ cls := "TwoTonguesModel", name := "allLost", desc := "()I" } : Jvm.MethodName)) ∈ lw_all := lw_g (lw_at lw_m9 206 rfl) rfl
theorem q2257 : (Jvm.Cond.code ({ cls := "TwoTonguesModel", name := "allLost", desc := "()I" } : Jvm.MethodName) prog_22_method_121_code (3 : Nat) (Option.some Jvm.ClassFile.FieldType.int)) ∈ lw_all := lw_g (lw_at lw_m9 207 rfl) rfl
theorem q2277 : (Jvm.Cond.castable "TwoTonguesModel" "java/lang/Object") ∈ lw_tbl := lw_at lw_m9 227 rfl
theorem q156 : (Jvm.Cond.initialized "TwoTongues$Fault") ∈ lw_all := lw_g (lw_at lw_m1 26 rfl) rfl
theorem q744 : (Jvm.Cond.instantiable "TwoTongues$Fault" (8 : Nat)) ∈ lw_all := lw_g (lw_at lw_m3 134 rfl) rfl
theorem q745 : (Jvm.Cond.castable "TwoTongues$Fault" "TwoTongues$Fault") ∈ lw_tbl := lw_at lw_m3 135 rfl
theorem q750 : (Jvm.Cond.selects "TwoTongues$Fault" ({ cls := "java/lang/Throwable", name := "fillInStackTrace", desc := "(I)Ljava/lang/Throwable;" } : Jvm.MethodName) ({ cls := "java/lang/Throwable", name := "fillInStackTrace", desc := "(I)Ljava/lang/Throwable;" } : Jvm.MethodName)) ∈ lw_all := lw_g (lw_at lw_m3 140 rfl) rfl
theorem q751 : (Jvm.Cond.selects "TwoTongues$Fault" ({ cls := "java/lang/Throwable", name := "fillInStackTrace", desc := "()Ljava/lang/Throwable;" } : Jvm.MethodName) ({ cls := "java/lang/Throwable", name := "fillInStackTrace", desc := "()Ljava/lang/Throwable;" } : Jvm.MethodName)) ∈ lw_all := lw_g (lw_at lw_m3 141 rfl) rfl
theorem q752 : (Jvm.Cond.lays "TwoTongues$Fault" "java/lang/Throwable" "cause" "Ljava/lang/Throwable;") ∈ lw_all := lw_g (lw_at lw_m3 142 rfl) rfl
theorem q754 : (Jvm.Cond.lays "TwoTongues$Fault" "java/lang/Throwable" "stackTrace" "[Ljava/lang/StackTraceElement;") ∈ lw_all := lw_g (lw_at lw_m3 144 rfl) rfl
theorem q756 : (Jvm.Cond.lays "TwoTongues$Fault" "java/lang/Throwable" "suppressedExceptions" "Ljava/util/List;") ∈ lw_all := lw_g (lw_at lw_m3 146 rfl) rfl
theorem q758 : (Jvm.Cond.lays "TwoTongues$Fault" "java/lang/Throwable" "detailMessage" "Ljava/lang/String;") ∈ lw_all := lw_g (lw_at lw_m3 148 rfl) rfl
theorem q760 : (Jvm.Cond.lays "TwoTongues$Fault" "java/lang/Throwable" "backtrace" "Ljava/lang/Object;") ∈ lw_all := lw_g (lw_at lw_m3 150 rfl) rfl
theorem q785 : (Jvm.Cond.instanceMethod ({ cls := "TwoTongues$Fault", name := "<init>", desc := "(II)V" } : Jvm.MethodName)) ∈ lw_all := lw_g (lw_at lw_m3 175 rfl) rfl
theorem q786 : (Jvm.Cond.code ({ cls := "TwoTongues$Fault", name := "<init>", desc := "(II)V" } : Jvm.MethodName) prog_3_method_1_code (3 : Nat) (Option.none : Option Jvm.ClassFile.FieldType)) ∈ lw_all := lw_g (lw_at lw_m3 176 rfl) rfl
theorem q787 : (Jvm.Cond.methodLink "TwoTongues$Fault" (1 : Nat) ({ cls := "java/lang/Exception", name := "<init>", desc := "(Ljava/lang/String;Ljava/lang/Throwable;ZZ)V" } : Jvm.MethodName)) ∈ lw_all := lw_g (lw_at lw_m3 177 rfl) rfl
theorem q793 : (Jvm.Cond.fieldLink "TwoTongues$Fault" (7 : Nat) "TwoTongues$Fault" "kind" "I") ∈ lw_all := lw_g (lw_at lw_m3 183 rfl) rfl
theorem q795 : (Jvm.Cond.fieldLink "TwoTongues$Fault" (13 : Nat) "TwoTongues$Fault" "place" "I") ∈ lw_all := lw_g (lw_at lw_m3 185 rfl) rfl
theorem q802 : (Jvm.Cond.laysFinal "TwoTongues$Fault" "TwoTongues$Fault" "kind" "I") ∈ lw_all := lw_g (lw_at lw_m3 192 rfl) rfl
theorem q803 : (Jvm.Cond.soleField "TwoTongues$Fault" "kind") ∈ lw_all := lw_g (lw_at lw_m3 193 rfl) rfl
theorem q804 : (Jvm.Cond.laysFinal "TwoTongues$Fault" "TwoTongues$Fault" "place" "I") ∈ lw_all := lw_g (lw_at lw_m3 194 rfl) rfl
theorem q805 : (Jvm.Cond.soleField "TwoTongues$Fault" "place") ∈ lw_all := lw_g (lw_at lw_m3 195 rfl) rfl
theorem q810 : (Jvm.Cond.lays "TwoTongues$Fault" "java/lang/Throwable" "depth" "I") ∈ lw_all := lw_g (lw_at lw_m3 200 rfl) rfl
theorem q813 : (Jvm.Cond.superclass "TwoTongues$Fault" "java/lang/Exception") ∈ lw_all := lw_g (lw_at lw_m3 203 rfl) rfl
theorem q908 : (Jvm.Cond.selects "TwoTongues$Fault" ({ cls := "java/lang/Object", name := "getClass", desc := "()Ljava/lang/Class;" } : Jvm.MethodName) ({ cls := "java/lang/Object", name := "getClass", desc := "()Ljava/lang/Class;" } : Jvm.MethodName)) ∈ lw_all := lw_g (lw_at lw_m4 58 rfl) rfl
theorem q2278 : (Jvm.Cond.castable "TwoTongues$Fault" "java/lang/Object") ∈ lw_tbl := lw_at lw_m9 228 rfl
theorem q157 : (Jvm.Cond.initialized "TwoTongues$Sign") ∈ lw_all := lw_g (lw_at lw_m1 27 rfl) rfl
theorem q849 : (Jvm.Cond.instantiable "TwoTongues$Sign" (3 : Nat)) ∈ lw_all := lw_g (lw_at lw_m3 239 rfl) rfl
theorem q851 : (Jvm.Cond.instanceMethod ({ cls := "TwoTongues$Sign", name := "<init>", desc := "(II)V" } : Jvm.MethodName)) ∈ lw_all := lw_g (lw_at lw_m4 1 rfl) rfl
theorem q852 : (Jvm.Cond.code ({ cls := "TwoTongues$Sign", name := "<init>", desc := "(II)V" } : Jvm.MethodName) prog_15_method_1_code (3 : Nat) (Option.none : Option Jvm.ClassFile.FieldType)) ∈ lw_all := lw_g (lw_at lw_m4 2 rfl) rfl
theorem q853 : (Jvm.Cond.methodLink "TwoTongues$Sign" (1 : Nat) ({ cls := "java/lang/Object", name := "<init>", desc := "()V" } : Jvm.MethodName)) ∈ lw_all := lw_g (lw_at lw_m4 3 rfl) rfl
theorem q854 : (Jvm.Cond.classLink "TwoTongues$Sign" (7 : Nat) "TwoTongues$Row") ∈ lw_all := lw_g (lw_at lw_m4 4 rfl) rfl
theorem q855 : (Jvm.Cond.methodLinkNest "TwoTongues$Sign" (9 : Nat) ({ cls := "TwoTongues$Row", name := "<init>", desc := "()V" } : Jvm.MethodName) "TwoTongues") ∈ lw_tbl := lw_at lw_m4 5 rfl
theorem q856 : (Jvm.Cond.fieldLink "TwoTongues$Sign" (16 : Nat) "TwoTongues$Sign" "name" "I") ∈ lw_all := lw_g (lw_at lw_m4 6 rfl) rfl
theorem q858 : (Jvm.Cond.fieldLink "TwoTongues$Sign" (20 : Nat) "TwoTongues$Sign" "kind" "I") ∈ lw_all := lw_g (lw_at lw_m4 8 rfl) rfl
theorem q860 : (Jvm.Cond.fieldLink "TwoTongues$Sign" (10 : Nat) "TwoTongues$Sign" "row" "LTwoTongues$Row;") ∈ lw_all := lw_g (lw_at lw_m4 10 rfl) rfl
theorem q863 : (Jvm.Cond.laysFinal "TwoTongues$Sign" "TwoTongues$Sign" "name" "I") ∈ lw_all := lw_g (lw_at lw_m4 13 rfl) rfl
theorem q864 : (Jvm.Cond.soleField "TwoTongues$Sign" "name") ∈ lw_all := lw_g (lw_at lw_m4 14 rfl) rfl
theorem q865 : (Jvm.Cond.laysFinal "TwoTongues$Sign" "TwoTongues$Sign" "kind" "I") ∈ lw_all := lw_g (lw_at lw_m4 15 rfl) rfl
theorem q866 : (Jvm.Cond.soleField "TwoTongues$Sign" "kind") ∈ lw_all := lw_g (lw_at lw_m4 16 rfl) rfl
theorem q867 : (Jvm.Cond.laysFinal "TwoTongues$Sign" "TwoTongues$Sign" "row" "LTwoTongues$Row;") ∈ lw_all := lw_g (lw_at lw_m4 17 rfl) rfl
theorem q868 : (Jvm.Cond.soleField "TwoTongues$Sign" "row") ∈ lw_all := lw_g (lw_at lw_m4 18 rfl) rfl
theorem q869 : (Jvm.Cond.superclass "TwoTongues$Sign" "java/lang/Object") ∈ lw_all := lw_g (lw_at lw_m4 19 rfl) rfl
theorem q918 : (Jvm.Cond.selects "TwoTongues$Sign" ({ cls := "java/lang/Object", name := "getClass", desc := "()Ljava/lang/Class;" } : Jvm.MethodName) ({ cls := "java/lang/Object", name := "getClass", desc := "()Ljava/lang/Class;" } : Jvm.MethodName)) ∈ lw_all := lw_g (lw_at lw_m4 68 rfl) rfl
theorem q2279 : (Jvm.Cond.castable "TwoTongues$Sign" "java/lang/Object") ∈ lw_tbl := lw_at lw_m9 229 rfl
theorem q161 : (Jvm.Cond.initialized "TwoTongues$Part") ∈ lw_all := lw_g (lw_at lw_m1 31 rfl) rfl
theorem q1005 : (Jvm.Cond.instanceMethod ({ cls := "TwoTongues$Part", name := "<init>", desc := "()V" } : Jvm.MethodName)) ∈ lw_all := lw_g (lw_at lw_m4 155 rfl) rfl
theorem q1006 : (Jvm.Cond.code ({ cls := "TwoTongues$Part", name := "<init>", desc := "()V" } : Jvm.MethodName) prog_10_method_1_code (1 : Nat) (Option.none : Option Jvm.ClassFile.FieldType)) ∈ lw_all := lw_g (lw_at lw_m4 156 rfl) rfl
theorem q1007 : (Jvm.Cond.methodLink "TwoTongues$Part" (1 : Nat) ({ cls := "java/lang/Object", name := "<init>", desc := "()V" } : Jvm.MethodName)) ∈ lw_all := lw_g (lw_at lw_m4 157 rfl) rfl
theorem q1367 : (Jvm.Cond.declares ({ cls := "TwoTongues$Part", name := "of", desc := "([J)J" } : Jvm.MethodName)) ∈ lw_tbl := lw_at lw_m6 37 rfl
theorem q1368 : (Jvm.Cond.sameMethod "TwoTongues$Part" "TwoTongues$Part" "of" "([J)J") ∈ lw_all := lw_g (lw_at lw_m6 38 rfl) rfl
theorem q162 : (Jvm.Cond.initialized "TwoTongues$Number") ∈ lw_all := lw_g (lw_at lw_m1 32 rfl) rfl
theorem q913 : (Jvm.Cond.selects "TwoTongues$Number" ({ cls := "java/lang/Object", name := "getClass", desc := "()Ljava/lang/Class;" } : Jvm.MethodName) ({ cls := "java/lang/Object", name := "getClass", desc := "()Ljava/lang/Class;" } : Jvm.MethodName)) ∈ lw_all := lw_g (lw_at lw_m4 63 rfl) rfl
theorem q996 : (Jvm.Cond.instantiable "TwoTongues$Number" (1 : Nat)) ∈ lw_all := lw_g (lw_at lw_m4 146 rfl) rfl
theorem q1002 : (Jvm.Cond.instanceMethod ({ cls := "TwoTongues$Number", name := "<init>", desc := "(I)V" } : Jvm.MethodName)) ∈ lw_all := lw_g (lw_at lw_m4 152 rfl) rfl
theorem q1003 : (Jvm.Cond.code ({ cls := "TwoTongues$Number", name := "<init>", desc := "(I)V" } : Jvm.MethodName) prog_9_method_1_code (2 : Nat) (Option.none : Option Jvm.ClassFile.FieldType)) ∈ lw_all := lw_g (lw_at lw_m4 153 rfl) rfl
theorem q1004 : (Jvm.Cond.methodLinkNest "TwoTongues$Number" (1 : Nat) ({ cls := "TwoTongues$Part", name := "<init>", desc := "()V" } : Jvm.MethodName) "TwoTongues") ∈ lw_tbl := lw_at lw_m4 154 rfl
theorem q1008 : (Jvm.Cond.fieldLink "TwoTongues$Number" (7 : Nat) "TwoTongues$Number" "n" "I") ∈ lw_all := lw_g (lw_at lw_m4 158 rfl) rfl
theorem q1009 : (Jvm.Cond.laysFinal "TwoTongues$Number" "TwoTongues$Number" "n" "I") ∈ lw_all := lw_g (lw_at lw_m4 159 rfl) rfl
theorem q1010 : (Jvm.Cond.soleField "TwoTongues$Number" "n") ∈ lw_all := lw_g (lw_at lw_m4 160 rfl) rfl
theorem q1011 : (Jvm.Cond.superclass "TwoTongues$Number" "TwoTongues$Part") ∈ lw_all := lw_g (lw_at lw_m4 161 rfl) rfl
theorem q1376 : (Jvm.Cond.instanceMethod ({ cls := "TwoTongues$Number", name := "of", desc := "([J)J" } : Jvm.MethodName)) ∈ lw_all := lw_g (lw_at lw_m6 46 rfl) rfl
theorem q1377 : (Jvm.Cond.code ({ cls := "TwoTongues$Number", name := "of", desc := "([J)J" } : Jvm.MethodName) prog_9_method_2_code (2 : Nat) (Option.some Jvm.ClassFile.FieldType.long)) ∈ lw_all := lw_g (lw_at lw_m6 47 rfl) rfl
theorem q1399 : (Jvm.Cond.selects "TwoTongues$Number" ({ cls := "TwoTongues$Part", name := "of", desc := "([J)J" } : Jvm.MethodName) ({ cls := "TwoTongues$Number", name := "of", desc := "([J)J" } : Jvm.MethodName)) ∈ lw_all := lw_g (lw_at lw_m6 69 rfl) rfl
theorem q2280 : (Jvm.Cond.castable "TwoTongues$Number" "java/lang/Object") ∈ lw_tbl := lw_at lw_m9 230 rfl
theorem q163 : (Jvm.Cond.initialized "TwoTongues$Name") ∈ lw_all := lw_g (lw_at lw_m1 33 rfl) rfl
theorem q910 : (Jvm.Cond.selects "TwoTongues$Name" ({ cls := "java/lang/Object", name := "getClass", desc := "()Ljava/lang/Class;" } : Jvm.MethodName) ({ cls := "java/lang/Object", name := "getClass", desc := "()Ljava/lang/Class;" } : Jvm.MethodName)) ∈ lw_all := lw_g (lw_at lw_m4 60 rfl) rfl
theorem q1013 : (Jvm.Cond.instantiable "TwoTongues$Name" (1 : Nat)) ∈ lw_all := lw_g (lw_at lw_m4 163 rfl) rfl
theorem q1015 : (Jvm.Cond.instanceMethod ({ cls := "TwoTongues$Name", name := "<init>", desc := "(I)V" } : Jvm.MethodName)) ∈ lw_all := lw_g (lw_at lw_m4 165 rfl) rfl
theorem q1016 : (Jvm.Cond.code ({ cls := "TwoTongues$Name", name := "<init>", desc := "(I)V" } : Jvm.MethodName) prog_6_method_1_code (2 : Nat) (Option.none : Option Jvm.ClassFile.FieldType)) ∈ lw_all := lw_g (lw_at lw_m4 166 rfl) rfl
theorem q1017 : (Jvm.Cond.methodLinkNest "TwoTongues$Name" (1 : Nat) ({ cls := "TwoTongues$Part", name := "<init>", desc := "()V" } : Jvm.MethodName) "TwoTongues") ∈ lw_tbl := lw_at lw_m4 167 rfl
theorem q1018 : (Jvm.Cond.fieldLink "TwoTongues$Name" (7 : Nat) "TwoTongues$Name" "which" "I") ∈ lw_all := lw_g (lw_at lw_m4 168 rfl) rfl
theorem q1019 : (Jvm.Cond.laysFinal "TwoTongues$Name" "TwoTongues$Name" "which" "I") ∈ lw_all := lw_g (lw_at lw_m4 169 rfl) rfl
theorem q1020 : (Jvm.Cond.soleField "TwoTongues$Name" "which") ∈ lw_all := lw_g (lw_at lw_m4 170 rfl) rfl
theorem q1021 : (Jvm.Cond.superclass "TwoTongues$Name" "TwoTongues$Part") ∈ lw_all := lw_g (lw_at lw_m4 171 rfl) rfl
theorem q1369 : (Jvm.Cond.selects "TwoTongues$Name" ({ cls := "TwoTongues$Part", name := "of", desc := "([J)J" } : Jvm.MethodName) ({ cls := "TwoTongues$Name", name := "of", desc := "([J)J" } : Jvm.MethodName)) ∈ lw_all := lw_g (lw_at lw_m6 39 rfl) rfl
theorem q1370 : (Jvm.Cond.instanceMethod ({ cls := "TwoTongues$Name", name := "of", desc := "([J)J" } : Jvm.MethodName)) ∈ lw_all := lw_g (lw_at lw_m6 40 rfl) rfl
theorem q1371 : (Jvm.Cond.code ({ cls := "TwoTongues$Name", name := "of", desc := "([J)J" } : Jvm.MethodName) prog_6_method_2_code (2 : Nat) (Option.some Jvm.ClassFile.FieldType.long)) ∈ lw_all := lw_g (lw_at lw_m6 41 rfl) rfl
theorem q2281 : (Jvm.Cond.castable "TwoTongues$Name" "java/lang/Object") ∈ lw_tbl := lw_at lw_m9 231 rfl
theorem q164 : (Jvm.Cond.initialized "TwoTongues$Not") ∈ lw_all := lw_g (lw_at lw_m1 34 rfl) rfl
theorem q912 : (Jvm.Cond.selects "TwoTongues$Not" ({ cls := "java/lang/Object", name := "getClass", desc := "()Ljava/lang/Class;" } : Jvm.MethodName) ({ cls := "java/lang/Object", name := "getClass", desc := "()Ljava/lang/Class;" } : Jvm.MethodName)) ∈ lw_all := lw_g (lw_at lw_m4 62 rfl) rfl
theorem q1028 : (Jvm.Cond.instanceMethod ({ cls := "TwoTongues$Not", name := "<init>", desc := "(LTwoTongues$Part;)V" } : Jvm.MethodName)) ∈ lw_all := lw_g (lw_at lw_m4 178 rfl) rfl
theorem q1029 : (Jvm.Cond.code ({ cls := "TwoTongues$Not", name := "<init>", desc := "(LTwoTongues$Part;)V" } : Jvm.MethodName) prog_8_method_1_code (2 : Nat) (Option.none : Option Jvm.ClassFile.FieldType)) ∈ lw_all := lw_g (lw_at lw_m4 179 rfl) rfl
theorem q1030 : (Jvm.Cond.methodLinkNest "TwoTongues$Not" (1 : Nat) ({ cls := "TwoTongues$Part", name := "<init>", desc := "()V" } : Jvm.MethodName) "TwoTongues") ∈ lw_tbl := lw_at lw_m4 180 rfl
theorem q1033 : (Jvm.Cond.fieldLink "TwoTongues$Not" (7 : Nat) "TwoTongues$Not" "a" "LTwoTongues$Part;") ∈ lw_all := lw_g (lw_at lw_m4 183 rfl) rfl
theorem q1041 : (Jvm.Cond.soleField "TwoTongues$Not" "a") ∈ lw_all := lw_g (lw_at lw_m4 191 rfl) rfl
theorem q1044 : (Jvm.Cond.instantiable "TwoTongues$Not" (1 : Nat)) ∈ lw_all := lw_g (lw_at lw_m4 194 rfl) rfl
theorem q1046 : (Jvm.Cond.laysFinal "TwoTongues$Not" "TwoTongues$Not" "a" "LTwoTongues$Part;") ∈ lw_all := lw_g (lw_at lw_m4 196 rfl) rfl
theorem q1047 : (Jvm.Cond.superclass "TwoTongues$Not" "TwoTongues$Part") ∈ lw_all := lw_g (lw_at lw_m4 197 rfl) rfl
theorem q1372 : (Jvm.Cond.selects "TwoTongues$Not" ({ cls := "TwoTongues$Part", name := "of", desc := "([J)J" } : Jvm.MethodName) ({ cls := "TwoTongues$Not", name := "of", desc := "([J)J" } : Jvm.MethodName)) ∈ lw_all := lw_g (lw_at lw_m6 42 rfl) rfl
theorem q1373 : (Jvm.Cond.instanceMethod ({ cls := "TwoTongues$Not", name := "of", desc := "([J)J" } : Jvm.MethodName)) ∈ lw_all := lw_g (lw_at lw_m6 43 rfl) rfl
theorem q1374 : (Jvm.Cond.code ({ cls := "TwoTongues$Not", name := "of", desc := "([J)J" } : Jvm.MethodName) prog_8_method_2_code (2 : Nat) (Option.some Jvm.ClassFile.FieldType.long)) ∈ lw_all := lw_g (lw_at lw_m6 44 rfl) rfl
theorem q1375 : (Jvm.Cond.methodLink "TwoTongues$Not" (13 : Nat) ({ cls := "TwoTongues$Part", name := "of", desc := "([J)J" } : Jvm.MethodName)) ∈ lw_all := lw_g (lw_at lw_m6 45 rfl) rfl
theorem q2283 : (Jvm.Cond.castable "TwoTongues$Not" "java/lang/Object") ∈ lw_tbl := lw_at lw_m9 233 rfl
theorem q132 : (Jvm.Cond.initialized "TwoTongues$Reader") ∈ lw_all := lw_g (lw_at lw_m1 2 rfl) rfl
theorem q180 : (Jvm.Cond.instantiable "TwoTongues$Reader" (9 : Nat)) ∈ lw_all := lw_g (lw_at lw_m1 50 rfl) rfl
theorem q182 : (Jvm.Cond.instanceMethod ({ cls := "TwoTongues$Reader", name := "<init>", desc := "(LTwoTongues;)V" } : Jvm.MethodName)) ∈ lw_all := lw_g (lw_at lw_m1 52 rfl) rfl
theorem q183 : (Jvm.Cond.code ({ cls := "TwoTongues$Reader", name := "<init>", desc := "(LTwoTongues;)V" } : Jvm.MethodName) prog_12_method_1_code (2 : Nat) (Option.none : Option Jvm.ClassFile.FieldType)) ∈ lw_all := lw_g (lw_at lw_m1 53 rfl) rfl
theorem q184 : (Jvm.Cond.methodLink "TwoTongues$Reader" (9 : Nat) ({ cls := "java/lang/Object", name := "<init>", desc := "()V" } : Jvm.MethodName)) ∈ lw_all := lw_g (lw_at lw_m1 54 rfl) rfl
theorem q185 : (Jvm.Cond.fieldLink "TwoTongues$Reader" (15 : Nat) "TwoTongues$Reader" "at" "I") ∈ lw_all := lw_g (lw_at lw_m1 55 rfl) rfl
theorem q186 : (Jvm.Cond.fieldLink "TwoTongues$Reader" (19 : Nat) "TwoTongues$Reader" "size" "I") ∈ lw_all := lw_g (lw_at lw_m1 56 rfl) rfl
theorem q187 : (Jvm.Cond.fieldLink "TwoTongues$Reader" (30 : Nat) "TwoTongues$Reader" "place" "I") ∈ lw_all := lw_g (lw_at lw_m1 57 rfl) rfl
theorem q188 : (Jvm.Cond.fieldLink "TwoTongues$Reader" (33 : Nat) "TwoTongues$Reader" "sort" "I") ∈ lw_all := lw_g (lw_at lw_m1 58 rfl) rfl
theorem q189 : (Jvm.Cond.fieldLink "TwoTongues$Reader" (47 : Nat) "TwoTongues$Reader" "value" "I") ∈ lw_all := lw_g (lw_at lw_m1 59 rfl) rfl
theorem q190 : (Jvm.Cond.fieldLink "TwoTongues$Reader" (92 : Nat) "TwoTongues$Reader" "open" "I") ∈ lw_all := lw_g (lw_at lw_m1 60 rfl) rfl
theorem q191 : (Jvm.Cond.fieldLink "TwoTongues$Reader" (95 : Nat) "TwoTongues$Reader" "told" "I") ∈ lw_all := lw_g (lw_at lw_m1 61 rfl) rfl
theorem q192 : (Jvm.Cond.fieldLink "TwoTongues$Reader" (101 : Nat) "TwoTongues$Reader" "made" "LTwoTongues$Street;") ∈ lw_all := lw_g (lw_at lw_m1 62 rfl) rfl
theorem q193 : (Jvm.Cond.fieldLink "TwoTongues$Reader" (3 : Nat) "TwoTongues$Reader" "this$0" "LTwoTongues;") ∈ lw_all := lw_g (lw_at lw_m1 63 rfl) rfl
theorem q194 : (Jvm.Cond.lays "TwoTongues$Reader" "TwoTongues$Reader" "at" "I") ∈ lw_all := lw_g (lw_at lw_m1 64 rfl) rfl
theorem q195 : (Jvm.Cond.soleField "TwoTongues$Reader" "at") ∈ lw_all := lw_g (lw_at lw_m1 65 rfl) rfl
theorem q196 : (Jvm.Cond.lays "TwoTongues$Reader" "TwoTongues$Reader" "size" "I") ∈ lw_all := lw_g (lw_at lw_m1 66 rfl) rfl
theorem q197 : (Jvm.Cond.soleField "TwoTongues$Reader" "size") ∈ lw_all := lw_g (lw_at lw_m1 67 rfl) rfl
theorem q198 : (Jvm.Cond.lays "TwoTongues$Reader" "TwoTongues$Reader" "place" "I") ∈ lw_all := lw_g (lw_at lw_m1 68 rfl) rfl
theorem q199 : (Jvm.Cond.soleField "TwoTongues$Reader" "place") ∈ lw_all := lw_g (lw_at lw_m1 69 rfl) rfl
theorem q200 : (Jvm.Cond.lays "TwoTongues$Reader" "TwoTongues$Reader" "sort" "I") ∈ lw_all := lw_g (lw_at lw_m1 70 rfl) rfl
theorem q201 : (Jvm.Cond.soleField "TwoTongues$Reader" "sort") ∈ lw_all := lw_g (lw_at lw_m1 71 rfl) rfl
theorem q202 : (Jvm.Cond.lays "TwoTongues$Reader" "TwoTongues$Reader" "value" "I") ∈ lw_all := lw_g (lw_at lw_m1 72 rfl) rfl
theorem q203 : (Jvm.Cond.soleField "TwoTongues$Reader" "value") ∈ lw_all := lw_g (lw_at lw_m1 73 rfl) rfl
theorem q204 : (Jvm.Cond.lays "TwoTongues$Reader" "TwoTongues$Reader" "open" "I") ∈ lw_all := lw_g (lw_at lw_m1 74 rfl) rfl
theorem q205 : (Jvm.Cond.soleField "TwoTongues$Reader" "open") ∈ lw_all := lw_g (lw_at lw_m1 75 rfl) rfl
theorem q206 : (Jvm.Cond.lays "TwoTongues$Reader" "TwoTongues$Reader" "told" "I") ∈ lw_all := lw_g (lw_at lw_m1 76 rfl) rfl
theorem q207 : (Jvm.Cond.soleField "TwoTongues$Reader" "told") ∈ lw_all := lw_g (lw_at lw_m1 77 rfl) rfl
theorem q208 : (Jvm.Cond.lays "TwoTongues$Reader" "TwoTongues$Reader" "made" "LTwoTongues$Street;") ∈ lw_all := lw_g (lw_at lw_m1 78 rfl) rfl
theorem q209 : (Jvm.Cond.soleField "TwoTongues$Reader" "made") ∈ lw_all := lw_g (lw_at lw_m1 79 rfl) rfl
theorem q210 : (Jvm.Cond.laysFinal "TwoTongues$Reader" "TwoTongues$Reader" "this$0" "LTwoTongues;") ∈ lw_all := lw_g (lw_at lw_m1 80 rfl) rfl
theorem q211 : (Jvm.Cond.soleField "TwoTongues$Reader" "this$0") ∈ lw_all := lw_g (lw_at lw_m1 81 rfl) rfl
theorem q212 : (Jvm.Cond.superclass "TwoTongues$Reader" "java/lang/Object") ∈ lw_all := lw_g (lw_at lw_m1 82 rfl) rfl
theorem q232 : (Jvm.Cond.fieldLinkNest "TwoTongues$Reader" (112 : Nat) "TwoTongues$Store" "many" "I" "TwoTongues") ∈ lw_tbl := lw_at lw_m1 102 rfl
theorem q272 : (Jvm.Cond.fieldLinkNest "TwoTongues$Reader" (108 : Nat) "TwoTongues$Street" "east" "LTwoTongues$Store;" "TwoTongues") ∈ lw_tbl := lw_at lw_m1 142 rfl
theorem q275 : (Jvm.Cond.fieldLinkNest "TwoTongues$Reader" (117 : Nat) "TwoTongues$Street" "west" "LTwoTongues$Store;" "TwoTongues") ∈ lw_tbl := lw_at lw_m1 145 rfl
theorem q279 : (Jvm.Cond.fieldLinkNest "TwoTongues$Reader" (120 : Nat) "TwoTongues$Street" "signs" "Ljava/util/ArrayList;" "TwoTongues") ∈ lw_tbl := lw_at lw_m1 149 rfl
theorem q281 : (Jvm.Cond.fieldLinkNest "TwoTongues$Reader" (134 : Nat) "TwoTongues$Street" "mays" "Ljava/util/ArrayList;" "TwoTongues") ∈ lw_tbl := lw_at lw_m1 151 rfl
theorem q284 : (Jvm.Cond.fieldLinkNest "TwoTongues$Reader" (217 : Nat) "TwoTongues$Street" "cornerA" "[I" "TwoTongues") ∈ lw_tbl := lw_at lw_m1 154 rfl
theorem q287 : (Jvm.Cond.fieldLinkNest "TwoTongues$Reader" (223 : Nat) "TwoTongues$Street" "atA" "[I" "TwoTongues") ∈ lw_tbl := lw_at lw_m1 157 rfl
theorem q290 : (Jvm.Cond.fieldLinkNest "TwoTongues$Reader" (230 : Nat) "TwoTongues$Street" "cornerB" "[I" "TwoTongues") ∈ lw_tbl := lw_at lw_m1 160 rfl
theorem q293 : (Jvm.Cond.fieldLinkNest "TwoTongues$Reader" (233 : Nat) "TwoTongues$Street" "atB" "[I" "TwoTongues") ∈ lw_tbl := lw_at lw_m1 163 rfl
theorem q296 : (Jvm.Cond.fieldLinkNest "TwoTongues$Reader" (236 : Nat) "TwoTongues$Street" "weigh" "[I" "TwoTongues") ∈ lw_tbl := lw_at lw_m1 166 rfl
theorem q299 : (Jvm.Cond.fieldLinkNest "TwoTongues$Reader" (241 : Nat) "TwoTongues$Street" "feastDay" "[I" "TwoTongues") ∈ lw_tbl := lw_at lw_m1 169 rfl
theorem q301 : (Jvm.Cond.fieldLinkNest "TwoTongues$Reader" (244 : Nat) "TwoTongues$Street" "feastTongue" "[I" "TwoTongues") ∈ lw_tbl := lw_at lw_m1 171 rfl
theorem q302 : (Jvm.Cond.fieldLinkNest "TwoTongues$Reader" (190 : Nat) "TwoTongues$Street" "law" "LTwoTongues$Part;" "TwoTongues") ∈ lw_tbl := lw_at lw_m1 172 rfl
theorem q304 : (Jvm.Cond.fieldLinkNest "TwoTongues$Reader" (128 : Nat) "TwoTongues$Street" "corners" "I" "TwoTongues") ∈ lw_tbl := lw_at lw_m1 174 rfl
theorem q307 : (Jvm.Cond.fieldLinkNest "TwoTongues$Reader" (131 : Nat) "TwoTongues$Street" "feasts" "I" "TwoTongues") ∈ lw_tbl := lw_at lw_m1 177 rfl
theorem q309 : (Jvm.Cond.fieldLinkNest "TwoTongues$Reader" (180 : Nat) "TwoTongues$Street" "purse" "I" "TwoTongues") ∈ lw_tbl := lw_at lw_m1 179 rfl
theorem q311 : (Jvm.Cond.fieldLinkNest "TwoTongues$Reader" (183 : Nat) "TwoTongues$Street" "seed" "I" "TwoTongues") ∈ lw_tbl := lw_at lw_m1 181 rfl
theorem q312 : (Jvm.Cond.fieldLinkNest "TwoTongues$Reader" (247 : Nat) "TwoTongues$Street" "knots" "I" "TwoTongues") ∈ lw_tbl := lw_at lw_m1 182 rfl
theorem q315 : (Jvm.Cond.fieldLinkNest "TwoTongues$Reader" (197 : Nat) "TwoTongues$Street" "lines" "I" "TwoTongues") ∈ lw_tbl := lw_at lw_m1 185 rfl
theorem q405 : (Jvm.Cond.fieldLinkNest "TwoTongues$Reader" (206 : Nat) "TwoTongues$Row" "letters" "[I" "TwoTongues") ∈ lw_tbl := lw_at lw_m2 35 rfl
theorem q409 : (Jvm.Cond.fieldLinkNest "TwoTongues$Reader" (205 : Nat) "TwoTongues$Row" "many" "I" "TwoTongues") ∈ lw_tbl := lw_at lw_m2 39 rfl
theorem q488 : (Jvm.Cond.fieldLinkNest "TwoTongues$Reader" (22 : Nat) "TwoTongues" "tape" "[B" "TwoTongues") ∈ lw_tbl := lw_at lw_m2 118 rfl
theorem q592 : (Jvm.Cond.instanceMethod ({ cls := "TwoTongues$Reader", name := "read", desc := "(I)LTwoTongues$Street;" } : Jvm.MethodName)) ∈ lw_all := lw_g (lw_at lw_m2 222 rfl) rfl
theorem q593 : (Jvm.Cond.selects "TwoTongues$Reader" ({ cls := "TwoTongues$Reader", name := "read", desc := "(I)LTwoTongues$Street;" } : Jvm.MethodName) ({ cls := "TwoTongues$Reader", name := "read", desc := "(I)LTwoTongues$Street;" } : Jvm.MethodName)) ∈ lw_all := lw_g (lw_at lw_m2 223 rfl) rfl
theorem q594 : (Jvm.Cond.code ({ cls := "TwoTongues$Reader", name := "read", desc := "(I)LTwoTongues$Street;" } : Jvm.MethodName) prog_12_method_11_code (2 : Nat) (Option.some (Jvm.ClassFile.FieldType.object "TwoTongues$Street"))) ∈ lw_all := lw_g (lw_at lw_m2 224 rfl) rfl
theorem q595 : (Jvm.Cond.classLink "TwoTongues$Reader" (98 : Nat) "TwoTongues$Street") ∈ lw_all := lw_g (lw_at lw_m2 225 rfl) rfl
theorem q596 : (Jvm.Cond.methodLink "TwoTongues$Reader" (100 : Nat) ({ cls := "TwoTongues$Street", name := "<init>", desc := "()V" } : Jvm.MethodName)) ∈ lw_all := lw_g (lw_at lw_m2 226 rfl) rfl
theorem q597 : (Jvm.Cond.methodLink "TwoTongues$Reader" (89 : Nat) ({ cls := "TwoTongues$Reader", name := "next", desc := "()V" } : Jvm.MethodName)) ∈ lw_all := lw_g (lw_at lw_m2 227 rfl) rfl
theorem q598 : (Jvm.Cond.privateMethod ({ cls := "TwoTongues$Reader", name := "next", desc := "()V" } : Jvm.MethodName)) ∈ lw_tbl := lw_at lw_m2 228 rfl
theorem q599 : (Jvm.Cond.instanceMethod ({ cls := "TwoTongues$Reader", name := "next", desc := "()V" } : Jvm.MethodName)) ∈ lw_all := lw_g (lw_at lw_m2 229 rfl) rfl
theorem q600 : (Jvm.Cond.code ({ cls := "TwoTongues$Reader", name := "next", desc := "()V" } : Jvm.MethodName) prog_12_method_3_code (1 : Nat) (Option.none : Option Jvm.ClassFile.FieldType)) ∈ lw_all := lw_g (lw_at lw_m2 230 rfl) rfl
theorem q601 : (Jvm.Cond.methodLink "TwoTongues$Reader" (26 : Nat) ({ cls := "TwoTongues$Reader", name := "here", desc := "()I" } : Jvm.MethodName)) ∈ lw_all := lw_g (lw_at lw_m2 231 rfl) rfl
theorem q602 : (Jvm.Cond.privateMethod ({ cls := "TwoTongues$Reader", name := "here", desc := "()I" } : Jvm.MethodName)) ∈ lw_tbl := lw_at lw_m2 232 rfl
theorem q603 : (Jvm.Cond.instanceMethod ({ cls := "TwoTongues$Reader", name := "here", desc := "()I" } : Jvm.MethodName)) ∈ lw_all := lw_g (lw_at lw_m2 233 rfl) rfl
theorem q604 : (Jvm.Cond.code ({ cls := "TwoTongues$Reader", name := "here", desc := "()I" } : Jvm.MethodName) prog_12_method_2_code (1 : Nat) (Option.some Jvm.ClassFile.FieldType.int)) ∈ lw_all := lw_g (lw_at lw_m2 234 rfl) rfl
theorem q605 : (Jvm.Cond.constantLong "TwoTongues$Reader" (36 : Nat) (97 : Int64)) ∈ lw_all := lw_g (lw_at lw_m2 235 rfl) rfl
theorem q606 : (Jvm.Cond.constantLong "TwoTongues$Reader" (38 : Nat) (122 : Int64)) ∈ lw_all := lw_g (lw_at lw_m2 236 rfl) rfl
theorem q607 : (Jvm.Cond.methodLinkNest "TwoTongues$Reader" (40 : Nat) ({ cls := "TwoTongues", name := "in", desc := "(JJJ)Z" } : Jvm.MethodName) "TwoTongues") ∈ lw_tbl := lw_at lw_m2 237 rfl
theorem q608 : (Jvm.Cond.methodLink "TwoTongues$Reader" (44 : Nat) ({ cls := "TwoTongues$Reader", name := "word", desc := "()I" } : Jvm.MethodName)) ∈ lw_all := lw_g (lw_at lw_m2 238 rfl) rfl
theorem q609 : (Jvm.Cond.privateMethod ({ cls := "TwoTongues$Reader", name := "word", desc := "()I" } : Jvm.MethodName)) ∈ lw_tbl := lw_at lw_m2 239 rfl
theorem q610 : (Jvm.Cond.instanceMethod ({ cls := "TwoTongues$Reader", name := "word", desc := "()I" } : Jvm.MethodName)) ∈ lw_all := lw_g (lw_at lw_m3 0 rfl) rfl
theorem q611 : (Jvm.Cond.code ({ cls := "TwoTongues$Reader", name := "word", desc := "()I" } : Jvm.MethodName) prog_12_method_5_code (3 : Nat) (Option.some Jvm.ClassFile.FieldType.int)) ∈ lw_all := lw_g (lw_at lw_m3 1 rfl) rfl
theorem q612 : (Jvm.Cond.fieldLinkNest "TwoTongues$Reader" (69 : Nat) "TwoTongues" "NAMES" "[Ljava/lang/String;" "TwoTongues") ∈ lw_tbl := lw_at lw_m3 2 rfl
theorem q614 : (Jvm.Cond.methodLink "TwoTongues$Reader" (73 : Nat) ({ cls := "java/lang/String", name := "length", desc := "()I" } : Jvm.MethodName)) ∈ lw_all := lw_g (lw_at lw_m3 4 rfl) rfl
theorem q624 : (Jvm.Cond.methodLink "TwoTongues$Reader" (76 : Nat) ({ cls := "java/lang/String", name := "charAt", desc := "(I)C" } : Jvm.MethodName)) ∈ lw_all := lw_g (lw_at lw_m3 14 rfl) rfl
theorem q660 : (Jvm.Cond.methodLink "TwoTongues$Reader" (50 : Nat) ({ cls := "TwoTongues$Reader", name := "name", desc := "()V" } : Jvm.MethodName)) ∈ lw_all := lw_g (lw_at lw_m3 50 rfl) rfl
theorem q661 : (Jvm.Cond.privateMethod ({ cls := "TwoTongues$Reader", name := "name", desc := "()V" } : Jvm.MethodName)) ∈ lw_tbl := lw_at lw_m3 51 rfl
theorem q662 : (Jvm.Cond.instanceMethod ({ cls := "TwoTongues$Reader", name := "name", desc := "()V" } : Jvm.MethodName)) ∈ lw_all := lw_g (lw_at lw_m3 52 rfl) rfl
theorem q663 : (Jvm.Cond.code ({ cls := "TwoTongues$Reader", name := "name", desc := "()V" } : Jvm.MethodName) prog_12_method_6_code (2 : Nat) (Option.none : Option Jvm.ClassFile.FieldType)) ∈ lw_all := lw_g (lw_at lw_m3 53 rfl) rfl
theorem q664 : (Jvm.Cond.constantLong "TwoTongues$Reader" (53 : Nat) (48 : Int64)) ∈ lw_all := lw_g (lw_at lw_m3 54 rfl) rfl
theorem q665 : (Jvm.Cond.constantLong "TwoTongues$Reader" (55 : Nat) (57 : Int64)) ∈ lw_all := lw_g (lw_at lw_m3 55 rfl) rfl
theorem q666 : (Jvm.Cond.constant "TwoTongues$Reader" (57 : Nat) (99999 : Int32)) ∈ lw_all := lw_g (lw_at lw_m3 56 rfl) rfl
theorem q667 : (Jvm.Cond.methodLink "TwoTongues$Reader" (58 : Nat) ({ cls := "TwoTongues$Reader", name := "sign", desc := "()V" } : Jvm.MethodName)) ∈ lw_all := lw_g (lw_at lw_m3 57 rfl) rfl
theorem q668 : (Jvm.Cond.privateMethod ({ cls := "TwoTongues$Reader", name := "sign", desc := "()V" } : Jvm.MethodName)) ∈ lw_tbl := lw_at lw_m3 58 rfl
theorem q669 : (Jvm.Cond.instanceMethod ({ cls := "TwoTongues$Reader", name := "sign", desc := "()V" } : Jvm.MethodName)) ∈ lw_all := lw_g (lw_at lw_m3 59 rfl) rfl
theorem q670 : (Jvm.Cond.code ({ cls := "TwoTongues$Reader", name := "sign", desc := "()V" } : Jvm.MethodName) prog_12_method_4_code (2 : Nat) (Option.none : Option Jvm.ClassFile.FieldType)) ∈ lw_all := lw_g (lw_at lw_m3 60 rfl) rfl
theorem q671 : (Jvm.Cond.stringRef "TwoTongues$Reader" (61 : Nat) ";()+-*/<=>") ∈ lw_tbl := lw_at lw_m3 61 rfl
theorem q672 : (Jvm.Cond.methodLink "TwoTongues$Reader" (63 : Nat) ({ cls := "java/lang/String", name := "indexOf", desc := "(I)I" } : Jvm.MethodName)) ∈ lw_all := lw_g (lw_at lw_m3 62 rfl) rfl
theorem q731 : (Jvm.Cond.methodLink "TwoTongues$Reader" (105 : Nat) ({ cls := "TwoTongues$Reader", name := "line", desc := "()V" } : Jvm.MethodName)) ∈ lw_all := lw_g (lw_at lw_m3 121 rfl) rfl
theorem q732 : (Jvm.Cond.privateMethod ({ cls := "TwoTongues$Reader", name := "line", desc := "()V" } : Jvm.MethodName)) ∈ lw_tbl := lw_at lw_m3 122 rfl
theorem q733 : (Jvm.Cond.instanceMethod ({ cls := "TwoTongues$Reader", name := "line", desc := "()V" } : Jvm.MethodName)) ∈ lw_all := lw_g (lw_at lw_m3 123 rfl) rfl
theorem q734 : (Jvm.Cond.code ({ cls := "TwoTongues$Reader", name := "line", desc := "()V" } : Jvm.MethodName) prog_12_method_13_code (3 : Nat) (Option.none : Option Jvm.ClassFile.FieldType)) ∈ lw_all := lw_g (lw_at lw_m3 124 rfl) rfl
theorem q735 : (Jvm.Cond.methodLink "TwoTongues$Reader" (137 : Nat) ({ cls := "TwoTongues$Reader", name := "isWord", desc := "(II)Z" } : Jvm.MethodName)) ∈ lw_all := lw_g (lw_at lw_m3 125 rfl) rfl
theorem q736 : (Jvm.Cond.privateMethod ({ cls := "TwoTongues$Reader", name := "isWord", desc := "(II)Z" } : Jvm.MethodName)) ∈ lw_tbl := lw_at lw_m3 126 rfl
theorem q737 : (Jvm.Cond.instanceMethod ({ cls := "TwoTongues$Reader", name := "isWord", desc := "(II)Z" } : Jvm.MethodName)) ∈ lw_all := lw_g (lw_at lw_m3 127 rfl) rfl
theorem q738 : (Jvm.Cond.code ({ cls := "TwoTongues$Reader", name := "isWord", desc := "(II)Z" } : Jvm.MethodName) prog_12_method_8_code (3 : Nat) (Option.some Jvm.ClassFile.FieldType.boolean)) ∈ lw_all := lw_g (lw_at lw_m3 128 rfl) rfl
theorem q739 : (Jvm.Cond.methodLink "TwoTongues$Reader" (85 : Nat) ({ cls := "TwoTongues$Reader", name := "wrong", desc := "(I)LTwoTongues$Fault;" } : Jvm.MethodName)) ∈ lw_all := lw_g (lw_at lw_m3 129 rfl) rfl
theorem q740 : (Jvm.Cond.privateMethod ({ cls := "TwoTongues$Reader", name := "wrong", desc := "(I)LTwoTongues$Fault;" } : Jvm.MethodName)) ∈ lw_tbl := lw_at lw_m3 130 rfl
theorem q741 : (Jvm.Cond.instanceMethod ({ cls := "TwoTongues$Reader", name := "wrong", desc := "(I)LTwoTongues$Fault;" } : Jvm.MethodName)) ∈ lw_all := lw_g (lw_at lw_m3 131 rfl) rfl
theorem q742 : (Jvm.Cond.code ({ cls := "TwoTongues$Reader", name := "wrong", desc := "(I)LTwoTongues$Fault;" } : Jvm.MethodName) prog_12_method_7_code (2 : Nat) (Option.some (Jvm.ClassFile.FieldType.object "TwoTongues$Fault"))) ∈ lw_all := lw_g (lw_at lw_m3 132 rfl) rfl
theorem q743 : (Jvm.Cond.classLink "TwoTongues$Reader" (80 : Nat) "TwoTongues$Fault") ∈ lw_all := lw_g (lw_at lw_m3 133 rfl) rfl
theorem q784 : (Jvm.Cond.methodLink "TwoTongues$Reader" (82 : Nat) ({ cls := "TwoTongues$Fault", name := "<init>", desc := "(II)V" } : Jvm.MethodName)) ∈ lw_all := lw_g (lw_at lw_m3 174 rfl) rfl
theorem q814 : (Jvm.Cond.methodLink "TwoTongues$Reader" (141 : Nat) ({ cls := "TwoTongues$Reader", name := "isFull", desc := "(I)Z" } : Jvm.MethodName)) ∈ lw_all := lw_g (lw_at lw_m3 204 rfl) rfl
theorem q815 : (Jvm.Cond.privateMethod ({ cls := "TwoTongues$Reader", name := "isFull", desc := "(I)Z" } : Jvm.MethodName)) ∈ lw_tbl := lw_at lw_m3 205 rfl
theorem q816 : (Jvm.Cond.instanceMethod ({ cls := "TwoTongues$Reader", name := "isFull", desc := "(I)Z" } : Jvm.MethodName)) ∈ lw_all := lw_g (lw_at lw_m3 206 rfl) rfl
theorem q817 : (Jvm.Cond.code ({ cls := "TwoTongues$Reader", name := "isFull", desc := "(I)Z" } : Jvm.MethodName) prog_12_method_12_code (2 : Nat) (Option.some Jvm.ClassFile.FieldType.boolean)) ∈ lw_all := lw_g (lw_at lw_m3 207 rfl) rfl
theorem q818 : (Jvm.Cond.methodLink "TwoTongues$Reader" (124 : Nat) ({ cls := "java/util/ArrayList", name := "size", desc := "()I" } : Jvm.MethodName)) ∈ lw_all := lw_g (lw_at lw_m3 208 rfl) rfl
theorem q819 : (Jvm.Cond.constantLong "TwoTongues$Reader" (145 : Nat) (7 : Int64)) ∈ lw_all := lw_g (lw_at lw_m3 209 rfl) rfl
theorem q820 : (Jvm.Cond.constantLong "TwoTongues$Reader" (147 : Nat) (9 : Int64)) ∈ lw_all := lw_g (lw_at lw_m3 210 rfl) rfl
theorem q821 : (Jvm.Cond.methodLink "TwoTongues$Reader" (149 : Nat) ({ cls := "TwoTongues$Reader", name := "storeLine", desc := "(LTwoTongues$Store;)V" } : Jvm.MethodName)) ∈ lw_all := lw_g (lw_at lw_m3 211 rfl) rfl
theorem q822 : (Jvm.Cond.privateMethod ({ cls := "TwoTongues$Reader", name := "storeLine", desc := "(LTwoTongues$Store;)V" } : Jvm.MethodName)) ∈ lw_tbl := lw_at lw_m3 212 rfl
theorem q823 : (Jvm.Cond.instanceMethod ({ cls := "TwoTongues$Reader", name := "storeLine", desc := "(LTwoTongues$Store;)V" } : Jvm.MethodName)) ∈ lw_all := lw_g (lw_at lw_m3 213 rfl) rfl
theorem q824 : (Jvm.Cond.code ({ cls := "TwoTongues$Reader", name := "storeLine", desc := "(LTwoTongues$Store;)V" } : Jvm.MethodName) prog_12_method_14_code (3 : Nat) (Option.none : Option Jvm.ClassFile.FieldType)) ∈ lw_all := lw_g (lw_at lw_m3 214 rfl) rfl
theorem q825 : (Jvm.Cond.methodLink "TwoTongues$Reader" (200 : Nat) ({ cls := "TwoTongues$Store", name := "find", desc := "(I)I" } : Jvm.MethodName)) ∈ lw_all := lw_g (lw_at lw_m3 215 rfl) rfl
theorem q829 : (Jvm.Cond.methodLink "TwoTongues$Reader" (176 : Nat) ({ cls := "TwoTongues$Reader", name := "number", desc := "(II)I" } : Jvm.MethodName)) ∈ lw_all := lw_g (lw_at lw_m3 219 rfl) rfl
theorem q830 : (Jvm.Cond.privateMethod ({ cls := "TwoTongues$Reader", name := "number", desc := "(II)I" } : Jvm.MethodName)) ∈ lw_tbl := lw_at lw_m3 220 rfl
theorem q831 : (Jvm.Cond.instanceMethod ({ cls := "TwoTongues$Reader", name := "number", desc := "(II)I" } : Jvm.MethodName)) ∈ lw_all := lw_g (lw_at lw_m3 221 rfl) rfl
theorem q832 : (Jvm.Cond.code ({ cls := "TwoTongues$Reader", name := "number", desc := "(II)I" } : Jvm.MethodName) prog_12_method_10_code (4 : Nat) (Option.some Jvm.ClassFile.FieldType.int)) ∈ lw_all := lw_g (lw_at lw_m3 222 rfl) rfl
theorem q833 : (Jvm.Cond.methodLink "TwoTongues$Reader" (203 : Nat) ({ cls := "TwoTongues$Store", name := "add", desc := "(II)V" } : Jvm.MethodName)) ∈ lw_all := lw_g (lw_at lw_m3 223 rfl) rfl
theorem q837 : (Jvm.Cond.methodLink "TwoTongues$Reader" (153 : Nat) ({ cls := "TwoTongues$Reader", name := "signLine", desc := "()V" } : Jvm.MethodName)) ∈ lw_all := lw_g (lw_at lw_m3 227 rfl) rfl
theorem q838 : (Jvm.Cond.privateMethod ({ cls := "TwoTongues$Reader", name := "signLine", desc := "()V" } : Jvm.MethodName)) ∈ lw_tbl := lw_at lw_m3 228 rfl
theorem q839 : (Jvm.Cond.instanceMethod ({ cls := "TwoTongues$Reader", name := "signLine", desc := "()V" } : Jvm.MethodName)) ∈ lw_all := lw_g (lw_at lw_m3 229 rfl) rfl
theorem q840 : (Jvm.Cond.code ({ cls := "TwoTongues$Reader", name := "signLine", desc := "()V" } : Jvm.MethodName) prog_12_method_16_code (3 : Nat) (Option.none : Option Jvm.ClassFile.FieldType)) ∈ lw_all := lw_g (lw_at lw_m3 230 rfl) rfl
theorem q841 : (Jvm.Cond.methodLink "TwoTongues$Reader" (210 : Nat) ({ cls := "TwoTongues$Street", name := "find", desc := "(I)I" } : Jvm.MethodName)) ∈ lw_all := lw_g (lw_at lw_m3 231 rfl) rfl
theorem q848 : (Jvm.Cond.classLink "TwoTongues$Reader" (211 : Nat) "TwoTongues$Sign") ∈ lw_all := lw_g (lw_at lw_m3 238 rfl) rfl
theorem q850 : (Jvm.Cond.methodLink "TwoTongues$Reader" (213 : Nat) ({ cls := "TwoTongues$Sign", name := "<init>", desc := "(II)V" } : Jvm.MethodName)) ∈ lw_all := lw_g (lw_at lw_m4 0 rfl) rfl
theorem q862 : (Jvm.Cond.fieldLinkNest "TwoTongues$Reader" (214 : Nat) "TwoTongues$Sign" "row" "LTwoTongues$Row;" "TwoTongues") ∈ lw_tbl := lw_at lw_m4 12 rfl
theorem q870 : (Jvm.Cond.methodLink "TwoTongues$Reader" (168 : Nat) ({ cls := "TwoTongues$Reader", name := "row", desc := "(LTwoTongues$Row;)V" } : Jvm.MethodName)) ∈ lw_all := lw_g (lw_at lw_m4 20 rfl) rfl
theorem q871 : (Jvm.Cond.privateMethod ({ cls := "TwoTongues$Reader", name := "row", desc := "(LTwoTongues$Row;)V" } : Jvm.MethodName)) ∈ lw_tbl := lw_at lw_m4 21 rfl
theorem q872 : (Jvm.Cond.instanceMethod ({ cls := "TwoTongues$Reader", name := "row", desc := "(LTwoTongues$Row;)V" } : Jvm.MethodName)) ∈ lw_all := lw_g (lw_at lw_m4 22 rfl) rfl
theorem q873 : (Jvm.Cond.code ({ cls := "TwoTongues$Reader", name := "row", desc := "(LTwoTongues$Row;)V" } : Jvm.MethodName) prog_12_method_15_code (3 : Nat) (Option.none : Option Jvm.ClassFile.FieldType)) ∈ lw_all := lw_g (lw_at lw_m4 23 rfl) rfl
theorem q874 : (Jvm.Cond.methodLink "TwoTongues$Reader" (172 : Nat) ({ cls := "java/util/ArrayList", name := "add", desc := "(Ljava/lang/Object;)Z" } : Jvm.MethodName)) ∈ lw_all := lw_g (lw_at lw_m4 24 rfl) rfl
theorem q915 : (Jvm.Cond.selects "TwoTongues$Reader" ({ cls := "java/lang/Object", name := "getClass", desc := "()Ljava/lang/Class;" } : Jvm.MethodName) ({ cls := "java/lang/Object", name := "getClass", desc := "()Ljava/lang/Class;" } : Jvm.MethodName)) ∈ lw_all := lw_g (lw_at lw_m4 65 rfl) rfl
theorem q940 : (Jvm.Cond.methodLink "TwoTongues$Reader" (156 : Nat) ({ cls := "TwoTongues$Reader", name := "corner", desc := "()V" } : Jvm.MethodName)) ∈ lw_all := lw_g (lw_at lw_m4 90 rfl) rfl
theorem q941 : (Jvm.Cond.privateMethod ({ cls := "TwoTongues$Reader", name := "corner", desc := "()V" } : Jvm.MethodName)) ∈ lw_tbl := lw_at lw_m4 91 rfl
theorem q942 : (Jvm.Cond.instanceMethod ({ cls := "TwoTongues$Reader", name := "corner", desc := "()V" } : Jvm.MethodName)) ∈ lw_all := lw_g (lw_at lw_m4 92 rfl) rfl
theorem q943 : (Jvm.Cond.code ({ cls := "TwoTongues$Reader", name := "corner", desc := "()V" } : Jvm.MethodName) prog_12_method_18_code (2 : Nat) (Option.none : Option Jvm.ClassFile.FieldType)) ∈ lw_all := lw_g (lw_at lw_m4 93 rfl) rfl
theorem q944 : (Jvm.Cond.methodLink "TwoTongues$Reader" (220 : Nat) ({ cls := "TwoTongues$Reader", name := "ahead", desc := "(I)I" } : Jvm.MethodName)) ∈ lw_all := lw_g (lw_at lw_m4 94 rfl) rfl
theorem q945 : (Jvm.Cond.privateMethod ({ cls := "TwoTongues$Reader", name := "ahead", desc := "(I)I" } : Jvm.MethodName)) ∈ lw_tbl := lw_at lw_m4 95 rfl
theorem q946 : (Jvm.Cond.instanceMethod ({ cls := "TwoTongues$Reader", name := "ahead", desc := "(I)I" } : Jvm.MethodName)) ∈ lw_all := lw_g (lw_at lw_m4 96 rfl) rfl
theorem q947 : (Jvm.Cond.code ({ cls := "TwoTongues$Reader", name := "ahead", desc := "(I)I" } : Jvm.MethodName) prog_12_method_17_code (3 : Nat) (Option.some Jvm.ClassFile.FieldType.int)) ∈ lw_all := lw_g (lw_at lw_m4 97 rfl) rfl
theorem q948 : (Jvm.Cond.methodLink "TwoTongues$Reader" (226 : Nat) ({ cls := "java/util/ArrayList", name := "get", desc := "(I)Ljava/lang/Object;" } : Jvm.MethodName)) ∈ lw_all := lw_g (lw_at lw_m4 98 rfl) rfl
theorem q949 : (Jvm.Cond.methodLink "TwoTongues$Reader" (159 : Nat) ({ cls := "TwoTongues$Reader", name := "weigh", desc := "()V" } : Jvm.MethodName)) ∈ lw_all := lw_g (lw_at lw_m4 99 rfl) rfl
theorem q950 : (Jvm.Cond.privateMethod ({ cls := "TwoTongues$Reader", name := "weigh", desc := "()V" } : Jvm.MethodName)) ∈ lw_tbl := lw_at lw_m4 100 rfl
theorem q951 : (Jvm.Cond.instanceMethod ({ cls := "TwoTongues$Reader", name := "weigh", desc := "()V" } : Jvm.MethodName)) ∈ lw_all := lw_g (lw_at lw_m4 101 rfl) rfl
theorem q952 : (Jvm.Cond.code ({ cls := "TwoTongues$Reader", name := "weigh", desc := "()V" } : Jvm.MethodName) prog_12_method_19_code (5 : Nat) (Option.none : Option Jvm.ClassFile.FieldType)) ∈ lw_all := lw_g (lw_at lw_m4 102 rfl) rfl
theorem q953 : (Jvm.Cond.methodLink "TwoTongues$Reader" (162 : Nat) ({ cls := "TwoTongues$Reader", name := "feast", desc := "()V" } : Jvm.MethodName)) ∈ lw_all := lw_g (lw_at lw_m4 103 rfl) rfl
theorem q954 : (Jvm.Cond.privateMethod ({ cls := "TwoTongues$Reader", name := "feast", desc := "()V" } : Jvm.MethodName)) ∈ lw_tbl := lw_at lw_m4 104 rfl
theorem q955 : (Jvm.Cond.instanceMethod ({ cls := "TwoTongues$Reader", name := "feast", desc := "()V" } : Jvm.MethodName)) ∈ lw_all := lw_g (lw_at lw_m4 105 rfl) rfl
theorem q956 : (Jvm.Cond.code ({ cls := "TwoTongues$Reader", name := "feast", desc := "()V" } : Jvm.MethodName) prog_12_method_20_code (2 : Nat) (Option.none : Option Jvm.ClassFile.FieldType)) ∈ lw_all := lw_g (lw_at lw_m4 106 rfl) rfl
theorem q957 : (Jvm.Cond.methodLink "TwoTongues$Reader" (238 : Nat) ({ cls := "TwoTongues$Street", name := "isCovered", desc := "(II)Z" } : Jvm.MethodName)) ∈ lw_all := lw_g (lw_at lw_m4 107 rfl) rfl
theorem q961 : (Jvm.Cond.classLink "TwoTongues$Reader" (165 : Nat) "TwoTongues$Row") ∈ lw_all := lw_g (lw_at lw_m4 111 rfl) rfl
theorem q962 : (Jvm.Cond.methodLinkNest "TwoTongues$Reader" (167 : Nat) ({ cls := "TwoTongues$Row", name := "<init>", desc := "()V" } : Jvm.MethodName) "TwoTongues") ∈ lw_tbl := lw_at lw_m4 112 rfl
theorem q963 : (Jvm.Cond.methodLink "TwoTongues$Reader" (186 : Nat) ({ cls := "TwoTongues$Reader", name := "or", desc := "()LTwoTongues$Part;" } : Jvm.MethodName)) ∈ lw_all := lw_g (lw_at lw_m4 113 rfl) rfl
theorem q964 : (Jvm.Cond.privateMethod ({ cls := "TwoTongues$Reader", name := "or", desc := "()LTwoTongues$Part;" } : Jvm.MethodName)) ∈ lw_tbl := lw_at lw_m4 114 rfl
theorem q965 : (Jvm.Cond.instanceMethod ({ cls := "TwoTongues$Reader", name := "or", desc := "()LTwoTongues$Part;" } : Jvm.MethodName)) ∈ lw_all := lw_g (lw_at lw_m4 115 rfl) rfl
theorem q966 : (Jvm.Cond.code ({ cls := "TwoTongues$Reader", name := "or", desc := "()LTwoTongues$Part;" } : Jvm.MethodName) prog_12_method_22_code (3 : Nat) (Option.some (Jvm.ClassFile.FieldType.object "TwoTongues$Part"))) ∈ lw_all := lw_g (lw_at lw_m4 116 rfl) rfl
theorem q967 : (Jvm.Cond.methodLink "TwoTongues$Reader" (250 : Nat) ({ cls := "TwoTongues$Reader", name := "and", desc := "()LTwoTongues$Part;" } : Jvm.MethodName)) ∈ lw_all := lw_g (lw_at lw_m4 117 rfl) rfl
theorem q968 : (Jvm.Cond.privateMethod ({ cls := "TwoTongues$Reader", name := "and", desc := "()LTwoTongues$Part;" } : Jvm.MethodName)) ∈ lw_tbl := lw_at lw_m4 118 rfl
theorem q969 : (Jvm.Cond.instanceMethod ({ cls := "TwoTongues$Reader", name := "and", desc := "()LTwoTongues$Part;" } : Jvm.MethodName)) ∈ lw_all := lw_g (lw_at lw_m4 119 rfl) rfl
theorem q970 : (Jvm.Cond.code ({ cls := "TwoTongues$Reader", name := "and", desc := "()LTwoTongues$Part;" } : Jvm.MethodName) prog_12_method_23_code (3 : Nat) (Option.some (Jvm.ClassFile.FieldType.object "TwoTongues$Part"))) ∈ lw_all := lw_g (lw_at lw_m4 120 rfl) rfl
theorem q971 : (Jvm.Cond.methodLink "TwoTongues$Reader" (261 : Nat) ({ cls := "TwoTongues$Reader", name := "not", desc := "()LTwoTongues$Part;" } : Jvm.MethodName)) ∈ lw_all := lw_g (lw_at lw_m4 121 rfl) rfl
theorem q972 : (Jvm.Cond.privateMethod ({ cls := "TwoTongues$Reader", name := "not", desc := "()LTwoTongues$Part;" } : Jvm.MethodName)) ∈ lw_tbl := lw_at lw_m4 122 rfl
theorem q973 : (Jvm.Cond.instanceMethod ({ cls := "TwoTongues$Reader", name := "not", desc := "()LTwoTongues$Part;" } : Jvm.MethodName)) ∈ lw_all := lw_g (lw_at lw_m4 123 rfl) rfl
theorem q974 : (Jvm.Cond.code ({ cls := "TwoTongues$Reader", name := "not", desc := "()LTwoTongues$Part;" } : Jvm.MethodName) prog_12_method_24_code (1 : Nat) (Option.some (Jvm.ClassFile.FieldType.object "TwoTongues$Part"))) ∈ lw_all := lw_g (lw_at lw_m4 124 rfl) rfl
theorem q975 : (Jvm.Cond.methodLink "TwoTongues$Reader" (264 : Nat) ({ cls := "TwoTongues$Reader", name := "compare", desc := "()LTwoTongues$Part;" } : Jvm.MethodName)) ∈ lw_all := lw_g (lw_at lw_m4 125 rfl) rfl
theorem q976 : (Jvm.Cond.privateMethod ({ cls := "TwoTongues$Reader", name := "compare", desc := "()LTwoTongues$Part;" } : Jvm.MethodName)) ∈ lw_tbl := lw_at lw_m4 126 rfl
theorem q977 : (Jvm.Cond.instanceMethod ({ cls := "TwoTongues$Reader", name := "compare", desc := "()LTwoTongues$Part;" } : Jvm.MethodName)) ∈ lw_all := lw_g (lw_at lw_m4 127 rfl) rfl
theorem q978 : (Jvm.Cond.code ({ cls := "TwoTongues$Reader", name := "compare", desc := "()LTwoTongues$Part;" } : Jvm.MethodName) prog_12_method_25_code (3 : Nat) (Option.some (Jvm.ClassFile.FieldType.object "TwoTongues$Part"))) ∈ lw_all := lw_g (lw_at lw_m4 128 rfl) rfl
theorem q979 : (Jvm.Cond.methodLink "TwoTongues$Reader" (272 : Nat) ({ cls := "TwoTongues$Reader", name := "sum", desc := "()LTwoTongues$Part;" } : Jvm.MethodName)) ∈ lw_all := lw_g (lw_at lw_m4 129 rfl) rfl
theorem q980 : (Jvm.Cond.privateMethod ({ cls := "TwoTongues$Reader", name := "sum", desc := "()LTwoTongues$Part;" } : Jvm.MethodName)) ∈ lw_tbl := lw_at lw_m4 130 rfl
theorem q981 : (Jvm.Cond.instanceMethod ({ cls := "TwoTongues$Reader", name := "sum", desc := "()LTwoTongues$Part;" } : Jvm.MethodName)) ∈ lw_all := lw_g (lw_at lw_m4 131 rfl) rfl
theorem q982 : (Jvm.Cond.code ({ cls := "TwoTongues$Reader", name := "sum", desc := "()LTwoTongues$Part;" } : Jvm.MethodName) prog_12_method_26_code (3 : Nat) (Option.some (Jvm.ClassFile.FieldType.object "TwoTongues$Part"))) ∈ lw_all := lw_g (lw_at lw_m4 132 rfl) rfl
theorem q983 : (Jvm.Cond.methodLink "TwoTongues$Reader" (275 : Nat) ({ cls := "TwoTongues$Reader", name := "product", desc := "()LTwoTongues$Part;" } : Jvm.MethodName)) ∈ lw_all := lw_g (lw_at lw_m4 133 rfl) rfl
theorem q984 : (Jvm.Cond.privateMethod ({ cls := "TwoTongues$Reader", name := "product", desc := "()LTwoTongues$Part;" } : Jvm.MethodName)) ∈ lw_tbl := lw_at lw_m4 134 rfl
theorem q985 : (Jvm.Cond.instanceMethod ({ cls := "TwoTongues$Reader", name := "product", desc := "()LTwoTongues$Part;" } : Jvm.MethodName)) ∈ lw_all := lw_g (lw_at lw_m4 135 rfl) rfl
theorem q986 : (Jvm.Cond.code ({ cls := "TwoTongues$Reader", name := "product", desc := "()LTwoTongues$Part;" } : Jvm.MethodName) prog_12_method_27_code (3 : Nat) (Option.some (Jvm.ClassFile.FieldType.object "TwoTongues$Part"))) ∈ lw_all := lw_g (lw_at lw_m4 136 rfl) rfl
theorem q987 : (Jvm.Cond.methodLink "TwoTongues$Reader" (278 : Nat) ({ cls := "TwoTongues$Reader", name := "one", desc := "()LTwoTongues$Part;" } : Jvm.MethodName)) ∈ lw_all := lw_g (lw_at lw_m4 137 rfl) rfl
theorem q988 : (Jvm.Cond.privateMethod ({ cls := "TwoTongues$Reader", name := "one", desc := "()LTwoTongues$Part;" } : Jvm.MethodName)) ∈ lw_tbl := lw_at lw_m4 138 rfl
theorem q989 : (Jvm.Cond.instanceMethod ({ cls := "TwoTongues$Reader", name := "one", desc := "()LTwoTongues$Part;" } : Jvm.MethodName)) ∈ lw_all := lw_g (lw_at lw_m4 139 rfl) rfl
theorem q990 : (Jvm.Cond.code ({ cls := "TwoTongues$Reader", name := "one", desc := "()LTwoTongues$Part;" } : Jvm.MethodName) prog_12_method_28_code (2 : Nat) (Option.some (Jvm.ClassFile.FieldType.object "TwoTongues$Part"))) ∈ lw_all := lw_g (lw_at lw_m4 140 rfl) rfl
theorem q991 : (Jvm.Cond.methodLink "TwoTongues$Reader" (194 : Nat) ({ cls := "TwoTongues$Reader", name := "isSign", desc := "(I)Z" } : Jvm.MethodName)) ∈ lw_all := lw_g (lw_at lw_m4 141 rfl) rfl
theorem q992 : (Jvm.Cond.privateMethod ({ cls := "TwoTongues$Reader", name := "isSign", desc := "(I)Z" } : Jvm.MethodName)) ∈ lw_tbl := lw_at lw_m4 142 rfl
theorem q993 : (Jvm.Cond.instanceMethod ({ cls := "TwoTongues$Reader", name := "isSign", desc := "(I)Z" } : Jvm.MethodName)) ∈ lw_all := lw_g (lw_at lw_m4 143 rfl) rfl
theorem q994 : (Jvm.Cond.code ({ cls := "TwoTongues$Reader", name := "isSign", desc := "(I)Z" } : Jvm.MethodName) prog_12_method_9_code (2 : Nat) (Option.some Jvm.ClassFile.FieldType.boolean)) ∈ lw_all := lw_g (lw_at lw_m4 144 rfl) rfl
theorem q995 : (Jvm.Cond.classLink "TwoTongues$Reader" (281 : Nat) "TwoTongues$Number") ∈ lw_all := lw_g (lw_at lw_m4 145 rfl) rfl
theorem q997 : (Jvm.Cond.methodLink "TwoTongues$Reader" (253 : Nat) ({ cls := "TwoTongues$Reader", name := "knot", desc := "()I" } : Jvm.MethodName)) ∈ lw_all := lw_g (lw_at lw_m4 147 rfl) rfl
theorem q998 : (Jvm.Cond.privateMethod ({ cls := "TwoTongues$Reader", name := "knot", desc := "()I" } : Jvm.MethodName)) ∈ lw_tbl := lw_at lw_m4 148 rfl
theorem q999 : (Jvm.Cond.instanceMethod ({ cls := "TwoTongues$Reader", name := "knot", desc := "()I" } : Jvm.MethodName)) ∈ lw_all := lw_g (lw_at lw_m4 149 rfl) rfl
theorem q1000 : (Jvm.Cond.code ({ cls := "TwoTongues$Reader", name := "knot", desc := "()I" } : Jvm.MethodName) prog_12_method_21_code (2 : Nat) (Option.some Jvm.ClassFile.FieldType.int)) ∈ lw_all := lw_g (lw_at lw_m4 150 rfl) rfl
theorem q1001 : (Jvm.Cond.methodLink "TwoTongues$Reader" (283 : Nat) ({ cls := "TwoTongues$Number", name := "<init>", desc := "(I)V" } : Jvm.MethodName)) ∈ lw_all := lw_g (lw_at lw_m4 151 rfl) rfl
theorem q1012 : (Jvm.Cond.classLink "TwoTongues$Reader" (286 : Nat) "TwoTongues$Name") ∈ lw_all := lw_g (lw_at lw_m4 162 rfl) rfl
theorem q1014 : (Jvm.Cond.methodLink "TwoTongues$Reader" (288 : Nat) ({ cls := "TwoTongues$Name", name := "<init>", desc := "(I)V" } : Jvm.MethodName)) ∈ lw_all := lw_g (lw_at lw_m4 164 rfl) rfl
theorem q1022 : (Jvm.Cond.classLink "TwoTongues$Reader" (256 : Nat) "TwoTongues$Two") ∈ lw_all := lw_g (lw_at lw_m4 172 rfl) rfl
theorem q1024 : (Jvm.Cond.methodLink "TwoTongues$Reader" (258 : Nat) ({ cls := "TwoTongues$Two", name := "<init>", desc := "(ILTwoTongues$Part;LTwoTongues$Part;)V" } : Jvm.MethodName)) ∈ lw_all := lw_g (lw_at lw_m4 174 rfl) rfl
theorem q1043 : (Jvm.Cond.classLink "TwoTongues$Reader" (267 : Nat) "TwoTongues$Not") ∈ lw_all := lw_g (lw_at lw_m4 193 rfl) rfl
theorem q1045 : (Jvm.Cond.methodLink "TwoTongues$Reader" (269 : Nat) ({ cls := "TwoTongues$Not", name := "<init>", desc := "(LTwoTongues$Part;)V" } : Jvm.MethodName)) ∈ lw_all := lw_g (lw_at lw_m4 195 rfl) rfl
theorem q2270 : (Jvm.Cond.castable "TwoTongues$Reader" "java/lang/Object") ∈ lw_tbl := lw_at lw_m9 220 rfl
theorem q165 : (Jvm.Cond.initialized "TwoTongues$Two") ∈ lw_all := lw_g (lw_at lw_m1 35 rfl) rfl
theorem q923 : (Jvm.Cond.selects "TwoTongues$Two" ({ cls := "java/lang/Object", name := "getClass", desc := "()Ljava/lang/Class;" } : Jvm.MethodName) ({ cls := "java/lang/Object", name := "getClass", desc := "()Ljava/lang/Class;" } : Jvm.MethodName)) ∈ lw_all := lw_g (lw_at lw_m4 73 rfl) rfl
theorem q1023 : (Jvm.Cond.instantiable "TwoTongues$Two" (3 : Nat)) ∈ lw_all := lw_g (lw_at lw_m4 173 rfl) rfl
theorem q1025 : (Jvm.Cond.instanceMethod ({ cls := "TwoTongues$Two", name := "<init>", desc := "(ILTwoTongues$Part;LTwoTongues$Part;)V" } : Jvm.MethodName)) ∈ lw_all := lw_g (lw_at lw_m4 175 rfl) rfl
theorem q1026 : (Jvm.Cond.code ({ cls := "TwoTongues$Two", name := "<init>", desc := "(ILTwoTongues$Part;LTwoTongues$Part;)V" } : Jvm.MethodName) prog_20_method_1_code (4 : Nat) (Option.none : Option Jvm.ClassFile.FieldType)) ∈ lw_all := lw_g (lw_at lw_m4 176 rfl) rfl
theorem q1027 : (Jvm.Cond.methodLink "TwoTongues$Two" (3 : Nat) ({ cls := "TwoTongues$Not", name := "<init>", desc := "(LTwoTongues$Part;)V" } : Jvm.MethodName)) ∈ lw_all := lw_g (lw_at lw_m4 177 rfl) rfl
theorem q1031 : (Jvm.Cond.fieldLink "TwoTongues$Two" (9 : Nat) "TwoTongues$Two" "sign" "I") ∈ lw_all := lw_g (lw_at lw_m4 181 rfl) rfl
theorem q1032 : (Jvm.Cond.fieldLink "TwoTongues$Two" (15 : Nat) "TwoTongues$Two" "b" "LTwoTongues$Part;") ∈ lw_all := lw_g (lw_at lw_m4 182 rfl) rfl
theorem q1034 : (Jvm.Cond.fieldLink "TwoTongues$Two" (19 : Nat) "TwoTongues$Two" "a" "LTwoTongues$Part;") ∈ lw_all := lw_g (lw_at lw_m4 184 rfl) rfl
theorem q1035 : (Jvm.Cond.sameField "TwoTongues$Two" "TwoTongues$Not" "a" "LTwoTongues$Part;") ∈ lw_all := lw_g (lw_at lw_m4 185 rfl) rfl
theorem q1036 : (Jvm.Cond.laysFinal "TwoTongues$Two" "TwoTongues$Two" "sign" "I") ∈ lw_all := lw_g (lw_at lw_m4 186 rfl) rfl
theorem q1037 : (Jvm.Cond.soleField "TwoTongues$Two" "sign") ∈ lw_all := lw_g (lw_at lw_m4 187 rfl) rfl
theorem q1038 : (Jvm.Cond.laysFinal "TwoTongues$Two" "TwoTongues$Two" "b" "LTwoTongues$Part;") ∈ lw_all := lw_g (lw_at lw_m4 188 rfl) rfl
theorem q1039 : (Jvm.Cond.soleField "TwoTongues$Two" "b") ∈ lw_all := lw_g (lw_at lw_m4 189 rfl) rfl
theorem q1040 : (Jvm.Cond.laysFinal "TwoTongues$Two" "TwoTongues$Not" "a" "LTwoTongues$Part;") ∈ lw_all := lw_g (lw_at lw_m4 190 rfl) rfl
theorem q1042 : (Jvm.Cond.superclass "TwoTongues$Two" "TwoTongues$Not") ∈ lw_all := lw_g (lw_at lw_m4 192 rfl) rfl
theorem q1378 : (Jvm.Cond.instanceMethod ({ cls := "TwoTongues$Two", name := "of", desc := "([J)J" } : Jvm.MethodName)) ∈ lw_all := lw_g (lw_at lw_m6 48 rfl) rfl
theorem q1379 : (Jvm.Cond.code ({ cls := "TwoTongues$Two", name := "of", desc := "([J)J" } : Jvm.MethodName) prog_20_method_3_code (6 : Nat) (Option.some Jvm.ClassFile.FieldType.long)) ∈ lw_all := lw_g (lw_at lw_m6 49 rfl) rfl
theorem q1380 : (Jvm.Cond.methodLink "TwoTongues$Two" (22 : Nat) ({ cls := "TwoTongues$Part", name := "of", desc := "([J)J" } : Jvm.MethodName)) ∈ lw_all := lw_g (lw_at lw_m6 50 rfl) rfl
theorem q1381 : (Jvm.Cond.methodLinkNest "TwoTongues$Two" (28 : Nat) ({ cls := "TwoTongues", name := "sure", desc := "(J)J" } : Jvm.MethodName) "TwoTongues") ∈ lw_tbl := lw_at lw_m6 51 rfl
theorem q1388 : (Jvm.Cond.methodLink "TwoTongues$Two" (32 : Nat) ({ cls := "TwoTongues$Two", name := "times", desc := "(JJ)J" } : Jvm.MethodName)) ∈ lw_all := lw_g (lw_at lw_m6 58 rfl) rfl
theorem q1389 : (Jvm.Cond.static ({ cls := "TwoTongues$Two", name := "times", desc := "(JJ)J" } : Jvm.MethodName)) ∈ lw_all := lw_g (lw_at lw_m6 59 rfl) rfl
theorem q1390 : (Jvm.Cond.code ({ cls := "TwoTongues$Two", name := "times", desc := "(JJ)J" } : Jvm.MethodName) prog_20_method_4_code (4 : Nat) (Option.some Jvm.ClassFile.FieldType.long)) ∈ lw_all := lw_g (lw_at lw_m6 60 rfl) rfl
theorem q1391 : (Jvm.Cond.methodLink "TwoTongues$Two" (44 : Nat) ({ cls := "java/lang/Math", name := "abs", desc := "(J)J" } : Jvm.MethodName)) ∈ lw_all := lw_g (lw_at lw_m6 61 rfl) rfl
theorem q1394 : (Jvm.Cond.constantLong "TwoTongues$Two" (49 : Nat) (1000000000000 : Int64)) ∈ lw_all := lw_g (lw_at lw_m6 64 rfl) rfl
theorem q1395 : (Jvm.Cond.fieldLinkNest "TwoTongues$Two" (36 : Nat) "TwoTongues" "TROUBLE" "LTwoTongues$Trouble;" "TwoTongues") ∈ lw_tbl := lw_at lw_m6 65 rfl
theorem q1396 : (Jvm.Cond.methodLink "TwoTongues$Two" (40 : Nat) ({ cls := "TwoTongues$Two", name := "is", desc := "(Z)J" } : Jvm.MethodName)) ∈ lw_all := lw_g (lw_at lw_m6 66 rfl) rfl
theorem q1397 : (Jvm.Cond.static ({ cls := "TwoTongues$Two", name := "is", desc := "(Z)J" } : Jvm.MethodName)) ∈ lw_all := lw_g (lw_at lw_m6 67 rfl) rfl
theorem q1398 : (Jvm.Cond.code ({ cls := "TwoTongues$Two", name := "is", desc := "(Z)J" } : Jvm.MethodName) prog_20_method_2_code (1 : Nat) (Option.some Jvm.ClassFile.FieldType.long)) ∈ lw_all := lw_g (lw_at lw_m6 68 rfl) rfl
theorem q1400 : (Jvm.Cond.selects "TwoTongues$Two" ({ cls := "TwoTongues$Part", name := "of", desc := "([J)J" } : Jvm.MethodName) ({ cls := "TwoTongues$Two", name := "of", desc := "([J)J" } : Jvm.MethodName)) ∈ lw_all := lw_g (lw_at lw_m6 70 rfl) rfl
theorem q2282 : (Jvm.Cond.castable "TwoTongues$Two" "java/lang/Object") ∈ lw_tbl := lw_at lw_m9 232 rfl
theorem q133 : (Jvm.Cond.initialized "TwoTongues$Street") ∈ lw_all := lw_g (lw_at lw_m1 3 rfl) rfl
theorem q215 : (Jvm.Cond.instantiable "TwoTongues$Street" (18 : Nat)) ∈ lw_all := lw_g (lw_at lw_m1 85 rfl) rfl
theorem q217 : (Jvm.Cond.instanceMethod ({ cls := "TwoTongues$Street", name := "<init>", desc := "()V" } : Jvm.MethodName)) ∈ lw_all := lw_g (lw_at lw_m1 87 rfl) rfl
theorem q218 : (Jvm.Cond.code ({ cls := "TwoTongues$Street", name := "<init>", desc := "()V" } : Jvm.MethodName) prog_18_method_1_code (2 : Nat) (Option.none : Option Jvm.ClassFile.FieldType)) ∈ lw_all := lw_g (lw_at lw_m1 88 rfl) rfl
theorem q219 : (Jvm.Cond.methodLink "TwoTongues$Street" (3 : Nat) ({ cls := "java/lang/Object", name := "<init>", desc := "()V" } : Jvm.MethodName)) ∈ lw_all := lw_g (lw_at lw_m1 89 rfl) rfl
theorem q220 : (Jvm.Cond.classLink "TwoTongues$Street" (9 : Nat) "TwoTongues$Store") ∈ lw_all := lw_g (lw_at lw_m1 90 rfl) rfl
theorem q222 : (Jvm.Cond.methodLinkNest "TwoTongues$Street" (11 : Nat) ({ cls := "TwoTongues$Store", name := "<init>", desc := "()V" } : Jvm.MethodName) "TwoTongues") ∈ lw_tbl := lw_at lw_m1 92 rfl
theorem q242 : (Jvm.Cond.classLink "TwoTongues$Street" (21 : Nat) "java/util/ArrayList") ∈ lw_all := lw_g (lw_at lw_m1 112 rfl) rfl
theorem q244 : (Jvm.Cond.methodLink "TwoTongues$Street" (23 : Nat) ({ cls := "java/util/ArrayList", name := "<init>", desc := "(I)V" } : Jvm.MethodName)) ∈ lw_all := lw_g (lw_at lw_m1 114 rfl) rfl
theorem q270 : (Jvm.Cond.fieldLink "TwoTongues$Street" (12 : Nat) "TwoTongues$Street" "east" "LTwoTongues$Store;") ∈ lw_all := lw_g (lw_at lw_m1 140 rfl) rfl
theorem q273 : (Jvm.Cond.fieldLink "TwoTongues$Street" (18 : Nat) "TwoTongues$Street" "west" "LTwoTongues$Store;") ∈ lw_all := lw_g (lw_at lw_m1 143 rfl) rfl
theorem q276 : (Jvm.Cond.fieldLink "TwoTongues$Street" (26 : Nat) "TwoTongues$Street" "signs" "Ljava/util/ArrayList;") ∈ lw_all := lw_g (lw_at lw_m1 146 rfl) rfl
theorem q280 : (Jvm.Cond.fieldLink "TwoTongues$Street" (30 : Nat) "TwoTongues$Street" "mays" "Ljava/util/ArrayList;") ∈ lw_all := lw_g (lw_at lw_m1 150 rfl) rfl
theorem q283 : (Jvm.Cond.fieldLink "TwoTongues$Street" (33 : Nat) "TwoTongues$Street" "cornerA" "[I") ∈ lw_all := lw_g (lw_at lw_m1 153 rfl) rfl
theorem q286 : (Jvm.Cond.fieldLink "TwoTongues$Street" (37 : Nat) "TwoTongues$Street" "atA" "[I") ∈ lw_all := lw_g (lw_at lw_m1 156 rfl) rfl
theorem q289 : (Jvm.Cond.fieldLink "TwoTongues$Street" (40 : Nat) "TwoTongues$Street" "cornerB" "[I") ∈ lw_all := lw_g (lw_at lw_m1 159 rfl) rfl
theorem q292 : (Jvm.Cond.fieldLink "TwoTongues$Street" (43 : Nat) "TwoTongues$Street" "atB" "[I") ∈ lw_all := lw_g (lw_at lw_m1 162 rfl) rfl
theorem q295 : (Jvm.Cond.fieldLink "TwoTongues$Street" (46 : Nat) "TwoTongues$Street" "weigh" "[I") ∈ lw_all := lw_g (lw_at lw_m1 165 rfl) rfl
theorem q298 : (Jvm.Cond.fieldLink "TwoTongues$Street" (49 : Nat) "TwoTongues$Street" "feastDay" "[I") ∈ lw_all := lw_g (lw_at lw_m1 168 rfl) rfl
theorem q300 : (Jvm.Cond.fieldLink "TwoTongues$Street" (52 : Nat) "TwoTongues$Street" "feastTongue" "[I") ∈ lw_all := lw_g (lw_at lw_m1 170 rfl) rfl
theorem q306 : (Jvm.Cond.fieldLink "TwoTongues$Street" (69 : Nat) "TwoTongues$Street" "feasts" "I") ∈ lw_all := lw_g (lw_at lw_m1 176 rfl) rfl
theorem q316 : (Jvm.Cond.laysFinal "TwoTongues$Street" "TwoTongues$Street" "east" "LTwoTongues$Store;") ∈ lw_all := lw_g (lw_at lw_m1 186 rfl) rfl
theorem q317 : (Jvm.Cond.soleField "TwoTongues$Street" "east") ∈ lw_all := lw_g (lw_at lw_m1 187 rfl) rfl
theorem q318 : (Jvm.Cond.laysFinal "TwoTongues$Street" "TwoTongues$Street" "west" "LTwoTongues$Store;") ∈ lw_all := lw_g (lw_at lw_m1 188 rfl) rfl
theorem q319 : (Jvm.Cond.soleField "TwoTongues$Street" "west") ∈ lw_all := lw_g (lw_at lw_m1 189 rfl) rfl
theorem q320 : (Jvm.Cond.laysFinal "TwoTongues$Street" "TwoTongues$Street" "signs" "Ljava/util/ArrayList;") ∈ lw_all := lw_g (lw_at lw_m1 190 rfl) rfl
theorem q321 : (Jvm.Cond.soleField "TwoTongues$Street" "signs") ∈ lw_all := lw_g (lw_at lw_m1 191 rfl) rfl
theorem q322 : (Jvm.Cond.laysFinal "TwoTongues$Street" "TwoTongues$Street" "mays" "Ljava/util/ArrayList;") ∈ lw_all := lw_g (lw_at lw_m1 192 rfl) rfl
theorem q323 : (Jvm.Cond.soleField "TwoTongues$Street" "mays") ∈ lw_all := lw_g (lw_at lw_m1 193 rfl) rfl
theorem q324 : (Jvm.Cond.laysFinal "TwoTongues$Street" "TwoTongues$Street" "cornerA" "[I") ∈ lw_all := lw_g (lw_at lw_m1 194 rfl) rfl
theorem q325 : (Jvm.Cond.soleField "TwoTongues$Street" "cornerA") ∈ lw_all := lw_g (lw_at lw_m1 195 rfl) rfl
theorem q326 : (Jvm.Cond.laysFinal "TwoTongues$Street" "TwoTongues$Street" "atA" "[I") ∈ lw_all := lw_g (lw_at lw_m1 196 rfl) rfl
theorem q327 : (Jvm.Cond.soleField "TwoTongues$Street" "atA") ∈ lw_all := lw_g (lw_at lw_m1 197 rfl) rfl
theorem q328 : (Jvm.Cond.laysFinal "TwoTongues$Street" "TwoTongues$Street" "cornerB" "[I") ∈ lw_all := lw_g (lw_at lw_m1 198 rfl) rfl
theorem q329 : (Jvm.Cond.soleField "TwoTongues$Street" "cornerB") ∈ lw_all := lw_g (lw_at lw_m1 199 rfl) rfl
theorem q330 : (Jvm.Cond.laysFinal "TwoTongues$Street" "TwoTongues$Street" "atB" "[I") ∈ lw_all := lw_g (lw_at lw_m1 200 rfl) rfl
theorem q331 : (Jvm.Cond.soleField "TwoTongues$Street" "atB") ∈ lw_all := lw_g (lw_at lw_m1 201 rfl) rfl
theorem q332 : (Jvm.Cond.laysFinal "TwoTongues$Street" "TwoTongues$Street" "weigh" "[I") ∈ lw_all := lw_g (lw_at lw_m1 202 rfl) rfl
theorem q333 : (Jvm.Cond.soleField "TwoTongues$Street" "weigh") ∈ lw_all := lw_g (lw_at lw_m1 203 rfl) rfl
theorem q334 : (Jvm.Cond.laysFinal "TwoTongues$Street" "TwoTongues$Street" "feastDay" "[I") ∈ lw_all := lw_g (lw_at lw_m1 204 rfl) rfl
theorem q335 : (Jvm.Cond.soleField "TwoTongues$Street" "feastDay") ∈ lw_all := lw_g (lw_at lw_m1 205 rfl) rfl
theorem q336 : (Jvm.Cond.laysFinal "TwoTongues$Street" "TwoTongues$Street" "feastTongue" "[I") ∈ lw_all := lw_g (lw_at lw_m1 206 rfl) rfl
theorem q337 : (Jvm.Cond.soleField "TwoTongues$Street" "feastTongue") ∈ lw_all := lw_g (lw_at lw_m1 207 rfl) rfl
theorem q338 : (Jvm.Cond.lays "TwoTongues$Street" "TwoTongues$Street" "law" "LTwoTongues$Part;") ∈ lw_all := lw_g (lw_at lw_m1 208 rfl) rfl
theorem q339 : (Jvm.Cond.soleField "TwoTongues$Street" "law") ∈ lw_all := lw_g (lw_at lw_m1 209 rfl) rfl
theorem q340 : (Jvm.Cond.lays "TwoTongues$Street" "TwoTongues$Street" "corners" "I") ∈ lw_all := lw_g (lw_at lw_m1 210 rfl) rfl
theorem q341 : (Jvm.Cond.soleField "TwoTongues$Street" "corners") ∈ lw_all := lw_g (lw_at lw_m1 211 rfl) rfl
theorem q342 : (Jvm.Cond.lays "TwoTongues$Street" "TwoTongues$Street" "feasts" "I") ∈ lw_all := lw_g (lw_at lw_m1 212 rfl) rfl
theorem q343 : (Jvm.Cond.soleField "TwoTongues$Street" "feasts") ∈ lw_all := lw_g (lw_at lw_m1 213 rfl) rfl
theorem q344 : (Jvm.Cond.lays "TwoTongues$Street" "TwoTongues$Street" "purse" "I") ∈ lw_all := lw_g (lw_at lw_m1 214 rfl) rfl
theorem q345 : (Jvm.Cond.soleField "TwoTongues$Street" "purse") ∈ lw_all := lw_g (lw_at lw_m1 215 rfl) rfl
theorem q346 : (Jvm.Cond.lays "TwoTongues$Street" "TwoTongues$Street" "seed" "I") ∈ lw_all := lw_g (lw_at lw_m1 216 rfl) rfl
theorem q347 : (Jvm.Cond.soleField "TwoTongues$Street" "seed") ∈ lw_all := lw_g (lw_at lw_m1 217 rfl) rfl
theorem q348 : (Jvm.Cond.lays "TwoTongues$Street" "TwoTongues$Street" "knots" "I") ∈ lw_all := lw_g (lw_at lw_m1 218 rfl) rfl
theorem q349 : (Jvm.Cond.soleField "TwoTongues$Street" "knots") ∈ lw_all := lw_g (lw_at lw_m1 219 rfl) rfl
theorem q350 : (Jvm.Cond.lays "TwoTongues$Street" "TwoTongues$Street" "lines" "I") ∈ lw_all := lw_g (lw_at lw_m1 220 rfl) rfl
theorem q351 : (Jvm.Cond.soleField "TwoTongues$Street" "lines") ∈ lw_all := lw_g (lw_at lw_m1 221 rfl) rfl
theorem q352 : (Jvm.Cond.superclass "TwoTongues$Street" "java/lang/Object") ∈ lw_all := lw_g (lw_at lw_m1 222 rfl) rfl
theorem q403 : (Jvm.Cond.fieldLinkNest "TwoTongues$Street" (77 : Nat) "TwoTongues$Row" "letters" "[I" "TwoTongues") ∈ lw_tbl := lw_at lw_m2 33 rfl
theorem q407 : (Jvm.Cond.fieldLinkNest "TwoTongues$Street" (72 : Nat) "TwoTongues$Row" "many" "I" "TwoTongues") ∈ lw_tbl := lw_at lw_m2 37 rfl
theorem q842 : (Jvm.Cond.instanceMethod ({ cls := "TwoTongues$Street", name := "find", desc := "(I)I" } : Jvm.MethodName)) ∈ lw_all := lw_g (lw_at lw_m3 232 rfl) rfl
theorem q843 : (Jvm.Cond.selects "TwoTongues$Street" ({ cls := "TwoTongues$Street", name := "find", desc := "(I)I" } : Jvm.MethodName) ({ cls := "TwoTongues$Street", name := "find", desc := "(I)I" } : Jvm.MethodName)) ∈ lw_all := lw_g (lw_at lw_m3 233 rfl) rfl
theorem q844 : (Jvm.Cond.code ({ cls := "TwoTongues$Street", name := "find", desc := "(I)I" } : Jvm.MethodName) prog_18_method_2_code (3 : Nat) (Option.some Jvm.ClassFile.FieldType.int)) ∈ lw_all := lw_g (lw_at lw_m3 234 rfl) rfl
theorem q845 : (Jvm.Cond.methodLink "TwoTongues$Street" (55 : Nat) ({ cls := "java/util/ArrayList", name := "size", desc := "()I" } : Jvm.MethodName)) ∈ lw_all := lw_g (lw_at lw_m3 235 rfl) rfl
theorem q846 : (Jvm.Cond.methodLink "TwoTongues$Street" (59 : Nat) ({ cls := "java/util/ArrayList", name := "get", desc := "(I)Ljava/lang/Object;" } : Jvm.MethodName)) ∈ lw_all := lw_g (lw_at lw_m3 236 rfl) rfl
theorem q847 : (Jvm.Cond.classLink "TwoTongues$Street" (63 : Nat) "TwoTongues$Sign") ∈ lw_all := lw_g (lw_at lw_m3 237 rfl) rfl
theorem q857 : (Jvm.Cond.fieldLinkNest "TwoTongues$Street" (65 : Nat) "TwoTongues$Sign" "name" "I" "TwoTongues") ∈ lw_tbl := lw_at lw_m4 7 rfl
theorem q921 : (Jvm.Cond.selects "TwoTongues$Street" ({ cls := "java/lang/Object", name := "getClass", desc := "()Ljava/lang/Class;" } : Jvm.MethodName) ({ cls := "java/lang/Object", name := "getClass", desc := "()Ljava/lang/Class;" } : Jvm.MethodName)) ∈ lw_all := lw_g (lw_at lw_m4 71 rfl) rfl
theorem q958 : (Jvm.Cond.instanceMethod ({ cls := "TwoTongues$Street", name := "isCovered", desc := "(II)Z" } : Jvm.MethodName)) ∈ lw_all := lw_g (lw_at lw_m4 108 rfl) rfl
theorem q959 : (Jvm.Cond.selects "TwoTongues$Street" ({ cls := "TwoTongues$Street", name := "isCovered", desc := "(II)Z" } : Jvm.MethodName) ({ cls := "TwoTongues$Street", name := "isCovered", desc := "(II)Z" } : Jvm.MethodName)) ∈ lw_all := lw_g (lw_at lw_m4 109 rfl) rfl
theorem q960 : (Jvm.Cond.code ({ cls := "TwoTongues$Street", name := "isCovered", desc := "(II)Z" } : Jvm.MethodName) prog_18_method_3_code (4 : Nat) (Option.some Jvm.ClassFile.FieldType.boolean)) ∈ lw_all := lw_g (lw_at lw_m4 110 rfl) rfl
theorem q1358 : (Jvm.Cond.instanceMethod ({ cls := "TwoTongues$Street", name := "iron", desc := "(LTwoTongues$Row;)I" } : Jvm.MethodName)) ∈ lw_all := lw_g (lw_at lw_m6 28 rfl) rfl
theorem q1359 : (Jvm.Cond.selects "TwoTongues$Street" ({ cls := "TwoTongues$Street", name := "iron", desc := "(LTwoTongues$Row;)I" } : Jvm.MethodName) ({ cls := "TwoTongues$Street", name := "iron", desc := "(LTwoTongues$Row;)I" } : Jvm.MethodName)) ∈ lw_all := lw_g (lw_at lw_m6 29 rfl) rfl
theorem q1360 : (Jvm.Cond.code ({ cls := "TwoTongues$Street", name := "iron", desc := "(LTwoTongues$Row;)I" } : Jvm.MethodName) prog_18_method_4_code (4 : Nat) (Option.some Jvm.ClassFile.FieldType.int)) ∈ lw_all := lw_g (lw_at lw_m6 30 rfl) rfl
theorem q2271 : (Jvm.Cond.castable "TwoTongues$Street" "java/lang/Object") ∈ lw_tbl := lw_at lw_m9 221 rfl
theorem q134 : (Jvm.Cond.initialized "TwoTongues$Store") ∈ lw_all := lw_g (lw_at lw_m1 4 rfl) rfl
theorem q221 : (Jvm.Cond.instantiable "TwoTongues$Store" (3 : Nat)) ∈ lw_all := lw_g (lw_at lw_m1 91 rfl) rfl
theorem q223 : (Jvm.Cond.instanceMethod ({ cls := "TwoTongues$Store", name := "<init>", desc := "()V" } : Jvm.MethodName)) ∈ lw_all := lw_g (lw_at lw_m1 93 rfl) rfl
theorem q224 : (Jvm.Cond.code ({ cls := "TwoTongues$Store", name := "<init>", desc := "()V" } : Jvm.MethodName) prog_17_method_1_code (1 : Nat) (Option.none : Option Jvm.ClassFile.FieldType)) ∈ lw_all := lw_g (lw_at lw_m1 94 rfl) rfl
theorem q225 : (Jvm.Cond.methodLink "TwoTongues$Store" (3 : Nat) ({ cls := "java/lang/Object", name := "<init>", desc := "()V" } : Jvm.MethodName)) ∈ lw_all := lw_g (lw_at lw_m1 95 rfl) rfl
theorem q226 : (Jvm.Cond.fieldLink "TwoTongues$Store" (9 : Nat) "TwoTongues$Store" "words" "[I") ∈ lw_all := lw_g (lw_at lw_m1 96 rfl) rfl
theorem q228 : (Jvm.Cond.fieldLink "TwoTongues$Store" (15 : Nat) "TwoTongues$Store" "worth" "[I") ∈ lw_all := lw_g (lw_at lw_m1 98 rfl) rfl
theorem q230 : (Jvm.Cond.fieldLink "TwoTongues$Store" (18 : Nat) "TwoTongues$Store" "many" "I") ∈ lw_all := lw_g (lw_at lw_m1 100 rfl) rfl
theorem q234 : (Jvm.Cond.laysFinal "TwoTongues$Store" "TwoTongues$Store" "words" "[I") ∈ lw_all := lw_g (lw_at lw_m1 104 rfl) rfl
theorem q235 : (Jvm.Cond.soleField "TwoTongues$Store" "words") ∈ lw_all := lw_g (lw_at lw_m1 105 rfl) rfl
theorem q236 : (Jvm.Cond.laysFinal "TwoTongues$Store" "TwoTongues$Store" "worth" "[I") ∈ lw_all := lw_g (lw_at lw_m1 106 rfl) rfl
theorem q237 : (Jvm.Cond.soleField "TwoTongues$Store" "worth") ∈ lw_all := lw_g (lw_at lw_m1 107 rfl) rfl
theorem q238 : (Jvm.Cond.lays "TwoTongues$Store" "TwoTongues$Store" "many" "I") ∈ lw_all := lw_g (lw_at lw_m1 108 rfl) rfl
theorem q239 : (Jvm.Cond.soleField "TwoTongues$Store" "many") ∈ lw_all := lw_g (lw_at lw_m1 109 rfl) rfl
theorem q240 : (Jvm.Cond.superclass "TwoTongues$Store" "java/lang/Object") ∈ lw_all := lw_g (lw_at lw_m1 110 rfl) rfl
theorem q462 : (Jvm.Cond.instanceMethod ({ cls := "TwoTongues$Store", name := "become", desc := "(LTwoTongues$Store;)V" } : Jvm.MethodName)) ∈ lw_all := lw_g (lw_at lw_m2 92 rfl) rfl
theorem q463 : (Jvm.Cond.selects "TwoTongues$Store" ({ cls := "TwoTongues$Store", name := "become", desc := "(LTwoTongues$Store;)V" } : Jvm.MethodName) ({ cls := "TwoTongues$Store", name := "become", desc := "(LTwoTongues$Store;)V" } : Jvm.MethodName)) ∈ lw_all := lw_g (lw_at lw_m2 93 rfl) rfl
theorem q464 : (Jvm.Cond.code ({ cls := "TwoTongues$Store", name := "become", desc := "(LTwoTongues$Store;)V" } : Jvm.MethodName) prog_17_method_2_code (3 : Nat) (Option.none : Option Jvm.ClassFile.FieldType)) ∈ lw_all := lw_g (lw_at lw_m2 94 rfl) rfl
theorem q826 : (Jvm.Cond.instanceMethod ({ cls := "TwoTongues$Store", name := "find", desc := "(I)I" } : Jvm.MethodName)) ∈ lw_all := lw_g (lw_at lw_m3 216 rfl) rfl
theorem q827 : (Jvm.Cond.selects "TwoTongues$Store" ({ cls := "TwoTongues$Store", name := "find", desc := "(I)I" } : Jvm.MethodName) ({ cls := "TwoTongues$Store", name := "find", desc := "(I)I" } : Jvm.MethodName)) ∈ lw_all := lw_g (lw_at lw_m3 217 rfl) rfl
theorem q828 : (Jvm.Cond.code ({ cls := "TwoTongues$Store", name := "find", desc := "(I)I" } : Jvm.MethodName) prog_17_method_3_code (3 : Nat) (Option.some Jvm.ClassFile.FieldType.int)) ∈ lw_all := lw_g (lw_at lw_m3 218 rfl) rfl
theorem q834 : (Jvm.Cond.instanceMethod ({ cls := "TwoTongues$Store", name := "add", desc := "(II)V" } : Jvm.MethodName)) ∈ lw_all := lw_g (lw_at lw_m3 224 rfl) rfl
theorem q835 : (Jvm.Cond.selects "TwoTongues$Store" ({ cls := "TwoTongues$Store", name := "add", desc := "(II)V" } : Jvm.MethodName) ({ cls := "TwoTongues$Store", name := "add", desc := "(II)V" } : Jvm.MethodName)) ∈ lw_all := lw_g (lw_at lw_m3 225 rfl) rfl
theorem q836 : (Jvm.Cond.code ({ cls := "TwoTongues$Store", name := "add", desc := "(II)V" } : Jvm.MethodName) prog_17_method_4_code (3 : Nat) (Option.none : Option Jvm.ClassFile.FieldType)) ∈ lw_all := lw_g (lw_at lw_m3 226 rfl) rfl
theorem q920 : (Jvm.Cond.selects "TwoTongues$Store" ({ cls := "java/lang/Object", name := "getClass", desc := "()Ljava/lang/Class;" } : Jvm.MethodName) ({ cls := "java/lang/Object", name := "getClass", desc := "()Ljava/lang/Class;" } : Jvm.MethodName)) ∈ lw_all := lw_g (lw_at lw_m4 70 rfl) rfl
theorem q1117 : (Jvm.Cond.instanceMethod ({ cls := "TwoTongues$Store", name := "length", desc := "(I)I" } : Jvm.MethodName)) ∈ lw_all := lw_g (lw_at lw_m5 27 rfl) rfl
theorem q1118 : (Jvm.Cond.selects "TwoTongues$Store" ({ cls := "TwoTongues$Store", name := "length", desc := "(I)I" } : Jvm.MethodName) ({ cls := "TwoTongues$Store", name := "length", desc := "(I)I" } : Jvm.MethodName)) ∈ lw_all := lw_g (lw_at lw_m5 28 rfl) rfl
theorem q1119 : (Jvm.Cond.code ({ cls := "TwoTongues$Store", name := "length", desc := "(I)I" } : Jvm.MethodName) prog_17_method_5_code (3 : Nat) (Option.some Jvm.ClassFile.FieldType.int)) ∈ lw_all := lw_g (lw_at lw_m5 29 rfl) rfl
theorem q1120 : (Jvm.Cond.methodLink "TwoTongues$Store" (22 : Nat) ({ cls := "TwoTongues$Store", name := "letter", desc := "(II)I" } : Jvm.MethodName)) ∈ lw_all := lw_g (lw_at lw_m5 30 rfl) rfl
theorem q1121 : (Jvm.Cond.instanceMethod ({ cls := "TwoTongues$Store", name := "letter", desc := "(II)I" } : Jvm.MethodName)) ∈ lw_all := lw_g (lw_at lw_m5 31 rfl) rfl
theorem q1122 : (Jvm.Cond.selects "TwoTongues$Store" ({ cls := "TwoTongues$Store", name := "letter", desc := "(II)I" } : Jvm.MethodName) ({ cls := "TwoTongues$Store", name := "letter", desc := "(II)I" } : Jvm.MethodName)) ∈ lw_all := lw_g (lw_at lw_m5 32 rfl) rfl
theorem q1123 : (Jvm.Cond.code ({ cls := "TwoTongues$Store", name := "letter", desc := "(II)I" } : Jvm.MethodName) prog_17_method_6_code (3 : Nat) (Option.some Jvm.ClassFile.FieldType.int)) ∈ lw_all := lw_g (lw_at lw_m5 33 rfl) rfl
theorem q2264 : (Jvm.Cond.castable "TwoTongues$Store" "java/lang/Object") ∈ lw_tbl := lw_at lw_m9 214 rfl
theorem q138 : (Jvm.Cond.initialized "TwoTongues$Kind") ∈ lw_all := lw_g (lw_at lw_m1 8 rfl) rfl
theorem q361 : (Jvm.Cond.instanceMethod ({ cls := "TwoTongues$Kind", name := "<init>", desc := "()V" } : Jvm.MethodName)) ∈ lw_all := lw_g (lw_at lw_m1 231 rfl) rfl
theorem q362 : (Jvm.Cond.code ({ cls := "TwoTongues$Kind", name := "<init>", desc := "()V" } : Jvm.MethodName) prog_4_method_1_code (1 : Nat) (Option.none : Option Jvm.ClassFile.FieldType)) ∈ lw_all := lw_g (lw_at lw_m1 232 rfl) rfl
theorem q363 : (Jvm.Cond.methodLink "TwoTongues$Kind" (1 : Nat) ({ cls := "java/lang/Object", name := "<init>", desc := "()V" } : Jvm.MethodName)) ∈ lw_all := lw_g (lw_at lw_m1 233 rfl) rfl
theorem q1094 : (Jvm.Cond.declares ({ cls := "TwoTongues$Kind", name := "isFromRight", desc := "(I)Z" } : Jvm.MethodName)) ∈ lw_tbl := lw_at lw_m5 4 rfl
theorem q1095 : (Jvm.Cond.sameMethod "TwoTongues$Kind" "TwoTongues$Kind" "isFromRight" "(I)Z") ∈ lw_all := lw_g (lw_at lw_m5 5 rfl) rfl
theorem q2263 : (Jvm.Cond.castable "TwoTongues$Kind" "java/lang/Object") ∈ lw_tbl := lw_at lw_m9 213 rfl
theorem q139 : (Jvm.Cond.initialized "TwoTongues$Plain") ∈ lw_all := lw_g (lw_at lw_m1 9 rfl) rfl
theorem q356 : (Jvm.Cond.instantiable "TwoTongues$Plain" (0 : Nat)) ∈ lw_all := lw_g (lw_at lw_m1 226 rfl) rfl
theorem q358 : (Jvm.Cond.instanceMethod ({ cls := "TwoTongues$Plain", name := "<init>", desc := "()V" } : Jvm.MethodName)) ∈ lw_all := lw_g (lw_at lw_m1 228 rfl) rfl
theorem q359 : (Jvm.Cond.code ({ cls := "TwoTongues$Plain", name := "<init>", desc := "()V" } : Jvm.MethodName) prog_11_method_1_code (1 : Nat) (Option.none : Option Jvm.ClassFile.FieldType)) ∈ lw_all := lw_g (lw_at lw_m1 229 rfl) rfl
theorem q360 : (Jvm.Cond.methodLinkNest "TwoTongues$Plain" (3 : Nat) ({ cls := "TwoTongues$Kind", name := "<init>", desc := "()V" } : Jvm.MethodName) "TwoTongues") ∈ lw_tbl := lw_at lw_m1 230 rfl
theorem q364 : (Jvm.Cond.superclass "TwoTongues$Plain" "TwoTongues$Kind") ∈ lw_all := lw_g (lw_at lw_m1 234 rfl) rfl
theorem q914 : (Jvm.Cond.selects "TwoTongues$Plain" ({ cls := "java/lang/Object", name := "getClass", desc := "()Ljava/lang/Class;" } : Jvm.MethodName) ({ cls := "java/lang/Object", name := "getClass", desc := "()Ljava/lang/Class;" } : Jvm.MethodName)) ∈ lw_all := lw_g (lw_at lw_m4 64 rfl) rfl
theorem q1105 : (Jvm.Cond.selects "TwoTongues$Plain" ({ cls := "TwoTongues$Kind", name := "isFromRight", desc := "(I)Z" } : Jvm.MethodName) ({ cls := "TwoTongues$Plain", name := "isFromRight", desc := "(I)Z" } : Jvm.MethodName)) ∈ lw_all := lw_g (lw_at lw_m5 15 rfl) rfl
theorem q1106 : (Jvm.Cond.instanceMethod ({ cls := "TwoTongues$Plain", name := "isFromRight", desc := "(I)Z" } : Jvm.MethodName)) ∈ lw_all := lw_g (lw_at lw_m5 16 rfl) rfl
theorem q1107 : (Jvm.Cond.code ({ cls := "TwoTongues$Plain", name := "isFromRight", desc := "(I)Z" } : Jvm.MethodName) prog_11_method_2_code (2 : Nat) (Option.some Jvm.ClassFile.FieldType.boolean)) ∈ lw_all := lw_g (lw_at lw_m5 17 rfl) rfl
theorem q2273 : (Jvm.Cond.castable "TwoTongues$Plain" "java/lang/Object") ∈ lw_tbl := lw_at lw_m9 223 rfl
theorem q2289 : (Jvm.Cond.castable "TwoTongues$Plain" "TwoTongues$Kind") ∈ lw_tbl := lw_at lw_m9 239 rfl
theorem q140 : (Jvm.Cond.initialized "TwoTongues$Mirror") ∈ lw_all := lw_g (lw_at lw_m1 10 rfl) rfl
theorem q366 : (Jvm.Cond.instantiable "TwoTongues$Mirror" (0 : Nat)) ∈ lw_all := lw_g (lw_at lw_m1 236 rfl) rfl
theorem q368 : (Jvm.Cond.instanceMethod ({ cls := "TwoTongues$Mirror", name := "<init>", desc := "()V" } : Jvm.MethodName)) ∈ lw_all := lw_g (lw_at lw_m1 238 rfl) rfl
theorem q369 : (Jvm.Cond.code ({ cls := "TwoTongues$Mirror", name := "<init>", desc := "()V" } : Jvm.MethodName) prog_5_method_1_code (1 : Nat) (Option.none : Option Jvm.ClassFile.FieldType)) ∈ lw_all := lw_g (lw_at lw_m1 239 rfl) rfl
theorem q370 : (Jvm.Cond.methodLinkNest "TwoTongues$Mirror" (3 : Nat) ({ cls := "TwoTongues$Kind", name := "<init>", desc := "()V" } : Jvm.MethodName) "TwoTongues") ∈ lw_tbl := lw_at lw_m2 0 rfl
theorem q371 : (Jvm.Cond.superclass "TwoTongues$Mirror" "TwoTongues$Kind") ∈ lw_all := lw_g (lw_at lw_m2 1 rfl) rfl
theorem q909 : (Jvm.Cond.selects "TwoTongues$Mirror" ({ cls := "java/lang/Object", name := "getClass", desc := "()Ljava/lang/Class;" } : Jvm.MethodName) ({ cls := "java/lang/Object", name := "getClass", desc := "()Ljava/lang/Class;" } : Jvm.MethodName)) ∈ lw_all := lw_g (lw_at lw_m4 59 rfl) rfl
theorem q1102 : (Jvm.Cond.selects "TwoTongues$Mirror" ({ cls := "TwoTongues$Kind", name := "isFromRight", desc := "(I)Z" } : Jvm.MethodName) ({ cls := "TwoTongues$Mirror", name := "isFromRight", desc := "(I)Z" } : Jvm.MethodName)) ∈ lw_all := lw_g (lw_at lw_m5 12 rfl) rfl
theorem q1103 : (Jvm.Cond.instanceMethod ({ cls := "TwoTongues$Mirror", name := "isFromRight", desc := "(I)Z" } : Jvm.MethodName)) ∈ lw_all := lw_g (lw_at lw_m5 13 rfl) rfl
theorem q1104 : (Jvm.Cond.code ({ cls := "TwoTongues$Mirror", name := "isFromRight", desc := "(I)Z" } : Jvm.MethodName) prog_5_method_2_code (2 : Nat) (Option.some Jvm.ClassFile.FieldType.boolean)) ∈ lw_all := lw_g (lw_at lw_m5 14 rfl) rfl
theorem q2274 : (Jvm.Cond.castable "TwoTongues$Mirror" "java/lang/Object") ∈ lw_tbl := lw_at lw_m9 224 rfl
theorem q2290 : (Jvm.Cond.castable "TwoTongues$Mirror" "TwoTongues$Kind") ∈ lw_tbl := lw_at lw_m10 0 rfl
theorem q141 : (Jvm.Cond.initialized "TwoTongues$Royal") ∈ lw_all := lw_g (lw_at lw_m1 11 rfl) rfl
theorem q373 : (Jvm.Cond.instantiable "TwoTongues$Royal" (0 : Nat)) ∈ lw_all := lw_g (lw_at lw_m2 3 rfl) rfl
theorem q375 : (Jvm.Cond.instanceMethod ({ cls := "TwoTongues$Royal", name := "<init>", desc := "()V" } : Jvm.MethodName)) ∈ lw_all := lw_g (lw_at lw_m2 5 rfl) rfl
theorem q376 : (Jvm.Cond.code ({ cls := "TwoTongues$Royal", name := "<init>", desc := "()V" } : Jvm.MethodName) prog_14_method_1_code (1 : Nat) (Option.none : Option Jvm.ClassFile.FieldType)) ∈ lw_all := lw_g (lw_at lw_m2 6 rfl) rfl
theorem q377 : (Jvm.Cond.methodLinkNest "TwoTongues$Royal" (1 : Nat) ({ cls := "TwoTongues$Kind", name := "<init>", desc := "()V" } : Jvm.MethodName) "TwoTongues") ∈ lw_tbl := lw_at lw_m2 7 rfl
theorem q378 : (Jvm.Cond.superclass "TwoTongues$Royal" "TwoTongues$Kind") ∈ lw_all := lw_g (lw_at lw_m2 8 rfl) rfl
theorem q917 : (Jvm.Cond.selects "TwoTongues$Royal" ({ cls := "java/lang/Object", name := "getClass", desc := "()Ljava/lang/Class;" } : Jvm.MethodName) ({ cls := "java/lang/Object", name := "getClass", desc := "()Ljava/lang/Class;" } : Jvm.MethodName)) ∈ lw_all := lw_g (lw_at lw_m4 67 rfl) rfl
theorem q1100 : (Jvm.Cond.instanceMethod ({ cls := "TwoTongues$Royal", name := "isFromRight", desc := "(I)Z" } : Jvm.MethodName)) ∈ lw_all := lw_g (lw_at lw_m5 10 rfl) rfl
theorem q1101 : (Jvm.Cond.code ({ cls := "TwoTongues$Royal", name := "isFromRight", desc := "(I)Z" } : Jvm.MethodName) prog_14_method_2_code (2 : Nat) (Option.some Jvm.ClassFile.FieldType.boolean)) ∈ lw_all := lw_g (lw_at lw_m5 11 rfl) rfl
theorem q1108 : (Jvm.Cond.selects "TwoTongues$Royal" ({ cls := "TwoTongues$Kind", name := "isFromRight", desc := "(I)Z" } : Jvm.MethodName) ({ cls := "TwoTongues$Royal", name := "isFromRight", desc := "(I)Z" } : Jvm.MethodName)) ∈ lw_all := lw_g (lw_at lw_m5 18 rfl) rfl
theorem q2259 : (Jvm.Cond.sameMethod "TwoTongues$Royal" "TwoTongues$Royal" "isFromRight" "(I)Z") ∈ lw_all := lw_g (lw_at lw_m9 209 rfl) rfl
theorem q2275 : (Jvm.Cond.castable "TwoTongues$Royal" "java/lang/Object") ∈ lw_tbl := lw_at lw_m9 225 rfl
theorem q2291 : (Jvm.Cond.castable "TwoTongues$Royal" "TwoTongues$Kind") ∈ lw_tbl := lw_at lw_m10 1 rfl
theorem q142 : (Jvm.Cond.initialized "TwoTongues$Blind") ∈ lw_all := lw_g (lw_at lw_m1 12 rfl) rfl
theorem q380 : (Jvm.Cond.instantiable "TwoTongues$Blind" (0 : Nat)) ∈ lw_all := lw_g (lw_at lw_m2 10 rfl) rfl
theorem q382 : (Jvm.Cond.instanceMethod ({ cls := "TwoTongues$Blind", name := "<init>", desc := "()V" } : Jvm.MethodName)) ∈ lw_all := lw_g (lw_at lw_m2 12 rfl) rfl
theorem q383 : (Jvm.Cond.code ({ cls := "TwoTongues$Blind", name := "<init>", desc := "()V" } : Jvm.MethodName) prog_2_method_1_code (1 : Nat) (Option.none : Option Jvm.ClassFile.FieldType)) ∈ lw_all := lw_g (lw_at lw_m2 13 rfl) rfl
theorem q384 : (Jvm.Cond.methodLinkNest "TwoTongues$Blind" (1 : Nat) ({ cls := "TwoTongues$Royal", name := "<init>", desc := "()V" } : Jvm.MethodName) "TwoTongues") ∈ lw_tbl := lw_at lw_m2 14 rfl
theorem q385 : (Jvm.Cond.superclass "TwoTongues$Blind" "TwoTongues$Royal") ∈ lw_all := lw_g (lw_at lw_m2 15 rfl) rfl
theorem q907 : (Jvm.Cond.selects "TwoTongues$Blind" ({ cls := "java/lang/Object", name := "getClass", desc := "()Ljava/lang/Class;" } : Jvm.MethodName) ({ cls := "java/lang/Object", name := "getClass", desc := "()Ljava/lang/Class;" } : Jvm.MethodName)) ∈ lw_all := lw_g (lw_at lw_m4 57 rfl) rfl
theorem q1096 : (Jvm.Cond.selects "TwoTongues$Blind" ({ cls := "TwoTongues$Kind", name := "isFromRight", desc := "(I)Z" } : Jvm.MethodName) ({ cls := "TwoTongues$Blind", name := "isFromRight", desc := "(I)Z" } : Jvm.MethodName)) ∈ lw_all := lw_g (lw_at lw_m5 6 rfl) rfl
theorem q1097 : (Jvm.Cond.instanceMethod ({ cls := "TwoTongues$Blind", name := "isFromRight", desc := "(I)Z" } : Jvm.MethodName)) ∈ lw_all := lw_g (lw_at lw_m5 7 rfl) rfl
theorem q1098 : (Jvm.Cond.code ({ cls := "TwoTongues$Blind", name := "isFromRight", desc := "(I)Z" } : Jvm.MethodName) prog_2_method_2_code (2 : Nat) (Option.some Jvm.ClassFile.FieldType.boolean)) ∈ lw_all := lw_g (lw_at lw_m5 8 rfl) rfl
theorem q1099 : (Jvm.Cond.methodLink "TwoTongues$Blind" (7 : Nat) ({ cls := "TwoTongues$Royal", name := "isFromRight", desc := "(I)Z" } : Jvm.MethodName)) ∈ lw_all := lw_g (lw_at lw_m5 9 rfl) rfl
theorem q2276 : (Jvm.Cond.castable "TwoTongues$Blind" "java/lang/Object") ∈ lw_tbl := lw_at lw_m9 226 rfl
theorem q2292 : (Jvm.Cond.castable "TwoTongues$Blind" "TwoTongues$Kind") ∈ lw_tbl := lw_at lw_m10 2 rfl
theorem q774 : (Jvm.Cond.selects "TwoTongues$Trouble" ({ cls := "java/lang/Throwable", name := "fillInStackTrace", desc := "()Ljava/lang/Throwable;" } : Jvm.MethodName) ({ cls := "java/lang/Throwable", name := "fillInStackTrace", desc := "()Ljava/lang/Throwable;" } : Jvm.MethodName)) ∈ lw_all := lw_g (lw_at lw_m3 164 rfl) rfl
theorem q922 : (Jvm.Cond.selects "TwoTongues$Trouble" ({ cls := "java/lang/Object", name := "getClass", desc := "()Ljava/lang/Class;" } : Jvm.MethodName) ({ cls := "java/lang/Object", name := "getClass", desc := "()Ljava/lang/Class;" } : Jvm.MethodName)) ∈ lw_all := lw_g (lw_at lw_m4 72 rfl) rfl
theorem q2261 : (Jvm.Cond.castable "TwoTongues$Trouble" "TwoTongues$Trouble") ∈ lw_tbl := lw_at lw_m9 211 rfl
theorem q2287 : (Jvm.Cond.castable "TwoTongues$Trouble" "java/lang/Object") ∈ lw_tbl := lw_at lw_m9 237 rfl
theorem q2296 : (Jvm.Cond.castable "[B" "java/lang/Object") ∈ lw_tbl := lw_at lw_m10 6 rfl
theorem q2297 : (Jvm.Cond.castable "[I" "java/lang/Object") ∈ lw_tbl := lw_at lw_m10 7 rfl
theorem q2304 : (Jvm.Cond.castable "[J" "java/lang/Object") ∈ lw_tbl := lw_at lw_m10 14 rfl
theorem q2299 : (Jvm.Cond.castable "[LTwoTongues$Kind;" "java/lang/Object") ∈ lw_tbl := lw_at lw_m10 9 rfl
theorem q2303 : (Jvm.Cond.castable "[LTwoTongues$Net;" "java/lang/Object") ∈ lw_tbl := lw_at lw_m10 13 rfl
theorem q2301 : (Jvm.Cond.castable "[LTwoTongues$Row;" "java/lang/Object") ∈ lw_tbl := lw_at lw_m10 11 rfl
theorem q2302 : (Jvm.Cond.castable "[LTwoTongues$State;" "java/lang/Object") ∈ lw_tbl := lw_at lw_m10 12 rfl
theorem q2300 : (Jvm.Cond.castable "[LTwoTongues$Store;" "java/lang/Object") ∈ lw_tbl := lw_at lw_m10 10 rfl
theorem q2293 : (Jvm.Cond.sameMethod "[Ljava/lang/Object;" "java/lang/Object" "getClass" "()Ljava/lang/Class;") ∈ lw_all := lw_g (lw_at lw_m10 3 rfl) rfl
theorem q2294 : (Jvm.Cond.selects "[Ljava/lang/Object;" ({ cls := "java/lang/Object", name := "getClass", desc := "()Ljava/lang/Class;" } : Jvm.MethodName) ({ cls := "java/lang/Object", name := "getClass", desc := "()Ljava/lang/Class;" } : Jvm.MethodName)) ∈ lw_all := lw_g (lw_at lw_m10 4 rfl) rfl
theorem q2298 : (Jvm.Cond.castable "[Ljava/lang/Object;" "java/lang/Object") ∈ lw_tbl := lw_at lw_m10 8 rfl
theorem q2306 : (Jvm.Cond.castable "[Ljava/lang/String;" "java/lang/Object") ∈ lw_tbl := lw_at lw_m10 16 rfl
theorem q2305 : (Jvm.Cond.castable "[Z" "java/lang/Object") ∈ lw_tbl := lw_at lw_m10 15 rfl
theorem q160 : (Jvm.Cond.initialized "java/lang/System") ∈ lw_all := lw_g (lw_at lw_m1 30 rfl) rfl
theorem q937 : (Jvm.Cond.static ({ cls := "java/lang/System", name := "arraycopy", desc := "(Ljava/lang/Object;ILjava/lang/Object;II)V" } : Jvm.MethodName)) ∈ lw_all := lw_g (lw_at lw_m4 87 rfl) rfl
theorem q938 : (Jvm.Cond.native ({ cls := "java/lang/System", name := "arraycopy", desc := "(Ljava/lang/Object;ILjava/lang/Object;II)V" } : Jvm.MethodName)) ∈ lw_all := lw_g (lw_at lw_m4 88 rfl) rfl
theorem q213 : (Jvm.Cond.arrayClass Jvm.ClassFile.FieldType.byte) ∈ lw_all := lw_g (lw_at lw_m1 83 rfl) rfl
theorem q241 : (Jvm.Cond.arrayClass Jvm.ClassFile.FieldType.int) ∈ lw_all := lw_g (lw_at lw_m1 111 rfl) rfl
theorem q255 : (Jvm.Cond.arrayOver (Jvm.ClassFile.FieldType.object "java/lang/Object")) ∈ lw_tbl := lw_at lw_m1 125 rfl
theorem q354 : (Jvm.Cond.arrayOver (Jvm.ClassFile.FieldType.object "TwoTongues$Kind")) ∈ lw_tbl := lw_at lw_m1 224 rfl
theorem q393 : (Jvm.Cond.arrayOver (Jvm.ClassFile.FieldType.object "TwoTongues$Store")) ∈ lw_tbl := lw_at lw_m2 23 rfl
theorem q396 : (Jvm.Cond.arrayOver (Jvm.ClassFile.FieldType.object "TwoTongues$Row")) ∈ lw_tbl := lw_at lw_m2 26 rfl
theorem q435 : (Jvm.Cond.arrayOver (Jvm.ClassFile.FieldType.object "TwoTongues$State")) ∈ lw_tbl := lw_at lw_m2 65 rfl
theorem q437 : (Jvm.Cond.arrayOver (Jvm.ClassFile.FieldType.object "TwoTongues$Net")) ∈ lw_tbl := lw_at lw_m2 67 rfl
theorem q453 : (Jvm.Cond.arrayClass Jvm.ClassFile.FieldType.long) ∈ lw_all := lw_g (lw_at lw_m2 83 rfl) rfl
theorem q1796 : (Jvm.Cond.arrayClass Jvm.ClassFile.FieldType.boolean) ∈ lw_all := lw_g (lw_at lw_m7 226 rfl) rfl
theorem q2333 : (Jvm.Cond.arrayOver (Jvm.ClassFile.FieldType.object "java/lang/String")) ∈ lw_tbl := lw_at lw_m10 43 rfl
theorem in_J10 : ∀ w ∈ wsJ100, w ∈ lw_all := lw_in wsJ100 [753, 755, 757, 759, 761] (by decide +kernel) (by decide +kernel)
theorem in_J15 : ∀ w ∈ wsJ150, w ∈ lw_all := lw_in wsJ150 [1474, 1475, 1476, 1477, 1478, 1489] (by decide +kernel) (by decide +kernel)
theorem in_J16 : ∀ w ∈ wsJ160, w ∈ lw_all := lw_in wsJ160 [1447, 1448, 1449, 1450, 1451, 1452] (by decide +kernel) (by decide +kernel)
theorem in_J17 : ∀ w ∈ wsJ170, w ∈ lw_all := lw_in wsJ170 [1495, 1496, 1497, 1498, 1499, 1504] (by decide +kernel) (by decide +kernel)
theorem in_J2 : ∀ w ∈ wsJ20, w ∈ lw_all := lw_in wsJ20 [267, 263, 265] (by decide +kernel) (by decide +kernel)
theorem in_J5 : ∀ w ∈ wsJ50, w ∈ lw_all := lw_in wsJ50 [1461, 1463] (by decide +kernel) (by decide +kernel)
theorem in_X1 : ∀ w ∈ wsX10, w ∈ lw_all := lw_in wsX10 [518, 520, 522, 524, 526, 528, 530, 532, 534, 536, 538, 540, 542, 544, 546, 548, 550, 552, 554, 556, 558, 560, 562, 564, 566, 568, 570, 572] (by decide +kernel) (by decide +kernel)
theorem in_X10 : ∀ w ∈ wsX100, w ∈ lw_all := lw_in wsX100 [424, 426, 428, 430, 432] (by decide +kernel) (by decide +kernel)
theorem in_X11 : ∀ w ∈ wsX110, w ∈ lw_all := lw_in wsX110 [410, 412] (by decide +kernel) (by decide +kernel)
theorem in_X12 : ∀ w ∈ wsX120, w ∈ lw_all := lw_in wsX120 [446, 448, 450] (by decide +kernel) (by decide +kernel)
theorem in_X13 : ∀ w ∈ wsX130, w ∈ lw_all := lw_in wsX130 [1617, 1619, 1621, 1623, 1625, 1627, 1629, 1631, 1633, 1635, 1637, 1639, 1641, 1643, 1645, 1647, 1649, 1651, 1653, 1655, 1657, 1659, 1661, 1663, 1665, 1667, 1669, 1671, 1673, 1675, 1677, 1679, 1681, 1683, 1685, 1687, 1689, 1691, 1693, 1695, 1697, 1699, 1701, 1703, 1705, 1707, 1709, 1711, 1713, 1715, 1717, 1719, 1721, 1723, 1725, 1727, 1729, 1731, 1733, 1735, 1737, 1739, 1741, 1743, 1745, 1747, 1749, 1751, 1753, 1755, 1757, 1759, 1761, 1763, 1765, 1767, 1769, 1771, 1773, 1775, 1777, 1779, 1781, 1783, 1785, 1787, 1789, 1791, 1793] (by decide +kernel) (by decide +kernel)
theorem in_X14 : ∀ w ∈ wsX140, w ∈ lw_all := lw_in wsX140 [752, 754, 756, 758, 760, 810, 802, 804] (by decide +kernel) (by decide +kernel)
theorem in_X15 : ∀ w ∈ wsX150, w ∈ lw_all := lw_in wsX150 [863, 865, 867] (by decide +kernel) (by decide +kernel)
theorem in_X17 : ∀ w ∈ wsX170, w ∈ lw_all := lw_in wsX170 [1009] (by decide +kernel) (by decide +kernel)
theorem in_X18 : ∀ w ∈ wsX180, w ∈ lw_all := lw_in wsX180 [1019] (by decide +kernel) (by decide +kernel)
theorem in_X19 : ∀ w ∈ wsX190, w ∈ lw_all := lw_in wsX190 [1046] (by decide +kernel) (by decide +kernel)
theorem in_X2 : ∀ w ∈ wsX20, w ∈ lw_all := lw_in wsX20 [194, 196, 198, 200, 202, 204, 206, 208, 210] (by decide +kernel) (by decide +kernel)
theorem in_X20 : ∀ w ∈ wsX200, w ∈ lw_all := lw_in wsX200 [1040, 1036, 1038] (by decide +kernel) (by decide +kernel)
theorem in_X3 : ∀ w ∈ wsX30, w ∈ lw_all := lw_in wsX30 [316, 318, 320, 322, 324, 326, 328, 330, 332, 334, 336, 338, 340, 342, 344, 346, 348, 350] (by decide +kernel) (by decide +kernel)
theorem in_X4 : ∀ w ∈ wsX40, w ∈ lw_all := lw_in wsX40 [234, 236, 238] (by decide +kernel) (by decide +kernel)
