set_option maxRecDepth 100000
-- J0.java_util_AbstractCollection.lean.txt
def RJ0 : String := "java/util/AbstractCollection"
abbrev cJ0_init : ByteArray := prog_35_method_1_code
def yJ0_init : MethodName := ⟨RJ0, "<init>", "()V"⟩
-- J1.java_util_AbstractList.lean.txt
def RJ1 : String := "java/util/AbstractList"
abbrev cJ1_init : ByteArray := prog_36_method_1_code
def yJ1_init : MethodName := ⟨RJ1, "<init>", "()V"⟩
-- J2.java_util_ArrayList.lean.txt
def RJ2 : String := "java/util/ArrayList"
def TJ2 : u_T := fun k => match k with
  | 0 => ("java/util/AbstractList", "modCount", "I", false)
  | 1 => ("java/util/ArrayList", "elementData", "[Ljava/lang/Object;", false)
  | _ => ("java/util/ArrayList", "size", "I", false)
def tyJ2 : Nat → FieldType := fun k => match k with
  | 0 => .int
  | 1 => .array (.object "java/lang/Object")
  | _ => .int
abbrev wsJ20 : List Cond := u_ws RJ2 TJ2 3
theorem nmJ2 : ∀ a, a < 3 → ∀ b, b < 3 → a ≠ b → (TJ2 a).2.1 ≠ (TJ2 b).2.1 := by decide +kernel
theorem tyJ2_ok : ∀ k, k < 3 → parseFieldDescriptor (TJ2 k).2.2.1 = some (tyJ2 k) := by decide +kernel
abbrev cJ2_init : ByteArray := prog_37_method_1_code
def yJ2_init : MethodName := ⟨RJ2, "<init>", "(I)V"⟩
abbrev cJ2_init_2 : ByteArray := prog_37_method_2_code
def yJ2_init_2 : MethodName := ⟨RJ2, "<init>", "()V"⟩
abbrev cJ2_size : ByteArray := prog_37_method_8_code
def yJ2_size : MethodName := ⟨RJ2, "size", "()I"⟩
abbrev cJ2_add : ByteArray := prog_37_method_25_code
def yJ2_add : MethodName := ⟨RJ2, "add", "(Ljava/lang/Object;)Z"⟩
abbrev cJ2_add_2 : ByteArray := prog_37_method_24_code
def yJ2_add_2 : MethodName := ⟨RJ2, "add", "(Ljava/lang/Object;[Ljava/lang/Object;I)V"⟩
abbrev cJ2_grow : ByteArray := prog_37_method_7_code
def yJ2_grow : MethodName := ⟨RJ2, "grow", "()[Ljava/lang/Object;"⟩
abbrev cJ2_grow_2 : ByteArray := prog_37_method_6_code
def yJ2_grow_2 : MethodName := ⟨RJ2, "grow", "(I)[Ljava/lang/Object;"⟩
abbrev cJ2_get : ByteArray := prog_37_method_20_code
def yJ2_get : MethodName := ⟨RJ2, "get", "(I)Ljava/lang/Object;"⟩
abbrev cJ2_elementData : ByteArray := prog_37_method_18_code
def yJ2_elementData : MethodName := ⟨RJ2, "elementData", "(I)Ljava/lang/Object;"⟩
abbrev cJ2_isEmpty : ByteArray := prog_37_method_9_code
def yJ2_isEmpty : MethodName := ⟨RJ2, "isEmpty", "()Z"⟩
abbrev cJ2_remove : ByteArray := prog_37_method_29_code
def yJ2_remove : MethodName := ⟨RJ2, "remove", "(I)Ljava/lang/Object;"⟩
abbrev cJ2_fastRemove : ByteArray := prog_37_method_39_code
def yJ2_fastRemove : MethodName := ⟨RJ2, "fastRemove", "([Ljava/lang/Object;I)V"⟩
abbrev cJ2_clear : ByteArray := prog_37_method_40_code
def yJ2_clear : MethodName := ⟨RJ2, "clear", "()V"⟩
abbrev cJ2_iterator : ByteArray := prog_37_method_55_code
def yJ2_iterator : MethodName := ⟨RJ2, "iterator", "()Ljava/util/Iterator;"⟩
abbrev cJ2_addAll : ByteArray := prog_37_method_41_code
def yJ2_addAll : MethodName := ⟨RJ2, "addAll", "(Ljava/util/Collection;)Z"⟩
abbrev cJ2_toArray : ByteArray := prog_37_method_16_code
def yJ2_toArray : MethodName := ⟨RJ2, "toArray", "()[Ljava/lang/Object;"⟩
-- J3.java_lang_Math.lean.txt
def RJ3 : String := "java/lang/Math"
abbrev cJ3_min : ByteArray := prog_24_method_69_code
def yJ3_min : MethodName := ⟨RJ3, "min", "(II)I"⟩
abbrev cJ3_max : ByteArray := prog_24_method_65_code
def yJ3_max : MethodName := ⟨RJ3, "max", "(II)I"⟩
abbrev cJ3_abs : ByteArray := prog_24_method_61_code
def yJ3_abs : MethodName := ⟨RJ3, "abs", "(J)J"⟩
-- J4.java_lang_String.lean.txt
def RJ4 : String := "java/lang/String"
def TJ4 : u_T := fun k => match k with
  | 0 => ("java/lang/String", "value", "[B", true)
  | _ => ("java/lang/String", "coder", "B", true)
def tyJ4 : Nat → FieldType := fun k => match k with
  | 0 => .array .byte
  | _ => .byte
abbrev wsJ40 : List Cond := u_ws RJ4 TJ4 2
theorem nmJ4 : ∀ a, a < 2 → ∀ b, b < 2 → a ≠ b → (TJ4 a).2.1 ≠ (TJ4 b).2.1 := by decide +kernel
theorem tyJ4_ok : ∀ k, k < 2 → parseFieldDescriptor (TJ4 k).2.2.1 = some (tyJ4 k) := by decide +kernel
abbrev cJ4_length : ByteArray := prog_28_method_54_code
def yJ4_length : MethodName := ⟨RJ4, "length", "()I"⟩
abbrev cJ4_coder : ByteArray := prog_28_method_152_code
def yJ4_coder : MethodName := ⟨RJ4, "coder", "()B"⟩
abbrev cJ4_charAt : ByteArray := prog_28_method_56_code
def yJ4_charAt : MethodName := ⟨RJ4, "charAt", "(I)C"⟩
abbrev cJ4_isLatin1 : ByteArray := prog_28_method_154_code
def yJ4_isLatin1 : MethodName := ⟨RJ4, "isLatin1", "()Z"⟩
abbrev cJ4_checkIndex : ByteArray := prog_28_method_155_code
def yJ4_checkIndex : MethodName := ⟨RJ4, "checkIndex", "(II)V"⟩
-- J5.java_lang_StringLatin1.lean.txt
def RJ5 : String := "java/lang/StringLatin1"
abbrev cJ5_charAt : ByteArray := prog_29_method_2_code
def yJ5_charAt : MethodName := ⟨RJ5, "charAt", "([BI)C"⟩
-- J6.jdk_internal_util_Preconditions.lean.txt
def RJ6 : String := "jdk/internal/util/Preconditions"
abbrev cJ6_checkIndex : ByteArray := prog_47_method_11_code
def yJ6_checkIndex : MethodName := ⟨RJ6, "checkIndex", "(IILjava/util/function/BiFunction;)I"⟩
-- J7.java_lang_StringUTF16.lean.txt
def RJ7 : String := "java/lang/StringUTF16"
abbrev cJ7_charAt : ByteArray := prog_30_method_83_code
def yJ7_charAt : MethodName := ⟨RJ7, "charAt", "([BI)C"⟩
abbrev cJ7_checkIndex : ByteArray := prog_30_method_91_code
def yJ7_checkIndex : MethodName := ⟨RJ7, "checkIndex", "(I[B)V"⟩
abbrev cJ7_length : ByteArray := prog_30_method_6_code
def yJ7_length : MethodName := ⟨RJ7, "length", "([B)I"⟩
abbrev cJ7_getChar : ByteArray := prog_30_method_5_code
def yJ7_getChar : MethodName := ⟨RJ7, "getChar", "([BI)C"⟩
-- J8.java_lang_Throwable.lean.txt
def RJ8 : String := "java/lang/Throwable"
def TJ8 : u_T := fun k => match k with
  | 0 => ("java/lang/Throwable", "cause", "Ljava/lang/Throwable;", false)
  | 1 => ("java/lang/Throwable", "stackTrace", "[Ljava/lang/StackTraceElement;", false)
  | 2 => ("java/lang/Throwable", "suppressedExceptions", "Ljava/util/List;", false)
  | 3 => ("java/lang/Throwable", "detailMessage", "Ljava/lang/String;", false)
  | _ => ("java/lang/Throwable", "backtrace", "Ljava/lang/Object;", false)
def tyJ8 : Nat → FieldType := fun k => match k with
  | 0 => .object "java/lang/Throwable"
  | 1 => .array (.object "java/lang/StackTraceElement")
  | 2 => .object "java/util/List"
  | 3 => .object "java/lang/String"
  | _ => .object "java/lang/Object"
abbrev wsJ80 : List Cond := u_ws RJ8 TJ8 5
theorem nmJ8 : ∀ a, a < 5 → ∀ b, b < 5 → a ≠ b → (TJ8 a).2.1 ≠ (TJ8 b).2.1 := by decide +kernel
theorem tyJ8_ok : ∀ k, k < 5 → parseFieldDescriptor (TJ8 k).2.2.1 = some (tyJ8 k) := by decide +kernel
abbrev cJ8_init : ByteArray := prog_32_method_2_code
def yJ8_init : MethodName := ⟨RJ8, "<init>", "(Ljava/lang/String;)V"⟩
abbrev cJ8_init_2 : ByteArray := prog_32_method_1_code
def yJ8_init_2 : MethodName := ⟨RJ8, "<init>", "()V"⟩
abbrev cJ8_init_3 : ByteArray := prog_32_method_5_code
def yJ8_init_3 : MethodName := ⟨RJ8, "<init>", "(Ljava/lang/String;Ljava/lang/Throwable;ZZ)V"⟩
-- J9.java_lang_Exception.lean.txt
def RJ9 : String := "java/lang/Exception"
abbrev cJ9_init : ByteArray := prog_20_method_2_code
def yJ9_init : MethodName := ⟨RJ9, "<init>", "(Ljava/lang/String;)V"⟩
abbrev cJ9_init_2 : ByteArray := prog_20_method_1_code
def yJ9_init_2 : MethodName := ⟨RJ9, "<init>", "()V"⟩
abbrev cJ9_init_3 : ByteArray := prog_20_method_5_code
def yJ9_init_3 : MethodName := ⟨RJ9, "<init>", "(Ljava/lang/String;Ljava/lang/Throwable;ZZ)V"⟩
-- J10.java_lang_RuntimeException.lean.txt
def RJ10 : String := "java/lang/RuntimeException"
abbrev cJ10_init : ByteArray := prog_27_method_2_code
def yJ10_init : MethodName := ⟨RJ10, "<init>", "(Ljava/lang/String;)V"⟩
abbrev cJ10_init_2 : ByteArray := prog_27_method_1_code
def yJ10_init_2 : MethodName := ⟨RJ10, "<init>", "()V"⟩
abbrev cJ10_init_3 : ByteArray := prog_27_method_5_code
def yJ10_init_3 : MethodName := ⟨RJ10, "<init>", "(Ljava/lang/String;Ljava/lang/Throwable;ZZ)V"⟩
-- J11.jdk_internal_util_ArraysSupport.lean.txt
def RJ11 : String := "jdk/internal/util/ArraysSupport"
abbrev cJ11_newLength : ByteArray := prog_46_method_27_code
def yJ11_newLength : MethodName := ⟨RJ11, "newLength", "(III)I"⟩
abbrev cJ11_hugeLength : ByteArray := prog_46_method_28_code
def yJ11_hugeLength : MethodName := ⟨RJ11, "hugeLength", "(II)I"⟩
-- J12.java_util_Arrays.lean.txt
def RJ12 : String := "java/util/Arrays"
abbrev cJ12_copyOf : ByteArray := prog_39_method_119_code
def yJ12_copyOf : MethodName := ⟨RJ12, "copyOf", "([Ljava/lang/Object;I)[Ljava/lang/Object;"⟩
abbrev cJ12_copyOf_2 : ByteArray := prog_39_method_120_code
def yJ12_copyOf_2 : MethodName := ⟨RJ12, "copyOf", "([Ljava/lang/Object;ILjava/lang/Class;)[Ljava/lang/Object;"⟩
abbrev cJ12_fill : ByteArray := prog_39_method_103_code
def yJ12_fill : MethodName := ⟨RJ12, "fill", "([II)V"⟩
-- J13.java_util_Objects.lean.txt
def RJ13 : String := "java/util/Objects"
abbrev cJ13_checkIndex : ByteArray := prog_43_method_17_code
def yJ13_checkIndex : MethodName := ⟨RJ13, "checkIndex", "(II)I"⟩
-- J14.java_lang_Integer.lean.txt
def RJ14 : String := "java/lang/Integer"
abbrev cJ14_bitCount : ByteArray := prog_22_method_49_code
def yJ14_bitCount : MethodName := ⟨RJ14, "bitCount", "(I)I"⟩
-- J15.java_util_ArrayList_Itr.lean.txt
def RJ15 : String := "java/util/ArrayList$Itr"
def TJ15 : u_T := fun k => match k with
  | 0 => ("java/util/ArrayList$Itr", "cursor", "I", false)
  | 1 => ("java/util/ArrayList$Itr", "lastRet", "I", false)
  | 2 => ("java/util/ArrayList$Itr", "expectedModCount", "I", false)
  | _ => ("java/util/ArrayList$Itr", "this$0", "Ljava/util/ArrayList;", true)
def tyJ15 : Nat → FieldType := fun k => match k with
  | 0 => .int
  | 1 => .int
  | 2 => .int
  | _ => .object "java/util/ArrayList"
abbrev wsJ150 : List Cond := u_ws RJ15 TJ15 4
theorem nmJ15 : ∀ a, a < 4 → ∀ b, b < 4 → a ≠ b → (TJ15 a).2.1 ≠ (TJ15 b).2.1 := by decide +kernel
theorem tyJ15_ok : ∀ k, k < 4 → parseFieldDescriptor (TJ15 k).2.2.1 = some (tyJ15 k) := by decide +kernel
abbrev cJ15_init : ByteArray := prog_38_method_1_code
def yJ15_init : MethodName := ⟨RJ15, "<init>", "(Ljava/util/ArrayList;)V"⟩
abbrev cJ15_hasNext : ByteArray := prog_38_method_2_code
def yJ15_hasNext : MethodName := ⟨RJ15, "hasNext", "()Z"⟩
abbrev cJ15_next : ByteArray := prog_38_method_3_code
def yJ15_next : MethodName := ⟨RJ15, "next", "()Ljava/lang/Object;"⟩
abbrev cJ15_checkForComodification : ByteArray := prog_38_method_6_code
def yJ15_checkForComodification : MethodName := ⟨RJ15, "checkForComodification", "()V"⟩
-- J16.java_lang_NegativeArraySizeException.lean.txt
def RJ16 : String := "java/lang/NegativeArraySizeException"
def TJ16 : u_T := fun k => match k with
  | 0 => ("java/lang/Throwable", "backtrace", "Ljava/lang/Object;", false)
  | 1 => ("java/lang/Throwable", "detailMessage", "Ljava/lang/String;", false)
  | 2 => ("java/lang/Throwable", "cause", "Ljava/lang/Throwable;", false)
  | 3 => ("java/lang/Throwable", "stackTrace", "[Ljava/lang/StackTraceElement;", false)
  | 4 => ("java/lang/Throwable", "depth", "I", false)
  | _ => ("java/lang/Throwable", "suppressedExceptions", "Ljava/util/List;", false)
def tyJ16 : Nat → FieldType := fun k => match k with
  | 0 => .object "java/lang/Object"
  | 1 => .object "java/lang/String"
  | 2 => .object "java/lang/Throwable"
  | 3 => .array (.object "java/lang/StackTraceElement")
  | 4 => .int
  | _ => .object "java/util/List"
abbrev wsJ160 : List Cond := u_ws RJ16 TJ16 6
theorem nmJ16 : ∀ a, a < 6 → ∀ b, b < 6 → a ≠ b → (TJ16 a).2.1 ≠ (TJ16 b).2.1 := by decide +kernel
theorem tyJ16_ok : ∀ k, k < 6 → parseFieldDescriptor (TJ16 k).2.2.1 = some (tyJ16 k) := by decide +kernel
abbrev cJ16_init : ByteArray := prog_25_method_2_code
def yJ16_init : MethodName := ⟨RJ16, "<init>", "(Ljava/lang/String;)V"⟩
-- J17.java_lang_NullPointerException.lean.txt
def RJ17 : String := "java/lang/NullPointerException"
def TJ17 : u_T := fun k => match k with
  | 0 => ("java/lang/Throwable", "backtrace", "Ljava/lang/Object;", false)
  | 1 => ("java/lang/Throwable", "detailMessage", "Ljava/lang/String;", false)
  | 2 => ("java/lang/Throwable", "cause", "Ljava/lang/Throwable;", false)
  | 3 => ("java/lang/Throwable", "stackTrace", "[Ljava/lang/StackTraceElement;", false)
  | 4 => ("java/lang/Throwable", "depth", "I", false)
  | 5 => ("java/lang/Throwable", "suppressedExceptions", "Ljava/util/List;", false)
  | 6 => ("java/lang/NullPointerException", "extendedMessageState", "I", false)
  | _ => ("java/lang/NullPointerException", "extendedMessage", "Ljava/lang/String;", false)
def tyJ17 : Nat → FieldType := fun k => match k with
  | 0 => .object "java/lang/Object"
  | 1 => .object "java/lang/String"
  | 2 => .object "java/lang/Throwable"
  | 3 => .array (.object "java/lang/StackTraceElement")
  | 4 => .int
  | 5 => .object "java/util/List"
  | 6 => .int
  | _ => .object "java/lang/String"
abbrev wsJ170 : List Cond := u_ws RJ17 TJ17 8
theorem nmJ17 : ∀ a, a < 8 → ∀ b, b < 8 → a ≠ b → (TJ17 a).2.1 ≠ (TJ17 b).2.1 := by decide +kernel
theorem tyJ17_ok : ∀ k, k < 8 → parseFieldDescriptor (TJ17 k).2.2.1 = some (tyJ17 k) := by decide +kernel
abbrev cJ17_init : ByteArray := prog_26_method_1_code
def yJ17_init : MethodName := ⟨RJ17, "<init>", "()V"⟩
-- J18.java_lang_IndexOutOfBoundsException.lean.txt
def RJ18 : String := "java/lang/IndexOutOfBoundsException"
abbrev cJ18_init : ByteArray := prog_21_method_2_code
def yJ18_init : MethodName := ⟨RJ18, "<init>", "(Ljava/lang/String;)V"⟩
-- J19.java_lang_ArrayIndexOutOfBoundsException.lean.txt
def RJ19 : String := "java/lang/ArrayIndexOutOfBoundsException"
def TJ19 : u_T := fun k => match k with
  | 0 => ("java/lang/Throwable", "backtrace", "Ljava/lang/Object;", false)
  | 1 => ("java/lang/Throwable", "detailMessage", "Ljava/lang/String;", false)
  | 2 => ("java/lang/Throwable", "cause", "Ljava/lang/Throwable;", false)
  | 3 => ("java/lang/Throwable", "stackTrace", "[Ljava/lang/StackTraceElement;", false)
  | 4 => ("java/lang/Throwable", "depth", "I", false)
  | _ => ("java/lang/Throwable", "suppressedExceptions", "Ljava/util/List;", false)
def tyJ19 : Nat → FieldType := fun k => match k with
  | 0 => .object "java/lang/Object"
  | 1 => .object "java/lang/String"
  | 2 => .object "java/lang/Throwable"
  | 3 => .array (.object "java/lang/StackTraceElement")
  | 4 => .int
  | _ => .object "java/util/List"
abbrev wsJ190 : List Cond := u_ws RJ19 TJ19 6
theorem nmJ19 : ∀ a, a < 6 → ∀ b, b < 6 → a ≠ b → (TJ19 a).2.1 ≠ (TJ19 b).2.1 := by decide +kernel
theorem tyJ19_ok : ∀ k, k < 6 → parseFieldDescriptor (TJ19 k).2.2.1 = some (tyJ19 k) := by decide +kernel
abbrev cJ19_init : ByteArray := prog_15_method_2_code
def yJ19_init : MethodName := ⟨RJ19, "<init>", "(Ljava/lang/String;)V"⟩
-- J20.java_lang_ClassCastException.lean.txt
def RJ20 : String := "java/lang/ClassCastException"
def TJ20 : u_T := fun k => match k with
  | 0 => ("java/lang/Throwable", "backtrace", "Ljava/lang/Object;", false)
  | 1 => ("java/lang/Throwable", "detailMessage", "Ljava/lang/String;", false)
  | 2 => ("java/lang/Throwable", "cause", "Ljava/lang/Throwable;", false)
  | 3 => ("java/lang/Throwable", "stackTrace", "[Ljava/lang/StackTraceElement;", false)
  | 4 => ("java/lang/Throwable", "depth", "I", false)
  | _ => ("java/lang/Throwable", "suppressedExceptions", "Ljava/util/List;", false)
def tyJ20 : Nat → FieldType := fun k => match k with
  | 0 => .object "java/lang/Object"
  | 1 => .object "java/lang/String"
  | 2 => .object "java/lang/Throwable"
  | 3 => .array (.object "java/lang/StackTraceElement")
  | 4 => .int
  | _ => .object "java/util/List"
abbrev wsJ200 : List Cond := u_ws RJ20 TJ20 6
theorem nmJ20 : ∀ a, a < 6 → ∀ b, b < 6 → a ≠ b → (TJ20 a).2.1 ≠ (TJ20 b).2.1 := by decide +kernel
theorem tyJ20_ok : ∀ k, k < 6 → parseFieldDescriptor (TJ20 k).2.2.1 = some (tyJ20 k) := by decide +kernel
abbrev cJ20_init : ByteArray := prog_17_method_2_code
def yJ20_init : MethodName := ⟨RJ20, "<init>", "(Ljava/lang/String;)V"⟩
-- J21.java_lang_Object.lean.txt
def RJ21 : String := "java/lang/Object"
abbrev cJ21_init : ByteArray := object_method_1_code
def yJ21_init : MethodName := ⟨RJ21, "<init>", "()V"⟩
-- X0.ObligingPosts.lean.txt
def RX0 : String := "ObligingPosts"
def TX0 : u_T := fun k => match k with
  | 0 => ("ObligingPosts", "slots", "[LObligingPosts$Slot;", true)
  | 1 => ("ObligingPosts", "now", "LObligingPosts$Heath;", false)
  | 2 => ("ObligingPosts", "images", "[LObligingPosts$Heath;", true)
  | 3 => ("ObligingPosts", "tape", "[B", true)
  | 4 => ("ObligingPosts", "taped", "I", false)
  | 5 => ("ObligingPosts", "faultKind", "I", false)
  | 6 => ("ObligingPosts", "faultPlace", "I", false)
  | 7 => ("ObligingPosts", "hours", "LObligingPosts$Hours;", true)
  | 8 => ("ObligingPosts", "one", "LObligingPosts$Alone;", true)
  | _ => ("ObligingPosts", "stood", "LObligingPosts$Stood;", true)
def tyX0 : Nat → FieldType := fun k => match k with
  | 0 => .array (.object "ObligingPosts$Slot")
  | 1 => .object "ObligingPosts$Heath"
  | 2 => .array (.object "ObligingPosts$Heath")
  | 3 => .array .byte
  | 4 => .int
  | 5 => .int
  | 6 => .int
  | 7 => .object "ObligingPosts$Hours"
  | 8 => .object "ObligingPosts$Alone"
  | _ => .object "ObligingPosts$Stood"
abbrev wsX00 : List Cond := u_ws RX0 TX0 10
theorem nmX0 : ∀ a, a < 10 → ∀ b, b < 10 → a ≠ b → (TX0 a).2.1 ≠ (TX0 b).2.1 := by decide +kernel
theorem tyX0_ok : ∀ k, k < 10 → parseFieldDescriptor (TX0 k).2.2.1 = some (tyX0 k) := by decide +kernel
abbrev cX0_row : ByteArray := prog_1_method_5_code
def yX0_row : MethodName := ⟨RX0, "row", "(III)I"⟩
abbrev cX0_isSlot : ByteArray := prog_1_method_4_code
def yX0_isSlot : MethodName := ⟨RX0, "isSlot", "(I)Z"⟩
abbrev cX0_in : ByteArray := prog_1_method_1_code
def yX0_in : MethodName := ⟨RX0, "in", "(JJJ)Z"⟩
abbrev cX0_write : ByteArray := prog_1_method_6_code
def yX0_write : MethodName := ⟨RX0, "write", "(IIJ)I"⟩
abbrev cX0_paste : ByteArray := prog_1_method_7_code
def yX0_paste : MethodName := ⟨RX0, "paste", "(IIIII)I"⟩
abbrev cX0_init : ByteArray := prog_1_method_8_code
def yX0_init : MethodName := ⟨RX0, "<init>", "()V"⟩
abbrev cX0_feed : ByteArray := prog_1_method_9_code
def yX0_feed : MethodName := ⟨RX0, "feed", "(IIIII)I"⟩
abbrev cX0_end : ByteArray := prog_1_method_10_code
def yX0_end : MethodName := ⟨RX0, "end", "(I)I"⟩
abbrev cX0_heath : ByteArray := prog_1_method_11_code
def yX0_heath : MethodName := ⟨RX0, "heath", "()I"⟩
abbrev cX0_fault : ByteArray := prog_1_method_12_code
def yX0_fault : MethodName := ⟨RX0, "fault", "(I)I"⟩
abbrev cX0_room : ByteArray := prog_1_method_27_code
def yX0_room : MethodName := ⟨RX0, "room", "(I)I"⟩
abbrev cX0_isInn : ByteArray := prog_1_method_17_code
def yX0_isInn : MethodName := ⟨RX0, "isInn", "(I)Z"⟩
abbrev cX0_roads : ByteArray := prog_1_method_28_code
def yX0_roads : MethodName := ⟨RX0, "roads", "(I)I"⟩
abbrev cX0_isPost : ByteArray := prog_1_method_18_code
def yX0_isPost : MethodName := ⟨RX0, "isPost", "(I)Z"⟩
abbrev cX0_posts : ByteArray := prog_1_method_13_code
def yX0_posts : MethodName := ⟨RX0, "posts", "()I"⟩
abbrev cX0_postOf : ByteArray := prog_1_method_15_code
def yX0_postOf : MethodName := ⟨RX0, "postOf", "(I)LObligingPosts$Post;"⟩
abbrev cX0_goes : ByteArray := prog_1_method_29_code
def yX0_goes : MethodName := ⟨RX0, "goes", "(II)I"⟩
abbrev cX0_told : ByteArray := prog_1_method_30_code
def yX0_told : MethodName := ⟨RX0, "told", "(I)I"⟩
abbrev cX0_walker : ByteArray := prog_1_method_31_code
def yX0_walker : MethodName := ⟨RX0, "walker", "(II)I"⟩
abbrev cX0_isWalker : ByteArray := prog_1_method_20_code
def yX0_isWalker : MethodName := ⟨RX0, "isWalker", "(J)Z"⟩
abbrev cX0_many : ByteArray := prog_1_method_14_code
def yX0_many : MethodName := ⟨RX0, "many", "()I"⟩
abbrev cX0_isBit : ByteArray := prog_1_method_26_code
def yX0_isBit : MethodName := ⟨RX0, "isBit", "(I)Z"⟩
abbrev cX0_walkerOf : ByteArray := prog_1_method_16_code
def yX0_walkerOf : MethodName := ⟨RX0, "walkerOf", "(I)LObligingPosts$Walker;"⟩
abbrev cX0_armless : ByteArray := prog_1_method_33_code
def yX0_armless : MethodName := ⟨RX0, "armless", "()I"⟩
abbrev cX0_lingers : ByteArray := prog_1_method_34_code
def yX0_lingers : MethodName := ⟨RX0, "lingers", "(I)I"⟩
abbrev cX0_is : ByteArray := prog_1_method_32_code
def yX0_is : MethodName := ⟨RX0, "is", "()LObligingPosts$Hours;"⟩
abbrev cX0_isOn : ByteArray := prog_1_method_2_code
def yX0_isOn : MethodName := ⟨RX0, "isOn", "(II)Z"⟩
abbrev cX0_doors : ByteArray := prog_1_method_35_code
def yX0_doors : MethodName := ⟨RX0, "doors", "(I)I"⟩
abbrev cX0_roadsFrom : ByteArray := prog_1_method_60_code
def yX0_roadsFrom : MethodName := ⟨RX0, "roadsFrom", "(I)I"⟩
abbrev cX0_at : ByteArray := prog_1_method_36_code
def yX0_at : MethodName := ⟨RX0, "at", "(II)I"⟩
abbrev cX0_isThen : ByteArray := prog_1_method_24_code
def yX0_isThen : MethodName := ⟨RX0, "isThen", "(II)Z"⟩
abbrev cX0_isHour : ByteArray := prog_1_method_22_code
def yX0_isHour : MethodName := ⟨RX0, "isHour", "(J)Z"⟩
abbrev cX0_arm : ByteArray := prog_1_method_37_code
def yX0_arm : MethodName := ⟨RX0, "arm", "(II)I"⟩
abbrev cX0_here : ByteArray := prog_1_method_39_code
def yX0_here : MethodName := ⟨RX0, "here", "(II)I"⟩
abbrev cX0_isPlace : ByteArray := prog_1_method_19_code
def yX0_isPlace : MethodName := ⟨RX0, "isPlace", "(J)Z"⟩
abbrev cX0_hereIn : ByteArray := prog_1_method_38_code
def yX0_hereIn : MethodName := ⟨RX0, "hereIn", "(II)I"⟩
abbrev cX0_sent : ByteArray := prog_1_method_40_code
def yX0_sent : MethodName := ⟨RX0, "sent", "(I)I"⟩
abbrev cX0_isAhead : ByteArray := prog_1_method_23_code
def yX0_isAhead : MethodName := ⟨RX0, "isAhead", "(I)Z"⟩
abbrev cX0_sends : ByteArray := prog_1_method_42_code
def yX0_sends : MethodName := ⟨RX0, "sends", "(I)I"⟩
abbrev cX0_sendsOf : ByteArray := prog_1_method_41_code
def yX0_sendsOf : MethodName := ⟨RX0, "sendsOf", "(I)I"⟩
abbrev cX0_used : ByteArray := prog_1_method_43_code
def yX0_used : MethodName := ⟨RX0, "used", "(II)I"⟩
abbrev cX0_walks : ByteArray := prog_1_method_44_code
def yX0_walks : MethodName := ⟨RX0, "walks", "(I)I"⟩
abbrev cX0_home : ByteArray := prog_1_method_45_code
def yX0_home : MethodName := ⟨RX0, "home", "(I)I"⟩
abbrev cX0_inn : ByteArray := prog_1_method_46_code
def yX0_inn : MethodName := ⟨RX0, "inn", "(I)I"⟩
abbrev cX0_trail : ByteArray := prog_1_method_48_code
def yX0_trail : MethodName := ⟨RX0, "trail", "(I)I"⟩
abbrev cX0_trailTo : ByteArray := prog_1_method_47_code
def yX0_trailTo : MethodName := ⟨RX0, "trailTo", "(II)I"⟩
abbrev cX0_again : ByteArray := prog_1_method_49_code
def yX0_again : MethodName := ⟨RX0, "again", "(I)I"⟩
abbrev cX0_guests : ByteArray := prog_1_method_50_code
def yX0_guests : MethodName := ⟨RX0, "guests", "(II)I"⟩
abbrev cX0_size : ByteArray := prog_1_method_3_code
def yX0_size : MethodName := ⟨RX0, "size", "(I)I"⟩
abbrev cX0_full : ByteArray := prog_1_method_51_code
def yX0_full : MethodName := ⟨RX0, "full", "(I)I"⟩
abbrev cX0_refuses : ByteArray := prog_1_method_52_code
def yX0_refuses : MethodName := ⟨RX0, "refuses", "(I)I"⟩
abbrev cX0_inside : ByteArray := prog_1_method_53_code
def yX0_inside : MethodName := ⟨RX0, "inside", "(I)I"⟩
abbrev cX0_outside : ByteArray := prog_1_method_54_code
def yX0_outside : MethodName := ⟨RX0, "outside", "(I)I"⟩
abbrev cX0_done : ByteArray := prog_1_method_55_code
def yX0_done : MethodName := ⟨RX0, "done", "()I"⟩
abbrev cX0_crowd : ByteArray := prog_1_method_56_code
def yX0_crowd : MethodName := ⟨RX0, "crowd", "(I)I"⟩
abbrev cX0_meet : ByteArray := prog_1_method_57_code
def yX0_meet : MethodName := ⟨RX0, "meet", "(II)I"⟩
abbrev cX0_areTwo : ByteArray := prog_1_method_21_code
def yX0_areTwo : MethodName := ⟨RX0, "areTwo", "(II)Z"⟩
abbrev cX0_busy : ByteArray := prog_1_method_58_code
def yX0_busy : MethodName := ⟨RX0, "busy", "()I"⟩
abbrev cX0_idle : ByteArray := prog_1_method_59_code
def yX0_idle : MethodName := ⟨RX0, "idle", "()I"⟩
abbrev cX0_reach : ByteArray := prog_1_method_62_code
def yX0_reach : MethodName := ⟨RX0, "reach", "(I)I"⟩
abbrev cX0_stepFrom : ByteArray := prog_1_method_61_code
def yX0_stepFrom : MethodName := ⟨RX0, "stepFrom", "(I)I"⟩
abbrev cX0_far : ByteArray := prog_1_method_63_code
def yX0_far : MethodName := ⟨RX0, "far", "(II)I"⟩
abbrev cX0_setting : ByteArray := prog_1_method_64_code
def yX0_setting : MethodName := ⟨RX0, "setting", "(I)I"⟩
abbrev cX0_settings : ByteArray := prog_1_method_66_code
def yX0_settings : MethodName := ⟨RX0, "settings", "()I"⟩
abbrev cX0_settingsOf : ByteArray := prog_1_method_65_code
def yX0_settingsOf : MethodName := ⟨RX0, "settingsOf", "()I"⟩
abbrev cX0_same : ByteArray := prog_1_method_67_code
def yX0_same : MethodName := ⟨RX0, "same", "()I"⟩
abbrev cX0_alone : ByteArray := prog_1_method_69_code
def yX0_alone : MethodName := ⟨RX0, "alone", "(I)I"⟩
abbrev cX0_first : ByteArray := prog_1_method_68_code
def yX0_first : MethodName := ⟨RX0, "first", "(I)LObligingPosts$Alone;"⟩
abbrev cX0_steps : ByteArray := prog_1_method_70_code
def yX0_steps : MethodName := ⟨RX0, "steps", "(I)I"⟩
abbrev cX0_behind : ByteArray := prog_1_method_71_code
def yX0_behind : MethodName := ⟨RX0, "behind", "(I)I"⟩
abbrev cX0_nth : ByteArray := prog_1_method_72_code
def yX0_nth : MethodName := ⟨RX0, "nth", "(II)I"⟩
abbrev cX0_round : ByteArray := prog_1_method_73_code
def yX0_round : MethodName := ⟨RX0, "round", "(I)I"⟩
abbrev cX0_houses : ByteArray := prog_1_method_74_code
def yX0_houses : MethodName := ⟨RX0, "houses", "(III)I"⟩
abbrev cX0_tree : ByteArray := prog_1_method_78_code
def yX0_tree : MethodName := ⟨RX0, "tree", "(I)I"⟩
abbrev cX0_laysArms : ByteArray := prog_1_method_77_code
def yX0_laysArms : MethodName := ⟨RX0, "laysArms", "(I)V"⟩
abbrev cX0_isTree : ByteArray := prog_1_method_76_code
def yX0_isTree : MethodName := ⟨RX0, "isTree", "()Z"⟩
abbrev cX0_byArms : ByteArray := prog_1_method_75_code
def yX0_byArms : MethodName := ⟨RX0, "byArms", "(II)I"⟩
abbrev cX0_ring : ByteArray := prog_1_method_79_code
def yX0_ring : MethodName := ⟨RX0, "ring", "(I)I"⟩
abbrev cX0_trees : ByteArray := prog_1_method_80_code
def yX0_trees : MethodName := ⟨RX0, "trees", "()I"⟩
abbrev cX0_point : ByteArray := prog_1_method_81_code
def yX0_point : MethodName := ⟨RX0, "point", "(II)I"⟩
abbrev cX0_best : ByteArray := prog_1_method_82_code
def yX0_best : MethodName := ⟨RX0, "best", "()I"⟩
abbrev cX0_crowds : ByteArray := prog_1_method_83_code
def yX0_crowds : MethodName := ⟨RX0, "crowds", "()I"⟩
abbrev cX0_may : ByteArray := prog_1_method_87_code
def yX0_may : MethodName := ⟨RX0, "may", "(II)I"⟩
abbrev cX0_whyNotOf : ByteArray := prog_1_method_85_code
def yX0_whyNotOf : MethodName := ⟨RX0, "whyNotOf", "(II)I"⟩
abbrev cX0_whyNot : ByteArray := prog_1_method_84_code
def yX0_whyNot : MethodName := ⟨RX0, "whyNot", "(I)I"⟩
abbrev cX0_isSo : ByteArray := prog_1_method_86_code
def yX0_isSo : MethodName := ⟨RX0, "isSo", "(LObligingPosts$Slot;)Z"⟩
abbrev cX0_ask : ByteArray := prog_1_method_88_code
def yX0_ask : MethodName := ⟨RX0, "ask", "(II)I"⟩
abbrev cX0_leaves : ByteArray := prog_1_method_89_code
def yX0_leaves : MethodName := ⟨RX0, "leaves", "(II)I"⟩
abbrev cX0_laws : ByteArray := prog_1_method_91_code
def yX0_laws : MethodName := ⟨RX0, "laws", "(I)I"⟩
abbrev cX0_byLaw : ByteArray := prog_1_method_90_code
def yX0_byLaw : MethodName := ⟨RX0, "byLaw", "(I)I"⟩
abbrev cX0_by : ByteArray := prog_1_method_92_code
def yX0_by : MethodName := ⟨RX0, "by", "(I)I"⟩
abbrev cX0_isLaw : ByteArray := prog_1_method_25_code
def yX0_isLaw : MethodName := ⟨RX0, "isLaw", "(I)Z"⟩
abbrev cX0_law : ByteArray := prog_1_method_93_code
def yX0_law : MethodName := ⟨RX0, "law", "()I"⟩
abbrev cX0_worth : ByteArray := prog_1_method_95_code
def yX0_worth : MethodName := ⟨RX0, "worth", "(I)I"⟩
abbrev cX0_worthOf : ByteArray := prog_1_method_94_code
def yX0_worthOf : MethodName := ⟨RX0, "worthOf", "(I)I"⟩
abbrev cX0_share : ByteArray := prog_1_method_99_code
def yX0_share : MethodName := ⟨RX0, "share", "(II)I"⟩
abbrev cX0_factorial : ByteArray := prog_1_method_96_code
def yX0_factorial : MethodName := ⟨RX0, "factorial", "(I)J"⟩
abbrev cX0_part : ByteArray := prog_1_method_98_code
def yX0_part : MethodName := ⟨RX0, "part", "(JJI)J"⟩
abbrev cX0_common : ByteArray := prog_1_method_97_code
def yX0_common : MethodName := ⟨RX0, "common", "(JJ)J"⟩
abbrev cX0_rests : ByteArray := prog_1_method_102_code
def yX0_rests : MethodName := ⟨RX0, "rests", "(II)I"⟩
abbrev cX0_isRest : ByteArray := prog_1_method_101_code
def yX0_isRest : MethodName := ⟨RX0, "isRest", "(IIII)Z"⟩
abbrev cX0_getsOf : ByteArray := prog_1_method_100_code
def yX0_getsOf : MethodName := ⟨RX0, "getsOf", "(IIIII)I"⟩
abbrev cX0_gets : ByteArray := prog_1_method_103_code
def yX0_gets : MethodName := ⟨RX0, "gets", "(IIII)I"⟩
abbrev cX0_chance : ByteArray := prog_1_method_107_code
def yX0_chance : MethodName := ⟨RX0, "chance", "(III)J"⟩
abbrev cX0_isSoon : ByteArray := prog_1_method_105_code
def yX0_isSoon : MethodName := ⟨RX0, "isSoon", "(I)Z"⟩
abbrev cX0_sum : ByteArray := prog_1_method_106_code
def yX0_sum : MethodName := ⟨RX0, "sum", "(II)J"⟩
abbrev cX0_power : ByteArray := prog_1_method_104_code
def yX0_power : MethodName := ⟨RX0, "power", "(JI)J"⟩
abbrev cX0_mean : ByteArray := prog_1_method_108_code
def yX0_mean : MethodName := ⟨RX0, "mean", "(II)J"⟩
abbrev cX0_drawn : ByteArray := prog_1_method_111_code
def yX0_drawn : MethodName := ⟨RX0, "drawn", "(II)I"⟩
abbrev cX0_isSeed : ByteArray := prog_1_method_110_code
def yX0_isSeed : MethodName := ⟨RX0, "isSeed", "(I)Z"⟩
abbrev cX0_draws : ByteArray := prog_1_method_109_code
def yX0_draws : MethodName := ⟨RX0, "draws", "(J)LObligingPosts$Hours;"⟩
abbrev cX0_luck : ByteArray := prog_1_method_112_code
def yX0_luck : MethodName := ⟨RX0, "luck", "(III)I"⟩
abbrev cX0_twists : ByteArray := prog_1_method_114_code
def yX0_twists : MethodName := ⟨RX0, "twists", "(II)I"⟩
abbrev cX0_adds : ByteArray := prog_1_method_113_code
def yX0_adds : MethodName := ⟨RX0, "adds", "(LObligingPosts$Deed;)Z"⟩
abbrev cX0_holds : ByteArray := prog_1_method_115_code
def yX0_holds : MethodName := ⟨RX0, "holds", "(II)I"⟩
abbrev cX0_undo : ByteArray := prog_1_method_116_code
def yX0_undo : MethodName := ⟨RX0, "undo", "()I"⟩
abbrev cX0_anew : ByteArray := prog_1_method_117_code
def yX0_anew : MethodName := ⟨RX0, "anew", "()I"⟩
abbrev cX0_rate : ByteArray := prog_1_method_118_code
def yX0_rate : MethodName := ⟨RX0, "rate", "(II)I"⟩
abbrev cX0_count : ByteArray := prog_1_method_119_code
def yX0_count : MethodName := ⟨RX0, "count", "(I)I"⟩
abbrev cX0_image : ByteArray := prog_1_method_120_code
def yX0_image : MethodName := ⟨RX0, "image", "(I)I"⟩
abbrev cX0_back : ByteArray := prog_1_method_121_code
def yX0_back : MethodName := ⟨RX0, "back", "(I)I"⟩
-- X1.ObligingPosts_Slot.lean.txt
def RX1 : String := "ObligingPosts$Slot"
def TX1 : u_T := fun k => match k with
  | _ => ("ObligingPosts$Slot", "held", "Ljava/lang/Object;", false)
def tyX1 : Nat → FieldType := fun k => match k with
  | _ => .object "java/lang/Object"
abbrev wsX10 : List Cond := u_ws RX1 TX1 1
theorem nmX1 : ∀ a, a < 1 → ∀ b, b < 1 → a ≠ b → (TX1 a).2.1 ≠ (TX1 b).2.1 := by decide +kernel
theorem tyX1_ok : ∀ k, k < 1 → parseFieldDescriptor (TX1 k).2.2.1 = some (tyX1 k) := by decide +kernel
abbrev cX1_begins : ByteArray := prog_9_method_2_code
def yX1_begins : MethodName := ⟨RX1, "begins", "(II)Z"⟩
abbrev cX1_puts : ByteArray := prog_9_method_5_code
def yX1_puts : MethodName := ⟨RX1, "puts", "(IJ)I"⟩
abbrev cX1_put : ByteArray := prog_9_method_6_code
def yX1_put : MethodName := ⟨RX1, "put", "(IJ)V"⟩
abbrev cX1_putWider : ByteArray := prog_9_method_7_code
def yX1_putWider : MethodName := ⟨RX1, "putWider", "(IJ)V"⟩
abbrev cX1_pastes : ByteArray := prog_9_method_9_code
def yX1_pastes : MethodName := ⟨RX1, "pastes", "(ILObligingPosts$Slot;II)I"⟩
abbrev cX1_width : ByteArray := prog_9_method_8_code
def yX1_width : MethodName := ⟨RX1, "width", "()I"⟩
abbrev cX1_init : ByteArray := prog_9_method_1_code
def yX1_init : MethodName := ⟨RX1, "<init>", "()V"⟩
abbrev cX1_many : ByteArray := prog_9_method_3_code
def yX1_many : MethodName := ⟨RX1, "many", "()I"⟩
abbrev cX1_number : ByteArray := prog_9_method_4_code
def yX1_number : MethodName := ⟨RX1, "number", "(I)J"⟩
-- X2.ObligingPosts_Heath.lean.txt
def RX2 : String := "ObligingPosts$Heath"
def TX2 : u_T := fun k => match k with
  | 0 => ("ObligingPosts$Heath", "room", "[I", true)
  | 1 => ("ObligingPosts$Heath", "posts", "Ljava/util/List;", true)
  | 2 => ("ObligingPosts$Heath", "walkers", "Ljava/util/List;", true)
  | 3 => ("ObligingPosts$Heath", "acts", "Ljava/util/List;", true)
  | 4 => ("ObligingPosts$Heath", "hours", "I", false)
  | 5 => ("ObligingPosts$Heath", "law", "I", false)
  | 6 => ("ObligingPosts$Heath", "odds", "I", false)
  | 7 => ("ObligingPosts$Heath", "inns", "I", false)
  | 8 => ("ObligingPosts$Heath", "roads", "I", false)
  | 9 => ("ObligingPosts$Heath", "arms", "I", false)
  | _ => ("ObligingPosts$Heath", "lines", "I", false)
def tyX2 : Nat → FieldType := fun k => match k with
  | 0 => .array .int
  | 1 => .object "java/util/List"
  | 2 => .object "java/util/List"
  | 3 => .object "java/util/List"
  | 4 => .int
  | 5 => .int
  | 6 => .int
  | 7 => .int
  | 8 => .int
  | 9 => .int
  | _ => .int
abbrev wsX20 : List Cond := u_ws RX2 TX2 11
theorem nmX2 : ∀ a, a < 11 → ∀ b, b < 11 → a ≠ b → (TX2 a).2.1 ≠ (TX2 b).2.1 := by decide +kernel
theorem tyX2_ok : ∀ k, k < 11 → parseFieldDescriptor (TX2 k).2.2.1 = some (tyX2 k) := by decide +kernel
abbrev cX2_init : ByteArray := prog_5_method_1_code
def yX2_init : MethodName := ⟨RX2, "<init>", "()V"⟩
abbrev cX2_is : ByteArray := prog_5_method_2_code
def yX2_is : MethodName := ⟨RX2, "is", "()Z"⟩
abbrev cX2_same : ByteArray := prog_5_method_3_code
def yX2_same : MethodName := ⟨RX2, "same", "()LObligingPosts$Heath;"⟩
-- X3.ObligingPosts_Hours.lean.txt
def RX3 : String := "ObligingPosts$Hours"
def TX3 : u_T := fun k => match k with
  | 0 => ("ObligingPosts$Hours", "arm", "[I", true)
  | 1 => ("ObligingPosts$Hours", "at", "[I", true)
  | 2 => ("ObligingPosts$Hours", "arms", "[I", true)
  | 3 => ("ObligingPosts$Hours", "used", "[I", true)
  | 4 => ("ObligingPosts$Hours", "sent", "[I", true)
  | 5 => ("ObligingPosts$Hours", "walks", "[I", true)
  | 6 => ("ObligingPosts$Hours", "comes", "[I", true)
  | 7 => ("ObligingPosts$Hours", "guests", "[I", true)
  | 8 => ("ObligingPosts$Hours", "refused", "[I", true)
  | 9 => ("ObligingPosts$Hours", "law", "I", false)
  | 10 => ("ObligingPosts$Hours", "fog", "I", false)
  | 11 => ("ObligingPosts$Hours", "stiff", "I", false)
  | 12 => ("ObligingPosts$Hours", "without", "I", false)
  | _ => ("ObligingPosts$Hours", "this$0", "LObligingPosts;", true)
def tyX3 : Nat → FieldType := fun k => match k with
  | 0 => .array .int
  | 1 => .array .int
  | 2 => .array .int
  | 3 => .array .int
  | 4 => .array .int
  | 5 => .array .int
  | 6 => .array .int
  | 7 => .array .int
  | 8 => .array .int
  | 9 => .int
  | 10 => .int
  | 11 => .int
  | 12 => .int
  | _ => .object "ObligingPosts"
abbrev wsX30 : List Cond := u_ws RX3 TX3 14
theorem nmX3 : ∀ a, a < 14 → ∀ b, b < 14 → a ≠ b → (TX3 a).2.1 ≠ (TX3 b).2.1 := by decide +kernel
theorem tyX3_ok : ∀ k, k < 14 → parseFieldDescriptor (TX3 k).2.2.1 = some (tyX3 k) := by decide +kernel
abbrev cX3_init : ByteArray := prog_6_method_1_code
def yX3_init : MethodName := ⟨RX3, "<init>", "(LObligingPosts;)V"⟩
abbrev cX3_is : ByteArray := prog_6_method_2_code
def yX3_is : MethodName := ⟨RX3, "is", "()LObligingPosts$Hours;"⟩
abbrev cX3_goes : ByteArray := prog_6_method_5_code
def yX3_goes : MethodName := ⟨RX3, "goes", "()LObligingPosts$Hours;"⟩
abbrev cX3_passes : ByteArray := prog_6_method_6_code
def yX3_passes : MethodName := ⟨RX3, "passes", "(I)V"⟩
abbrev cX3_turns : ByteArray := prog_6_method_3_code
def yX3_turns : MethodName := ⟨RX3, "turns", "(II)V"⟩
abbrev cX3_isHeld : ByteArray := prog_6_method_8_code
def yX3_isHeld : MethodName := ⟨RX3, "isHeld", "(II)Z"⟩
abbrev cX3_sends : ByteArray := prog_6_method_4_code
def yX3_sends : MethodName := ⟨RX3, "sends", "(I)I"⟩
abbrev cX3_comesTo : ByteArray := prog_6_method_7_code
def yX3_comesTo : MethodName := ⟨RX3, "comesTo", "(II)I"⟩
abbrev cX3_at : ByteArray := prog_6_method_9_code
def yX3_at : MethodName := ⟨RX3, "at", "(II)I"⟩
abbrev cX3_home : ByteArray := prog_6_method_12_code
def yX3_home : MethodName := ⟨RX3, "home", "(II)I"⟩
abbrev cX3_inside : ByteArray := prog_6_method_10_code
def yX3_inside : MethodName := ⟨RX3, "inside", "(I)I"⟩
abbrev cX3_setting : ByteArray := prog_6_method_13_code
def yX3_setting : MethodName := ⟨RX3, "setting", "(I)I"⟩
abbrev cX3_settingNow : ByteArray := prog_6_method_14_code
def yX3_settingNow : MethodName := ⟨RX3, "settingNow", "()I"⟩
abbrev cX3_last : ByteArray := prog_6_method_11_code
def yX3_last : MethodName := ⟨RX3, "last", "()I"⟩
-- X4.ObligingPosts_Alone.lean.txt
def RX4 : String := "ObligingPosts$Alone"
def TX4 : u_T := fun k => match k with
  | 0 => ("ObligingPosts$Alone", "place", "I", false)
  | 1 => ("ObligingPosts$Alone", "steps", "I", false)
  | _ => ("ObligingPosts$Alone", "this$0", "LObligingPosts;", true)
def tyX4 : Nat → FieldType := fun k => match k with
  | 0 => .int
  | 1 => .int
  | _ => .object "ObligingPosts"
abbrev wsX40 : List Cond := u_ws RX4 TX4 3
theorem nmX4 : ∀ a, a < 3 → ∀ b, b < 3 → a ≠ b → (TX4 a).2.1 ≠ (TX4 b).2.1 := by decide +kernel
theorem tyX4_ok : ∀ k, k < 3 → parseFieldDescriptor (TX4 k).2.2.1 = some (tyX4 k) := by decide +kernel
abbrev cX4_init : ByteArray := prog_2_method_1_code
def yX4_init : MethodName := ⟨RX4, "<init>", "(LObligingPosts;)V"⟩
abbrev cX4_goes : ByteArray := prog_2_method_2_code
def yX4_goes : MethodName := ⟨RX4, "goes", "(I)LObligingPosts$Alone;"⟩
abbrev cX4_isIn : ByteArray := prog_2_method_3_code
def yX4_isIn : MethodName := ⟨RX4, "isIn", "()Z"⟩
-- X5.ObligingPosts_Stood.lean.txt
def RX5 : String := "ObligingPosts$Stood"
def TX5 : u_T := fun k => match k with
  | 0 => ("ObligingPosts$Stood", "places", "[I", true)
  | 1 => ("ObligingPosts$Stood", "bits", "I", false)
  | 2 => ("ObligingPosts$Stood", "best", "I", false)
  | 3 => ("ObligingPosts$Stood", "leaves", "I", false)
  | _ => ("ObligingPosts$Stood", "this$0", "LObligingPosts;", true)
def tyX5 : Nat → FieldType := fun k => match k with
  | 0 => .array .int
  | 1 => .int
  | 2 => .int
  | 3 => .int
  | _ => .object "ObligingPosts"
abbrev wsX50 : List Cond := u_ws RX5 TX5 5
theorem nmX5 : ∀ a, a < 5 → ∀ b, b < 5 → a ≠ b → (TX5 a).2.1 ≠ (TX5 b).2.1 := by decide +kernel
theorem tyX5_ok : ∀ k, k < 5 → parseFieldDescriptor (TX5 k).2.2.1 = some (tyX5 k) := by decide +kernel
abbrev cX5_init : ByteArray := prog_10_method_1_code
def yX5_init : MethodName := ⟨RX5, "<init>", "(LObligingPosts;)V"⟩
abbrev cX5_of : ByteArray := prog_10_method_2_code
def yX5_of : MethodName := ⟨RX5, "of", "(LObligingPosts$Slot;I)LObligingPosts$Stood;"⟩
abbrev cX5_asks : ByteArray := prog_10_method_4_code
def yX5_asks : MethodName := ⟨RX5, "asks", "()V"⟩
abbrev cX5_worstAt : ByteArray := prog_10_method_3_code
def yX5_worstAt : MethodName := ⟨RX5, "worstAt", "(I)I"⟩
-- X6.ObligingPostsModel.lean.txt
def RX6 : String := "ObligingPostsModel"
def TX6 : u_T := fun k => match k with
  | 0 => ("ObligingPostsModel", "thrown", "I", false)
  | 1 => ("ObligingPostsModel", "world", "[I", true)
  | 2 => ("ObligingPostsModel", "images", "[I", true)
  | 3 => ("ObligingPostsModel", "hasImage", "[Z", true)
  | 4 => ("ObligingPostsModel", "tape", "[B", true)
  | 5 => ("ObligingPostsModel", "taped", "I", false)
  | 6 => ("ObligingPostsModel", "five", "[I", true)
  | 7 => ("ObligingPostsModel", "size", "I", false)
  | 8 => ("ObligingPostsModel", "at", "I", false)
  | 9 => ("ObligingPostsModel", "from", "I", false)
  | 10 => ("ObligingPostsModel", "token", "I", false)
  | 11 => ("ObligingPostsModel", "value", "I", false)
  | 12 => ("ObligingPostsModel", "faultKind", "I", false)
  | 13 => ("ObligingPostsModel", "faultPlace", "I", false)
  | 14 => ("ObligingPostsModel", "fresh", "[I", true)
  | 15 => ("ObligingPostsModel", "armFirst", "[I", true)
  | 16 => ("ObligingPostsModel", "hourNow", "[I", true)
  | 17 => ("ObligingPostsModel", "lawNow", "I", false)
  | 18 => ("ObligingPostsModel", "fogSet", "I", false)
  | 19 => ("ObligingPostsModel", "turnSet", "I", false)
  | 20 => ("ObligingPostsModel", "armNow", "[I", true)
  | 21 => ("ObligingPostsModel", "placeNow", "[I", true)
  | 22 => ("ObligingPostsModel", "placeAt", "[I", true)
  | 23 => ("ObligingPostsModel", "armAt", "[I", true)
  | 24 => ("ObligingPostsModel", "sentAt", "[I", true)
  | 25 => ("ObligingPostsModel", "sentBy", "[I", true)
  | 26 => ("ObligingPostsModel", "walked", "[I", true)
  | 27 => ("ObligingPostsModel", "guestNow", "[I", true)
  | 28 => ("ObligingPostsModel", "refused", "[I", true)
  | 29 => ("ObligingPostsModel", "some", "[I", true)
  | 30 => ("ObligingPostsModel", "soloSteps", "I", false)
  | 31 => ("ObligingPostsModel", "placeBy", "[I", true)
  | 32 => ("ObligingPostsModel", "askWorst", "I", false)
  | 33 => ("ObligingPostsModel", "worthBy", "[I", true)
  | 34 => ("ObligingPostsModel", "oftenAll", "J", false)
  | 35 => ("ObligingPostsModel", "oftenInside", "J", false)
  | 36 => ("ObligingPostsModel", "oftenMany", "J", false)
  | 37 => ("ObligingPostsModel", "many", "[I", true)
  | 38 => ("ObligingPostsModel", "width", "[I", true)
  | 39 => ("ObligingPostsModel", "numbers", "[J", true)
  | _ => ("ObligingPostsModel", "moving", "[J", true)
def tyX6 : Nat → FieldType := fun k => match k with
  | 0 => .int
  | 1 => .array .int
  | 2 => .array .int
  | 3 => .array .boolean
  | 4 => .array .byte
  | 5 => .int
  | 6 => .array .int
  | 7 => .int
  | 8 => .int
  | 9 => .int
  | 10 => .int
  | 11 => .int
  | 12 => .int
  | 13 => .int
  | 14 => .array .int
  | 15 => .array .int
  | 16 => .array .int
  | 17 => .int
  | 18 => .int
  | 19 => .int
  | 20 => .array .int
  | 21 => .array .int
  | 22 => .array .int
  | 23 => .array .int
  | 24 => .array .int
  | 25 => .array .int
  | 26 => .array .int
  | 27 => .array .int
  | 28 => .array .int
  | 29 => .array .int
  | 30 => .int
  | 31 => .array .int
  | 32 => .int
  | 33 => .array .int
  | 34 => .long
  | 35 => .long
  | 36 => .long
  | 37 => .array .int
  | 38 => .array .int
  | 39 => .array .long
  | _ => .array .long
abbrev wsX60 : List Cond := u_ws RX6 TX6 41
theorem nmX6 : ∀ a, a < 41 → ∀ b, b < 41 → a ≠ b → (TX6 a).2.1 ≠ (TX6 b).2.1 := by decide +kernel
theorem tyX6_ok : ∀ k, k < 41 → parseFieldDescriptor (TX6 k).2.2.1 = some (tyX6 k) := by decide +kernel
abbrev cX6_init : ByteArray := prog_13_method_1_code
def yX6_init : MethodName := ⟨RX6, "<init>", "()V"⟩
abbrev cX6_image : ByteArray := prog_13_method_6_code
def yX6_image : MethodName := ⟨RX6, "image", "(I)I"⟩
abbrev cX6_in : ByteArray := prog_13_method_3_code
def yX6_in : MethodName := ⟨RX6, "in", "(JJJ)Z"⟩
abbrev cX6_back : ByteArray := prog_13_method_7_code
def yX6_back : MethodName := ⟨RX6, "back", "(I)I"⟩
abbrev cX6_feed : ByteArray := prog_13_method_22_code
def yX6_feed : MethodName := ⟨RX6, "feed", "(IIIII)I"⟩
abbrev cX6_end : ByteArray := prog_13_method_23_code
def yX6_end : MethodName := ⟨RX6, "end", "(I)I"⟩
abbrev cX6_fault : ByteArray := prog_13_method_33_code
def yX6_fault : MethodName := ⟨RX6, "fault", "(I)I"⟩
abbrev cX6_heath : ByteArray := prog_13_method_42_code
def yX6_heath : MethodName := ⟨RX6, "heath", "()I"⟩
abbrev cX6_advance : ByteArray := prog_13_method_25_code
def yX6_advance : MethodName := ⟨RX6, "advance", "()V"⟩
abbrev cX6_see : ByteArray := prog_13_method_24_code
def yX6_see : MethodName := ⟨RX6, "see", "(I)I"⟩
abbrev cX6_good : ByteArray := prog_13_method_26_code
def yX6_good : MethodName := ⟨RX6, "good", "()Z"⟩
abbrev cX6_readLine : ByteArray := prog_13_method_41_code
def yX6_readLine : MethodName := ⟨RX6, "readLine", "()V"⟩
abbrev cX6_readFirst : ByteArray := prog_13_method_34_code
def yX6_readFirst : MethodName := ⟨RX6, "readFirst", "()V"⟩
abbrev cX6_expects : ByteArray := prog_13_method_30_code
def yX6_expects : MethodName := ⟨RX6, "expects", "(Ljava/lang/String;)V"⟩
abbrev cX6_takes : ByteArray := prog_13_method_29_code
def yX6_takes : MethodName := ⟨RX6, "takes", "(Ljava/lang/String;)Z"⟩
abbrev cX6_is : ByteArray := prog_13_method_28_code
def yX6_is : MethodName := ⟨RX6, "is", "(Ljava/lang/String;)Z"⟩
abbrev cX6_errs : ByteArray := prog_13_method_27_code
def yX6_errs : MethodName := ⟨RX6, "errs", "(I)V"⟩
abbrev cX6_toldBy : ByteArray := prog_13_method_32_code
def yX6_toldBy : MethodName := ⟨RX6, "toldBy", "(Ljava/lang/String;II)I"⟩
abbrev cX6_number : ByteArray := prog_13_method_31_code
def yX6_number : MethodName := ⟨RX6, "number", "(II)I"⟩
abbrev cX6_readNext : ByteArray := prog_13_method_40_code
def yX6_readNext : MethodName := ⟨RX6, "readNext", "()V"⟩
abbrev cX6_isFull : ByteArray := prog_13_method_39_code
def yX6_isFull : MethodName := ⟨RX6, "isFull", "()Z"⟩
abbrev cX6_readRoad : ByteArray := prog_13_method_36_code
def yX6_readRoad : MethodName := ⟨RX6, "readRoad", "()V"⟩
abbrev cX6_readPost : ByteArray := prog_13_method_35_code
def yX6_readPost : MethodName := ⟨RX6, "readPost", "()I"⟩
abbrev cX6_readArm : ByteArray := prog_13_method_37_code
def yX6_readArm : MethodName := ⟨RX6, "readArm", "()V"⟩
abbrev cX6_readWalker : ByteArray := prog_13_method_38_code
def yX6_readWalker : MethodName := ⟨RX6, "readWalker", "()V"⟩
abbrev cX6_room : ByteArray := prog_13_method_43_code
def yX6_room : MethodName := ⟨RX6, "room", "(I)I"⟩
abbrev cX6_isInn : ByteArray := prog_13_method_16_code
def yX6_isInn : MethodName := ⟨RX6, "isInn", "(J)Z"⟩
abbrev cX6_roads : ByteArray := prog_13_method_44_code
def yX6_roads : MethodName := ⟨RX6, "roads", "(I)I"⟩
abbrev cX6_isPost : ByteArray := prog_13_method_15_code
def yX6_isPost : MethodName := ⟨RX6, "isPost", "(J)Z"⟩
abbrev cX6_posts : ByteArray := prog_13_method_10_code
def yX6_posts : MethodName := ⟨RX6, "posts", "()I"⟩
abbrev cX6_roadMany : ByteArray := prog_13_method_19_code
def yX6_roadMany : MethodName := ⟨RX6, "roadMany", "(I)I"⟩
abbrev cX6_goes : ByteArray := prog_13_method_45_code
def yX6_goes : MethodName := ⟨RX6, "goes", "(II)I"⟩
abbrev cX6_roadTo : ByteArray := prog_13_method_20_code
def yX6_roadTo : MethodName := ⟨RX6, "roadTo", "(II)I"⟩
abbrev cX6_told : ByteArray := prog_13_method_46_code
def yX6_told : MethodName := ⟨RX6, "told", "(I)I"⟩
abbrev cX6_armOf : ByteArray := prog_13_method_21_code
def yX6_armOf : MethodName := ⟨RX6, "armOf", "(I)I"⟩
abbrev cX6_walker : ByteArray := prog_13_method_47_code
def yX6_walker : MethodName := ⟨RX6, "walker", "(II)I"⟩
abbrev cX6_isWalker : ByteArray := prog_13_method_17_code
def yX6_isWalker : MethodName := ⟨RX6, "isWalker", "(J)Z"⟩
abbrev cX6_walkers : ByteArray := prog_13_method_11_code
def yX6_walkers : MethodName := ⟨RX6, "walkers", "()I"⟩
abbrev cX6_doors : ByteArray := prog_13_method_48_code
def yX6_doors : MethodName := ⟨RX6, "doors", "(I)I"⟩
abbrev cX6_armless : ByteArray := prog_13_method_49_code
def yX6_armless : MethodName := ⟨RX6, "armless", "()I"⟩
abbrev cX6_isHeath : ByteArray := prog_13_method_8_code
def yX6_isHeath : MethodName := ⟨RX6, "isHeath", "()Z"⟩
abbrev cX6_at : ByteArray := prog_13_method_63_code
def yX6_at : MethodName := ⟨RX6, "at", "(II)I"⟩
abbrev cX6_asksHour : ByteArray := prog_13_method_58_code
def yX6_asksHour : MethodName := ⟨RX6, "asksHour", "(I)Z"⟩
abbrev cX6_asksHeath : ByteArray := prog_13_method_57_code
def yX6_asksHeath : MethodName := ⟨RX6, "asksHeath", "()Z"⟩
abbrev cX6_asItIs : ByteArray := prog_13_method_50_code
def yX6_asItIs : MethodName := ⟨RX6, "asItIs", "()V"⟩
abbrev cX6_goAll : ByteArray := prog_13_method_56_code
def yX6_goAll : MethodName := ⟨RX6, "goAll", "()V"⟩
abbrev cX6_hours : ByteArray := prog_13_method_9_code
def yX6_hours : MethodName := ⟨RX6, "hours", "()I"⟩
abbrev cX6_goHour : ByteArray := prog_13_method_55_code
def yX6_goHour : MethodName := ⟨RX6, "goHour", "(I)V"⟩
abbrev cX6_turn : ByteArray := prog_13_method_51_code
def yX6_turn : MethodName := ⟨RX6, "turn", "(II)V"⟩
abbrev cX6_bit : ByteArray := prog_13_method_5_code
def yX6_bit : MethodName := ⟨RX6, "bit", "(II)I"⟩
abbrev cX6_isHeld : ByteArray := prog_13_method_53_code
def yX6_isHeld : MethodName := ⟨RX6, "isHeld", "(II)Z"⟩
abbrev cX6_sendOne : ByteArray := prog_13_method_54_code
def yX6_sendOne : MethodName := ⟨RX6, "sendOne", "(II)V"⟩
abbrev cX6_sendBy : ByteArray := prog_13_method_52_code
def yX6_sendBy : MethodName := ⟨RX6, "sendBy", "(I)I"⟩
abbrev cX6_isHour : ByteArray := prog_13_method_13_code
def yX6_isHour : MethodName := ⟨RX6, "isHour", "(J)Z"⟩
abbrev cX6_placeOf : ByteArray := prog_13_method_61_code
def yX6_placeOf : MethodName := ⟨RX6, "placeOf", "(II)I"⟩
abbrev cX6_arm : ByteArray := prog_13_method_64_code
def yX6_arm : MethodName := ⟨RX6, "arm", "(II)I"⟩
abbrev cX6_here : ByteArray := prog_13_method_66_code
def yX6_here : MethodName := ⟨RX6, "here", "(II)I"⟩
abbrev cX6_isPlace : ByteArray := prog_13_method_18_code
def yX6_isPlace : MethodName := ⟨RX6, "isPlace", "(J)Z"⟩
abbrev cX6_hereOf : ByteArray := prog_13_method_65_code
def yX6_hereOf : MethodName := ⟨RX6, "hereOf", "(II)I"⟩
abbrev cX6_sent : ByteArray := prog_13_method_67_code
def yX6_sent : MethodName := ⟨RX6, "sent", "(I)I"⟩
abbrev cX6_isAhead : ByteArray := prog_13_method_14_code
def yX6_isAhead : MethodName := ⟨RX6, "isAhead", "(J)Z"⟩
abbrev cX6_sends : ByteArray := prog_13_method_69_code
def yX6_sends : MethodName := ⟨RX6, "sends", "(I)I"⟩
abbrev cX6_asksPost : ByteArray := prog_13_method_60_code
def yX6_asksPost : MethodName := ⟨RX6, "asksPost", "(I)Z"⟩
abbrev cX6_sendsOf : ByteArray := prog_13_method_68_code
def yX6_sendsOf : MethodName := ⟨RX6, "sendsOf", "(I)I"⟩
abbrev cX6_used : ByteArray := prog_13_method_70_code
def yX6_used : MethodName := ⟨RX6, "used", "(II)I"⟩
abbrev cX6_walks : ByteArray := prog_13_method_71_code
def yX6_walks : MethodName := ⟨RX6, "walks", "(I)I"⟩
abbrev cX6_asksWalker : ByteArray := prog_13_method_59_code
def yX6_asksWalker : MethodName := ⟨RX6, "asksWalker", "(I)Z"⟩
abbrev cX6_home : ByteArray := prog_13_method_73_code
def yX6_home : MethodName := ⟨RX6, "home", "(I)I"⟩
abbrev cX6_homeOf : ByteArray := prog_13_method_72_code
def yX6_homeOf : MethodName := ⟨RX6, "homeOf", "(I)I"⟩
abbrev cX6_isInside : ByteArray := prog_13_method_62_code
def yX6_isInside : MethodName := ⟨RX6, "isInside", "(II)Z"⟩
abbrev cX6_inn : ByteArray := prog_13_method_74_code
def yX6_inn : MethodName := ⟨RX6, "inn", "(I)I"⟩
abbrev cX6_trail : ByteArray := prog_13_method_76_code
def yX6_trail : MethodName := ⟨RX6, "trail", "(I)I"⟩
abbrev cX6_trailTo : ByteArray := prog_13_method_75_code
def yX6_trailTo : MethodName := ⟨RX6, "trailTo", "(II)I"⟩
abbrev cX6_again : ByteArray := prog_13_method_77_code
def yX6_again : MethodName := ⟨RX6, "again", "(I)I"⟩
abbrev cX6_lingers : ByteArray := prog_13_method_78_code
def yX6_lingers : MethodName := ⟨RX6, "lingers", "(I)I"⟩
abbrev cX6_guests : ByteArray := prog_13_method_80_code
def yX6_guests : MethodName := ⟨RX6, "guests", "(II)I"⟩
abbrev cX6_guestsOf : ByteArray := prog_13_method_79_code
def yX6_guestsOf : MethodName := ⟨RX6, "guestsOf", "(II)I"⟩
abbrev cX6_bits : ByteArray := prog_13_method_4_code
def yX6_bits : MethodName := ⟨RX6, "bits", "(I)I"⟩
abbrev cX6_full : ByteArray := prog_13_method_81_code
def yX6_full : MethodName := ⟨RX6, "full", "(I)I"⟩
abbrev cX6_refuses : ByteArray := prog_13_method_82_code
def yX6_refuses : MethodName := ⟨RX6, "refuses", "(I)I"⟩
abbrev cX6_inside : ByteArray := prog_13_method_85_code
def yX6_inside : MethodName := ⟨RX6, "inside", "(I)I"⟩
abbrev cX6_insideAt : ByteArray := prog_13_method_83_code
def yX6_insideAt : MethodName := ⟨RX6, "insideAt", "(I)I"⟩
abbrev cX6_outside : ByteArray := prog_13_method_86_code
def yX6_outside : MethodName := ⟨RX6, "outside", "(I)I"⟩
abbrev cX6_done : ByteArray := prog_13_method_87_code
def yX6_done : MethodName := ⟨RX6, "done", "()I"⟩
abbrev cX6_crowd : ByteArray := prog_13_method_88_code
def yX6_crowd : MethodName := ⟨RX6, "crowd", "(I)I"⟩
abbrev cX6_meet : ByteArray := prog_13_method_90_code
def yX6_meet : MethodName := ⟨RX6, "meet", "(II)I"⟩
abbrev cX6_areTwo : ByteArray := prog_13_method_89_code
def yX6_areTwo : MethodName := ⟨RX6, "areTwo", "(II)Z"⟩
abbrev cX6_busy : ByteArray := prog_13_method_91_code
def yX6_busy : MethodName := ⟨RX6, "busy", "()I"⟩
abbrev cX6_idle : ByteArray := prog_13_method_92_code
def yX6_idle : MethodName := ⟨RX6, "idle", "()I"⟩
abbrev cX6_reach : ByteArray := prog_13_method_94_code
def yX6_reach : MethodName := ⟨RX6, "reach", "(I)I"⟩
abbrev cX6_goOn : ByteArray := prog_13_method_93_code
def yX6_goOn : MethodName := ⟨RX6, "goOn", "(I)I"⟩
abbrev cX6_far : ByteArray := prog_13_method_95_code
def yX6_far : MethodName := ⟨RX6, "far", "(II)I"⟩
abbrev cX6_setting : ByteArray := prog_13_method_100_code
def yX6_setting : MethodName := ⟨RX6, "setting", "(I)I"⟩
abbrev cX6_settingAt : ByteArray := prog_13_method_99_code
def yX6_settingAt : MethodName := ⟨RX6, "settingAt", "(I)I"⟩
abbrev cX6_someAt : ByteArray := prog_13_method_98_code
def yX6_someAt : MethodName := ⟨RX6, "someAt", "(I)V"⟩
abbrev cX6_numberOf : ByteArray := prog_13_method_96_code
def yX6_numberOf : MethodName := ⟨RX6, "numberOf", "()I"⟩
abbrev cX6_settings : ByteArray := prog_13_method_101_code
def yX6_settings : MethodName := ⟨RX6, "settings", "()I"⟩
abbrev cX6_settingMany : ByteArray := prog_13_method_97_code
def yX6_settingMany : MethodName := ⟨RX6, "settingMany", "()I"⟩
abbrev cX6_same : ByteArray := prog_13_method_102_code
def yX6_same : MethodName := ⟨RX6, "same", "()I"⟩
abbrev cX6_tree : ByteArray := prog_13_method_106_code
def yX6_tree : MethodName := ⟨RX6, "tree", "(I)I"⟩
abbrev cX6_isTree : ByteArray := prog_13_method_105_code
def yX6_isTree : MethodName := ⟨RX6, "isTree", "()Z"⟩
abbrev cX6_isHomeBy : ByteArray := prog_13_method_104_code
def yX6_isHomeBy : MethodName := ⟨RX6, "isHomeBy", "(I)Z"⟩
abbrev cX6_armGoes : ByteArray := prog_13_method_103_code
def yX6_armGoes : MethodName := ⟨RX6, "armGoes", "(I)I"⟩
abbrev cX6_ring : ByteArray := prog_13_method_107_code
def yX6_ring : MethodName := ⟨RX6, "ring", "(I)I"⟩
abbrev cX6_trees : ByteArray := prog_13_method_108_code
def yX6_trees : MethodName := ⟨RX6, "trees", "()I"⟩
abbrev cX6_alone : ByteArray := prog_13_method_112_code
def yX6_alone : MethodName := ⟨RX6, "alone", "(I)I"⟩
abbrev cX6_soloBegin : ByteArray := prog_13_method_109_code
def yX6_soloBegin : MethodName := ⟨RX6, "soloBegin", "()V"⟩
abbrev cX6_solo : ByteArray := prog_13_method_110_code
def yX6_solo : MethodName := ⟨RX6, "solo", "(I)I"⟩
abbrev cX6_steps : ByteArray := prog_13_method_113_code
def yX6_steps : MethodName := ⟨RX6, "steps", "(I)I"⟩
abbrev cX6_behind : ByteArray := prog_13_method_114_code
def yX6_behind : MethodName := ⟨RX6, "behind", "(I)I"⟩
abbrev cX6_soloSetting : ByteArray := prog_13_method_111_code
def yX6_soloSetting : MethodName := ⟨RX6, "soloSetting", "()I"⟩
abbrev cX6_nth : ByteArray := prog_13_method_115_code
def yX6_nth : MethodName := ⟨RX6, "nth", "(II)I"⟩
abbrev cX6_round : ByteArray := prog_13_method_116_code
def yX6_round : MethodName := ⟨RX6, "round", "(I)I"⟩
abbrev cX6_houses : ByteArray := prog_13_method_117_code
def yX6_houses : MethodName := ⟨RX6, "houses", "(III)I"⟩
abbrev cX6_point : ByteArray := prog_13_method_119_code
def yX6_point : MethodName := ⟨RX6, "point", "(II)I"⟩
abbrev cX6_cameTo : ByteArray := prog_13_method_118_code
def yX6_cameTo : MethodName := ⟨RX6, "cameTo", "(II)I"⟩
abbrev cX6_best : ByteArray := prog_13_method_120_code
def yX6_best : MethodName := ⟨RX6, "best", "()I"⟩
abbrev cX6_insideLast : ByteArray := prog_13_method_84_code
def yX6_insideLast : MethodName := ⟨RX6, "insideLast", "()I"⟩
abbrev cX6_crowds : ByteArray := prog_13_method_121_code
def yX6_crowds : MethodName := ⟨RX6, "crowds", "()I"⟩
abbrev cX6_may : ByteArray := prog_13_method_128_code
def yX6_may : MethodName := ⟨RX6, "may", "(II)I"⟩
abbrev cX6_askMay : ByteArray := prog_13_method_127_code
def yX6_askMay : MethodName := ⟨RX6, "askMay", "(II)I"⟩
abbrev cX6_askSeen : ByteArray := prog_13_method_123_code
def yX6_askSeen : MethodName := ⟨RX6, "askSeen", "(I)I"⟩
abbrev cX6_isSlot : ByteArray := prog_13_method_161_code
def yX6_isSlot : MethodName := ⟨RX6, "isSlot", "(I)Z"⟩
abbrev cX6_numberAt : ByteArray := prog_13_method_122_code
def yX6_numberAt : MethodName := ⟨RX6, "numberAt", "(II)J"⟩
abbrev cX6_mayOf : ByteArray := prog_13_method_126_code
def yX6_mayOf : MethodName := ⟨RX6, "mayOf", "(II)I"⟩
abbrev cX6_isSeen : ByteArray := prog_13_method_124_code
def yX6_isSeen : MethodName := ⟨RX6, "isSeen", "(I)Z"⟩
abbrev cX6_cellOf : ByteArray := prog_13_method_125_code
def yX6_cellOf : MethodName := ⟨RX6, "cellOf", "(III)I"⟩
abbrev cX6_ask : ByteArray := prog_13_method_131_code
def yX6_ask : MethodName := ⟨RX6, "ask", "(II)I"⟩
abbrev cX6_askOf : ByteArray := prog_13_method_130_code
def yX6_askOf : MethodName := ⟨RX6, "askOf", "(I)I"⟩
abbrev cX6_worstOf : ByteArray := prog_13_method_129_code
def yX6_worstOf : MethodName := ⟨RX6, "worstOf", "(III)I"⟩
abbrev cX6_leaves : ByteArray := prog_13_method_132_code
def yX6_leaves : MethodName := ⟨RX6, "leaves", "(II)I"⟩
abbrev cX6_laws : ByteArray := prog_13_method_133_code
def yX6_laws : MethodName := ⟨RX6, "laws", "(I)I"⟩
abbrev cX6_by : ByteArray := prog_13_method_135_code
def yX6_by : MethodName := ⟨RX6, "by", "(I)I"⟩
abbrev cX6_insideBy : ByteArray := prog_13_method_134_code
def yX6_insideBy : MethodName := ⟨RX6, "insideBy", "(I)I"⟩
abbrev cX6_law : ByteArray := prog_13_method_136_code
def yX6_law : MethodName := ⟨RX6, "law", "()I"⟩
abbrev cX6_worth : ByteArray := prog_13_method_138_code
def yX6_worth : MethodName := ⟨RX6, "worth", "(I)I"⟩
abbrev cX6_allPosts : ByteArray := prog_13_method_12_code
def yX6_allPosts : MethodName := ⟨RX6, "allPosts", "()I"⟩
abbrev cX6_worthOf : ByteArray := prog_13_method_137_code
def yX6_worthOf : MethodName := ⟨RX6, "worthOf", "(I)I"⟩
abbrev cX6_share : ByteArray := prog_13_method_142_code
def yX6_share : MethodName := ⟨RX6, "share", "(II)I"⟩
abbrev cX6_factorial : ByteArray := prog_13_method_139_code
def yX6_factorial : MethodName := ⟨RX6, "factorial", "(I)I"⟩
abbrev cX6_part : ByteArray := prog_13_method_141_code
def yX6_part : MethodName := ⟨RX6, "part", "(JJI)J"⟩
abbrev cX6_divisor : ByteArray := prog_13_method_140_code
def yX6_divisor : MethodName := ⟨RX6, "divisor", "(JJ)J"⟩
abbrev cX6_rests : ByteArray := prog_13_method_144_code
def yX6_rests : MethodName := ⟨RX6, "rests", "(II)I"⟩
abbrev cX6_getsBy : ByteArray := prog_13_method_143_code
def yX6_getsBy : MethodName := ⟨RX6, "getsBy", "(IIIII)I"⟩
abbrev cX6_gets : ByteArray := prog_13_method_145_code
def yX6_gets : MethodName := ⟨RX6, "gets", "(IIII)I"⟩
abbrev cX6_chance : ByteArray := prog_13_method_148_code
def yX6_chance : MethodName := ⟨RX6, "chance", "(III)J"⟩
abbrev cX6_isFog : ByteArray := prog_13_method_147_code
def yX6_isFog : MethodName := ⟨RX6, "isFog", "(II)Z"⟩
abbrev cX6_layFog : ByteArray := prog_13_method_146_code
def yX6_layFog : MethodName := ⟨RX6, "layFog", "(II)V"⟩
abbrev cX6_mean : ByteArray := prog_13_method_149_code
def yX6_mean : MethodName := ⟨RX6, "mean", "(II)J"⟩
abbrev cX6_twists : ByteArray := prog_13_method_151_code
def yX6_twists : MethodName := ⟨RX6, "twists", "(II)I"⟩
abbrev cX6_keepAct : ByteArray := prog_13_method_150_code
def yX6_keepAct : MethodName := ⟨RX6, "keepAct", "(I)Z"⟩
abbrev cX6_holds : ByteArray := prog_13_method_152_code
def yX6_holds : MethodName := ⟨RX6, "holds", "(II)I"⟩
abbrev cX6_undo : ByteArray := prog_13_method_153_code
def yX6_undo : MethodName := ⟨RX6, "undo", "()I"⟩
abbrev cX6_anew : ByteArray := prog_13_method_154_code
def yX6_anew : MethodName := ⟨RX6, "anew", "()I"⟩
abbrev cX6_drawn : ByteArray := prog_13_method_157_code
def yX6_drawn : MethodName := ⟨RX6, "drawn", "(II)I"⟩
abbrev cX6_isSeed : ByteArray := prog_13_method_156_code
def yX6_isSeed : MethodName := ⟨RX6, "isSeed", "(I)Z"⟩
abbrev cX6_goDrawn : ByteArray := prog_13_method_155_code
def yX6_goDrawn : MethodName := ⟨RX6, "goDrawn", "(J)V"⟩
abbrev cX6_luck : ByteArray := prog_13_method_158_code
def yX6_luck : MethodName := ⟨RX6, "luck", "(III)I"⟩
abbrev cX6_rate : ByteArray := prog_13_method_159_code
def yX6_rate : MethodName := ⟨RX6, "rate", "(II)I"⟩
abbrev cX6_count : ByteArray := prog_13_method_160_code
def yX6_count : MethodName := ⟨RX6, "count", "(I)I"⟩
abbrev cX6_row : ByteArray := prog_13_method_163_code
def yX6_row : MethodName := ⟨RX6, "row", "(III)I"⟩
abbrev cX6_write : ByteArray := prog_13_method_164_code
def yX6_write : MethodName := ⟨RX6, "write", "(IIJ)I"⟩
abbrev cX6_clipped : ByteArray := prog_13_method_162_code
def yX6_clipped : MethodName := ⟨RX6, "clipped", "(JI)J"⟩
abbrev cX6_paste : ByteArray := prog_13_method_165_code
def yX6_paste : MethodName := ⟨RX6, "paste", "(IIIII)I"⟩
-- X7.ObligingPosts_Reader.lean.txt
def RX7 : String := "ObligingPosts$Reader"
def TX7 : u_T := fun k => match k with
  | 0 => ("ObligingPosts$Reader", "text", "[B", true)
  | 1 => ("ObligingPosts$Reader", "many", "I", true)
  | 2 => ("ObligingPosts$Reader", "h", "LObligingPosts$Heath;", true)
  | 3 => ("ObligingPosts$Reader", "at", "I", false)
  | 4 => ("ObligingPosts$Reader", "begin", "I", false)
  | 5 => ("ObligingPosts$Reader", "token", "I", false)
  | _ => ("ObligingPosts$Reader", "value", "I", false)
def tyX7 : Nat → FieldType := fun k => match k with
  | 0 => .array .byte
  | 1 => .int
  | 2 => .object "ObligingPosts$Heath"
  | 3 => .int
  | 4 => .int
  | 5 => .int
  | _ => .int
abbrev wsX70 : List Cond := u_ws RX7 TX7 7
theorem nmX7 : ∀ a, a < 7 → ∀ b, b < 7 → a ≠ b → (TX7 a).2.1 ≠ (TX7 b).2.1 := by decide +kernel
theorem tyX7_ok : ∀ k, k < 7 → parseFieldDescriptor (TX7 k).2.2.1 = some (tyX7 k) := by decide +kernel
abbrev cX7_init : ByteArray := prog_8_method_1_code
def yX7_init : MethodName := ⟨RX7, "<init>", "([BI)V"⟩
abbrev cX7_next : ByteArray := prog_8_method_3_code
def yX7_next : MethodName := ⟨RX7, "next", "()V"⟩
abbrev cX7_isAt : ByteArray := prog_8_method_2_code
def yX7_isAt : MethodName := ⟨RX7, "isAt", "(II)Z"⟩
abbrev cX7_reads : ByteArray := prog_8_method_14_code
def yX7_reads : MethodName := ⟨RX7, "reads", "()LObligingPosts$Heath;"⟩
abbrev cX7_heathLine : ByteArray := prog_8_method_13_code
def yX7_heathLine : MethodName := ⟨RX7, "heathLine", "()V"⟩
abbrev cX7_takes : ByteArray := prog_8_method_6_code
def yX7_takes : MethodName := ⟨RX7, "takes", "(Ljava/lang/String;)Z"⟩
abbrev cX7_is : ByteArray := prog_8_method_5_code
def yX7_is : MethodName := ⟨RX7, "is", "(Ljava/lang/String;)Z"⟩
abbrev cX7_fault : ByteArray := prog_8_method_4_code
def yX7_fault : MethodName := ⟨RX7, "fault", "(I)LObligingPosts$Fault;"⟩
abbrev cX7_number : ByteArray := prog_8_method_8_code
def yX7_number : MethodName := ⟨RX7, "number", "(Ljava/lang/String;II)I"⟩
abbrev cX7_number_2 : ByteArray := prog_8_method_7_code
def yX7_number_2 : MethodName := ⟨RX7, "number", "(II)I"⟩
abbrev cX7_toldLine : ByteArray := prog_8_method_12_code
def yX7_toldLine : MethodName := ⟨RX7, "toldLine", "()V"⟩
abbrev cX7_line : ByteArray := prog_8_method_9_code
def yX7_line : MethodName := ⟨RX7, "line", "(Ljava/lang/String;II)Z"⟩
abbrev cX7_roadLine : ByteArray := prog_8_method_11_code
def yX7_roadLine : MethodName := ⟨RX7, "roadLine", "()V"⟩
abbrev cX7_postHere : ByteArray := prog_8_method_10_code
def yX7_postHere : MethodName := ⟨RX7, "postHere", "()I"⟩
-- X8.ObligingPosts_Fault.lean.txt
def RX8 : String := "ObligingPosts$Fault"
def TX8 : u_T := fun k => match k with
  | 0 => ("java/lang/Throwable", "cause", "Ljava/lang/Throwable;", false)
  | 1 => ("java/lang/Throwable", "stackTrace", "[Ljava/lang/StackTraceElement;", false)
  | 2 => ("java/lang/Throwable", "suppressedExceptions", "Ljava/util/List;", false)
  | 3 => ("java/lang/Throwable", "detailMessage", "Ljava/lang/String;", false)
  | 4 => ("java/lang/Throwable", "backtrace", "Ljava/lang/Object;", false)
  | 5 => ("java/lang/Throwable", "depth", "I", false)
  | 6 => ("ObligingPosts$Fault", "kind", "I", true)
  | _ => ("ObligingPosts$Fault", "place", "I", true)
def tyX8 : Nat → FieldType := fun k => match k with
  | 0 => .object "java/lang/Throwable"
  | 1 => .array (.object "java/lang/StackTraceElement")
  | 2 => .object "java/util/List"
  | 3 => .object "java/lang/String"
  | 4 => .object "java/lang/Object"
  | 5 => .int
  | 6 => .int
  | _ => .int
abbrev wsX80 : List Cond := u_ws RX8 TX8 8
theorem nmX8 : ∀ a, a < 8 → ∀ b, b < 8 → a ≠ b → (TX8 a).2.1 ≠ (TX8 b).2.1 := by decide +kernel
theorem tyX8_ok : ∀ k, k < 8 → parseFieldDescriptor (TX8 k).2.2.1 = some (tyX8 k) := by decide +kernel
abbrev cX8_init : ByteArray := prog_4_method_1_code
def yX8_init : MethodName := ⟨RX8, "<init>", "(II)V"⟩
-- X9.ObligingPosts_Post.lean.txt
def RX9 : String := "ObligingPosts$Post"
def TX9 : u_T := fun k => match k with
  | 0 => ("ObligingPosts$Post", "to", "[I", true)
  | 1 => ("ObligingPosts$Post", "many", "I", false)
  | _ => ("ObligingPosts$Post", "arm", "I", false)
def tyX9 : Nat → FieldType := fun k => match k with
  | 0 => .array .int
  | 1 => .int
  | _ => .int
abbrev wsX90 : List Cond := u_ws RX9 TX9 3
theorem nmX9 : ∀ a, a < 3 → ∀ b, b < 3 → a ≠ b → (TX9 a).2.1 ≠ (TX9 b).2.1 := by decide +kernel
theorem tyX9_ok : ∀ k, k < 3 → parseFieldDescriptor (TX9 k).2.2.1 = some (tyX9 k) := by decide +kernel
abbrev cX9_init : ByteArray := prog_7_method_1_code
def yX9_init : MethodName := ⟨RX9, "<init>", "()V"⟩
abbrev cX9_same : ByteArray := prog_7_method_2_code
def yX9_same : MethodName := ⟨RX9, "same", "()LObligingPosts$Post;"⟩
-- X10.ObligingPosts_Walker.lean.txt
def RX10 : String := "ObligingPosts$Walker"
def TX10 : u_T := fun k => match k with
  | 0 => ("ObligingPosts$Walker", "post", "I", true)
  | _ => ("ObligingPosts$Walker", "hour", "I", true)
def tyX10 : Nat → FieldType := fun k => match k with
  | 0 => .int
  | _ => .int
abbrev wsX100 : List Cond := u_ws RX10 TX10 2
theorem nmX10 : ∀ a, a < 2 → ∀ b, b < 2 → a ≠ b → (TX10 a).2.1 ≠ (TX10 b).2.1 := by decide +kernel
theorem tyX10_ok : ∀ k, k < 2 → parseFieldDescriptor (TX10 k).2.2.1 = some (tyX10 k) := by decide +kernel
abbrev cX10_init : ByteArray := prog_11_method_1_code
def yX10_init : MethodName := ⟨RX10, "<init>", "(II)V"⟩
-- X11.ObligingPosts_Deed.lean.txt
def RX11 : String := "ObligingPosts$Deed"
def TX11 : u_T := fun k => match k with
  | 0 => ("ObligingPosts$Deed", "isTurn", "Z", true)
  | 1 => ("ObligingPosts$Deed", "who", "I", true)
  | _ => ("ObligingPosts$Deed", "hour", "I", true)
def tyX11 : Nat → FieldType := fun k => match k with
  | 0 => .boolean
  | 1 => .int
  | _ => .int
abbrev wsX110 : List Cond := u_ws RX11 TX11 3
theorem nmX11 : ∀ a, a < 3 → ∀ b, b < 3 → a ≠ b → (TX11 a).2.1 ≠ (TX11 b).2.1 := by decide +kernel
theorem tyX11_ok : ∀ k, k < 3 → parseFieldDescriptor (TX11 k).2.2.1 = some (tyX11 k) := by decide +kernel
abbrev cX11_init : ByteArray := prog_3_method_1_code
def yX11_init : MethodName := ⟨RX11, "<init>", "(ZII)V"⟩
-- words.ObligingPostsLaw.lean.txt
-- words._B.lean.txt
-- words._I.lean.txt
-- words._J.lean.txt
-- words._LObligingPosts_Heath_.lean.txt
-- words._LObligingPosts_Slot_.lean.txt
-- words._Ljava_lang_Object_.lean.txt
-- words._S.lean.txt
-- words._Z.lean.txt
-- words.java_lang_System.lean.txt
-- words.java_util_Collection.lean.txt
-- words.java_util_Iterator.lean.txt
-- words.java_util_List.lean.txt
-- words.rest.lean.txt
theorem q144 : (Jvm.Cond.initialized "java/util/AbstractCollection") ∈ lw_all := lw_g (lw_at lw_m1 4 rfl) rfl
theorem q408 : (Jvm.Cond.instanceMethod ({ cls := "java/util/AbstractCollection", name := "<init>", desc := "()V" } : Jvm.MethodName)) ∈ lw_all := lw_g (lw_at lw_m2 28 rfl) rfl
theorem q409 : (Jvm.Cond.code ({ cls := "java/util/AbstractCollection", name := "<init>", desc := "()V" } : Jvm.MethodName) prog_35_method_1_code (1 : Nat) (Option.none : Option Jvm.ClassFile.FieldType)) ∈ lw_all := lw_g (lw_at lw_m2 29 rfl) rfl
theorem q410 : (Jvm.Cond.methodLink "java/util/AbstractCollection" (1 : Nat) ({ cls := "java/lang/Object", name := "<init>", desc := "()V" } : Jvm.MethodName)) ∈ lw_all := lw_g (lw_at lw_m2 30 rfl) rfl
theorem q145 : (Jvm.Cond.initialized "java/util/AbstractList") ∈ lw_all := lw_g (lw_at lw_m1 5 rfl) rfl
theorem q405 : (Jvm.Cond.instanceMethod ({ cls := "java/util/AbstractList", name := "<init>", desc := "()V" } : Jvm.MethodName)) ∈ lw_all := lw_g (lw_at lw_m2 25 rfl) rfl
theorem q406 : (Jvm.Cond.code ({ cls := "java/util/AbstractList", name := "<init>", desc := "()V" } : Jvm.MethodName) prog_36_method_1_code (1 : Nat) (Option.none : Option Jvm.ClassFile.FieldType)) ∈ lw_all := lw_g (lw_at lw_m2 26 rfl) rfl
theorem q407 : (Jvm.Cond.methodLink "java/util/AbstractList" (1 : Nat) ({ cls := "java/util/AbstractCollection", name := "<init>", desc := "()V" } : Jvm.MethodName)) ∈ lw_all := lw_g (lw_at lw_m2 27 rfl) rfl
theorem q419 : (Jvm.Cond.fieldLink "java/util/AbstractList" (7 : Nat) "java/util/AbstractList" "modCount" "I") ∈ lw_all := lw_g (lw_at lw_m2 39 rfl) rfl
theorem q428 : (Jvm.Cond.soleField "java/util/AbstractList" "modCount") ∈ lw_all := lw_g (lw_at lw_m2 48 rfl) rfl
theorem q146 : (Jvm.Cond.initialized "java/util/ArrayList") ∈ lw_all := lw_g (lw_at lw_m1 6 rfl) rfl
theorem q400 : (Jvm.Cond.instantiable "java/util/ArrayList" (3 : Nat)) ∈ lw_all := lw_g (lw_at lw_m2 20 rfl) rfl
theorem q402 : (Jvm.Cond.instanceMethod ({ cls := "java/util/ArrayList", name := "<init>", desc := "(I)V" } : Jvm.MethodName)) ∈ lw_all := lw_g (lw_at lw_m2 22 rfl) rfl
theorem q403 : (Jvm.Cond.code ({ cls := "java/util/ArrayList", name := "<init>", desc := "(I)V" } : Jvm.MethodName) prog_37_method_1_code (2 : Nat) (Option.none : Option Jvm.ClassFile.FieldType)) ∈ lw_all := lw_g (lw_at lw_m2 23 rfl) rfl
theorem q404 : (Jvm.Cond.methodLink "java/util/ArrayList" (1 : Nat) ({ cls := "java/util/AbstractList", name := "<init>", desc := "()V" } : Jvm.MethodName)) ∈ lw_all := lw_g (lw_at lw_m2 24 rfl) rfl
theorem q411 : (Jvm.Cond.classLink "java/util/ArrayList" (7 : Nat) "java/lang/Object") ∈ lw_all := lw_g (lw_at lw_m2 31 rfl) rfl
theorem q413 : (Jvm.Cond.fieldLink "java/util/ArrayList" (15 : Nat) "java/util/ArrayList" "EMPTY_ELEMENTDATA" "[Ljava/lang/Object;") ∈ lw_all := lw_g (lw_at lw_m2 33 rfl) rfl
theorem q414 : (Jvm.Cond.laysStatic "java/util/ArrayList" "EMPTY_ELEMENTDATA" "[Ljava/lang/Object;") ∈ lw_tbl := lw_at lw_m2 34 rfl
theorem q415 : (Jvm.Cond.fieldLink "java/util/ArrayList" (9 : Nat) "java/util/ArrayList" "elementData" "[Ljava/lang/Object;") ∈ lw_all := lw_g (lw_at lw_m2 35 rfl) rfl
theorem q418 : (Jvm.Cond.fieldLink "java/util/ArrayList" (48 : Nat) "java/util/ArrayList" "size" "I") ∈ lw_all := lw_g (lw_at lw_m2 38 rfl) rfl
theorem q421 : (Jvm.Cond.sameField "java/util/ArrayList" "java/util/AbstractList" "modCount" "I") ∈ lw_all := lw_g (lw_at lw_m2 41 rfl) rfl
theorem q422 : (Jvm.Cond.fieldLink "java/util/ArrayList" (63 : Nat) "java/util/ArrayList" "modCount" "I") ∈ lw_all := lw_g (lw_at lw_m2 42 rfl) rfl
theorem q423 : (Jvm.Cond.lays "java/util/ArrayList" "java/util/ArrayList" "elementData" "[Ljava/lang/Object;") ∈ lw_all := lw_g (lw_at lw_m2 43 rfl) rfl
theorem q424 : (Jvm.Cond.soleField "java/util/ArrayList" "elementData") ∈ lw_all := lw_g (lw_at lw_m2 44 rfl) rfl
theorem q425 : (Jvm.Cond.lays "java/util/ArrayList" "java/util/ArrayList" "size" "I") ∈ lw_all := lw_g (lw_at lw_m2 45 rfl) rfl
theorem q426 : (Jvm.Cond.soleField "java/util/ArrayList" "size") ∈ lw_all := lw_g (lw_at lw_m2 46 rfl) rfl
theorem q427 : (Jvm.Cond.lays "java/util/ArrayList" "java/util/AbstractList" "modCount" "I") ∈ lw_all := lw_g (lw_at lw_m2 47 rfl) rfl
theorem q429 : (Jvm.Cond.superclass "java/util/ArrayList" "java/util/AbstractList") ∈ lw_all := lw_g (lw_at lw_m2 49 rfl) rfl
theorem q431 : (Jvm.Cond.instanceMethod ({ cls := "java/util/ArrayList", name := "<init>", desc := "()V" } : Jvm.MethodName)) ∈ lw_all := lw_g (lw_at lw_m2 51 rfl) rfl
theorem q432 : (Jvm.Cond.code ({ cls := "java/util/ArrayList", name := "<init>", desc := "()V" } : Jvm.MethodName) prog_37_method_2_code (1 : Nat) (Option.none : Option Jvm.ClassFile.FieldType)) ∈ lw_all := lw_g (lw_at lw_m2 52 rfl) rfl
theorem q433 : (Jvm.Cond.fieldLink "java/util/ArrayList" (39 : Nat) "java/util/ArrayList" "DEFAULTCAPACITY_EMPTY_ELEMENTDATA" "[Ljava/lang/Object;") ∈ lw_all := lw_g (lw_at lw_m2 53 rfl) rfl
theorem q434 : (Jvm.Cond.laysStatic "java/util/ArrayList" "DEFAULTCAPACITY_EMPTY_ELEMENTDATA" "[Ljava/lang/Object;") ∈ lw_tbl := lw_at lw_m2 54 rfl
theorem q818 : (Jvm.Cond.castable "java/util/ArrayList" "java/util/List") ∈ lw_tbl := lw_at lw_m3 198 rfl
theorem q819 : (Jvm.Cond.selects "java/util/ArrayList" ({ cls := "java/util/List", name := "size", desc := "()I" } : Jvm.MethodName) ({ cls := "java/util/ArrayList", name := "size", desc := "()I" } : Jvm.MethodName)) ∈ lw_all := lw_g (lw_at lw_m3 199 rfl) rfl
theorem q820 : (Jvm.Cond.unhidden "java/util/ArrayList" "size" "()I") ∈ lw_tbl := lw_at lw_m3 200 rfl
theorem q821 : (Jvm.Cond.instanceMethod ({ cls := "java/util/ArrayList", name := "size", desc := "()I" } : Jvm.MethodName)) ∈ lw_all := lw_g (lw_at lw_m3 201 rfl) rfl
theorem q822 : (Jvm.Cond.publicMethod ({ cls := "java/util/ArrayList", name := "size", desc := "()I" } : Jvm.MethodName)) ∈ lw_tbl := lw_at lw_m3 202 rfl
theorem q823 : (Jvm.Cond.code ({ cls := "java/util/ArrayList", name := "size", desc := "()I" } : Jvm.MethodName) prog_37_method_8_code (1 : Nat) (Option.some Jvm.ClassFile.FieldType.int)) ∈ lw_all := lw_g (lw_at lw_m3 203 rfl) rfl
theorem q856 : (Jvm.Cond.selects "java/util/ArrayList" ({ cls := "java/util/List", name := "add", desc := "(Ljava/lang/Object;)Z" } : Jvm.MethodName) ({ cls := "java/util/ArrayList", name := "add", desc := "(Ljava/lang/Object;)Z" } : Jvm.MethodName)) ∈ lw_all := lw_g (lw_at lw_m3 236 rfl) rfl
theorem q857 : (Jvm.Cond.unhidden "java/util/ArrayList" "add" "(Ljava/lang/Object;)Z") ∈ lw_tbl := lw_at lw_m3 237 rfl
theorem q858 : (Jvm.Cond.instanceMethod ({ cls := "java/util/ArrayList", name := "add", desc := "(Ljava/lang/Object;)Z" } : Jvm.MethodName)) ∈ lw_all := lw_g (lw_at lw_m3 238 rfl) rfl
theorem q859 : (Jvm.Cond.publicMethod ({ cls := "java/util/ArrayList", name := "add", desc := "(Ljava/lang/Object;)Z" } : Jvm.MethodName)) ∈ lw_tbl := lw_at lw_m3 239 rfl
theorem q860 : (Jvm.Cond.code ({ cls := "java/util/ArrayList", name := "add", desc := "(Ljava/lang/Object;)Z" } : Jvm.MethodName) prog_37_method_25_code (2 : Nat) (Option.some Jvm.ClassFile.FieldType.boolean)) ∈ lw_all := lw_g (lw_at lw_m4 0 rfl) rfl
theorem q861 : (Jvm.Cond.methodLink "java/util/ArrayList" (131 : Nat) ({ cls := "java/util/ArrayList", name := "add", desc := "(Ljava/lang/Object;[Ljava/lang/Object;I)V" } : Jvm.MethodName)) ∈ lw_all := lw_g (lw_at lw_m4 1 rfl) rfl
theorem q862 : (Jvm.Cond.privateMethod ({ cls := "java/util/ArrayList", name := "add", desc := "(Ljava/lang/Object;[Ljava/lang/Object;I)V" } : Jvm.MethodName)) ∈ lw_tbl := lw_at lw_m4 2 rfl
theorem q863 : (Jvm.Cond.instanceMethod ({ cls := "java/util/ArrayList", name := "add", desc := "(Ljava/lang/Object;[Ljava/lang/Object;I)V" } : Jvm.MethodName)) ∈ lw_all := lw_g (lw_at lw_m4 3 rfl) rfl
theorem q864 : (Jvm.Cond.code ({ cls := "java/util/ArrayList", name := "add", desc := "(Ljava/lang/Object;[Ljava/lang/Object;I)V" } : Jvm.MethodName) prog_37_method_24_code (4 : Nat) (Option.none : Option Jvm.ClassFile.FieldType)) ∈ lw_all := lw_g (lw_at lw_m4 4 rfl) rfl
theorem q865 : (Jvm.Cond.methodLink "java/util/ArrayList" (129 : Nat) ({ cls := "java/util/ArrayList", name := "grow", desc := "()[Ljava/lang/Object;" } : Jvm.MethodName)) ∈ lw_all := lw_g (lw_at lw_m4 5 rfl) rfl
theorem q866 : (Jvm.Cond.privateMethod ({ cls := "java/util/ArrayList", name := "grow", desc := "()[Ljava/lang/Object;" } : Jvm.MethodName)) ∈ lw_tbl := lw_at lw_m4 6 rfl
theorem q867 : (Jvm.Cond.instanceMethod ({ cls := "java/util/ArrayList", name := "grow", desc := "()[Ljava/lang/Object;" } : Jvm.MethodName)) ∈ lw_all := lw_g (lw_at lw_m4 7 rfl) rfl
theorem q868 : (Jvm.Cond.code ({ cls := "java/util/ArrayList", name := "grow", desc := "()[Ljava/lang/Object;" } : Jvm.MethodName) prog_37_method_7_code (1 : Nat) (Option.some (Jvm.ClassFile.FieldType.array (Jvm.ClassFile.FieldType.object "java/lang/Object")))) ∈ lw_all := lw_g (lw_at lw_m4 8 rfl) rfl
theorem q869 : (Jvm.Cond.methodLink "java/util/ArrayList" (69 : Nat) ({ cls := "java/util/ArrayList", name := "grow", desc := "(I)[Ljava/lang/Object;" } : Jvm.MethodName)) ∈ lw_all := lw_g (lw_at lw_m4 9 rfl) rfl
theorem q870 : (Jvm.Cond.privateMethod ({ cls := "java/util/ArrayList", name := "grow", desc := "(I)[Ljava/lang/Object;" } : Jvm.MethodName)) ∈ lw_tbl := lw_at lw_m4 10 rfl
theorem q871 : (Jvm.Cond.instanceMethod ({ cls := "java/util/ArrayList", name := "grow", desc := "(I)[Ljava/lang/Object;" } : Jvm.MethodName)) ∈ lw_all := lw_g (lw_at lw_m4 11 rfl) rfl
theorem q872 : (Jvm.Cond.code ({ cls := "java/util/ArrayList", name := "grow", desc := "(I)[Ljava/lang/Object;" } : Jvm.MethodName) prog_37_method_6_code (4 : Nat) (Option.some (Jvm.ClassFile.FieldType.array (Jvm.ClassFile.FieldType.object "java/lang/Object")))) ∈ lw_all := lw_g (lw_at lw_m4 12 rfl) rfl
theorem q873 : (Jvm.Cond.methodLink "java/util/ArrayList" (73 : Nat) ({ cls := "jdk/internal/util/ArraysSupport", name := "newLength", desc := "(III)I" } : Jvm.MethodName)) ∈ lw_all := lw_g (lw_at lw_m4 13 rfl) rfl
theorem q883 : (Jvm.Cond.methodLink "java/util/ArrayList" (66 : Nat) ({ cls := "java/util/Arrays", name := "copyOf", desc := "([Ljava/lang/Object;I)[Ljava/lang/Object;" } : Jvm.MethodName)) ∈ lw_all := lw_g (lw_at lw_m4 23 rfl) rfl
theorem q905 : (Jvm.Cond.selects "java/util/ArrayList" ({ cls := "java/lang/Object", name := "getClass", desc := "()Ljava/lang/Class;" } : Jvm.MethodName) ({ cls := "java/lang/Object", name := "getClass", desc := "()Ljava/lang/Class;" } : Jvm.MethodName)) ∈ lw_all := lw_g (lw_at lw_m4 45 rfl) rfl
theorem q915 : (Jvm.Cond.methodLink "java/util/ArrayList" (79 : Nat) ({ cls := "java/lang/Math", name := "max", desc := "(II)I" } : Jvm.MethodName)) ∈ lw_all := lw_g (lw_at lw_m4 55 rfl) rfl
theorem q925 : (Jvm.Cond.selects "java/util/ArrayList" ({ cls := "java/util/List", name := "get", desc := "(I)Ljava/lang/Object;" } : Jvm.MethodName) ({ cls := "java/util/ArrayList", name := "get", desc := "(I)Ljava/lang/Object;" } : Jvm.MethodName)) ∈ lw_all := lw_g (lw_at lw_m4 65 rfl) rfl
theorem q926 : (Jvm.Cond.unhidden "java/util/ArrayList" "get" "(I)Ljava/lang/Object;") ∈ lw_tbl := lw_at lw_m4 66 rfl
theorem q927 : (Jvm.Cond.instanceMethod ({ cls := "java/util/ArrayList", name := "get", desc := "(I)Ljava/lang/Object;" } : Jvm.MethodName)) ∈ lw_all := lw_g (lw_at lw_m4 67 rfl) rfl
theorem q928 : (Jvm.Cond.publicMethod ({ cls := "java/util/ArrayList", name := "get", desc := "(I)Ljava/lang/Object;" } : Jvm.MethodName)) ∈ lw_tbl := lw_at lw_m4 68 rfl
theorem q929 : (Jvm.Cond.code ({ cls := "java/util/ArrayList", name := "get", desc := "(I)Ljava/lang/Object;" } : Jvm.MethodName) prog_37_method_20_code (2 : Nat) (Option.some (Jvm.ClassFile.FieldType.object "java/lang/Object"))) ∈ lw_all := lw_g (lw_at lw_m4 69 rfl) rfl
theorem q930 : (Jvm.Cond.methodLink "java/util/ArrayList" (118 : Nat) ({ cls := "java/util/Objects", name := "checkIndex", desc := "(II)I" } : Jvm.MethodName)) ∈ lw_all := lw_g (lw_at lw_m4 70 rfl) rfl
theorem q934 : (Jvm.Cond.methodLink "java/util/ArrayList" (123 : Nat) ({ cls := "java/util/ArrayList", name := "elementData", desc := "(I)Ljava/lang/Object;" } : Jvm.MethodName)) ∈ lw_all := lw_g (lw_at lw_m4 74 rfl) rfl
theorem q935 : (Jvm.Cond.instanceMethod ({ cls := "java/util/ArrayList", name := "elementData", desc := "(I)Ljava/lang/Object;" } : Jvm.MethodName)) ∈ lw_all := lw_g (lw_at lw_m4 75 rfl) rfl
theorem q936 : (Jvm.Cond.selects "java/util/ArrayList" ({ cls := "java/util/ArrayList", name := "elementData", desc := "(I)Ljava/lang/Object;" } : Jvm.MethodName) ({ cls := "java/util/ArrayList", name := "elementData", desc := "(I)Ljava/lang/Object;" } : Jvm.MethodName)) ∈ lw_all := lw_g (lw_at lw_m4 76 rfl) rfl
theorem q937 : (Jvm.Cond.code ({ cls := "java/util/ArrayList", name := "elementData", desc := "(I)Ljava/lang/Object;" } : Jvm.MethodName) prog_37_method_18_code (2 : Nat) (Option.some (Jvm.ClassFile.FieldType.object "java/lang/Object"))) ∈ lw_all := lw_g (lw_at lw_m4 77 rfl) rfl
theorem q1548 : (Jvm.Cond.selects "java/util/ArrayList" ({ cls := "java/util/List", name := "isEmpty", desc := "()Z" } : Jvm.MethodName) ({ cls := "java/util/ArrayList", name := "isEmpty", desc := "()Z" } : Jvm.MethodName)) ∈ lw_all := lw_g (lw_at lw_m6 208 rfl) rfl
theorem q1549 : (Jvm.Cond.unhidden "java/util/ArrayList" "isEmpty" "()Z") ∈ lw_tbl := lw_at lw_m6 209 rfl
theorem q1550 : (Jvm.Cond.instanceMethod ({ cls := "java/util/ArrayList", name := "isEmpty", desc := "()Z" } : Jvm.MethodName)) ∈ lw_all := lw_g (lw_at lw_m6 210 rfl) rfl
theorem q1551 : (Jvm.Cond.publicMethod ({ cls := "java/util/ArrayList", name := "isEmpty", desc := "()Z" } : Jvm.MethodName)) ∈ lw_tbl := lw_at lw_m6 211 rfl
theorem q1552 : (Jvm.Cond.code ({ cls := "java/util/ArrayList", name := "isEmpty", desc := "()Z" } : Jvm.MethodName) prog_37_method_9_code (1 : Nat) (Option.some Jvm.ClassFile.FieldType.boolean)) ∈ lw_all := lw_g (lw_at lw_m6 212 rfl) rfl
theorem q1557 : (Jvm.Cond.selects "java/util/ArrayList" ({ cls := "java/util/List", name := "remove", desc := "(I)Ljava/lang/Object;" } : Jvm.MethodName) ({ cls := "java/util/ArrayList", name := "remove", desc := "(I)Ljava/lang/Object;" } : Jvm.MethodName)) ∈ lw_all := lw_g (lw_at lw_m6 217 rfl) rfl
theorem q1558 : (Jvm.Cond.unhidden "java/util/ArrayList" "remove" "(I)Ljava/lang/Object;") ∈ lw_tbl := lw_at lw_m6 218 rfl
theorem q1559 : (Jvm.Cond.instanceMethod ({ cls := "java/util/ArrayList", name := "remove", desc := "(I)Ljava/lang/Object;" } : Jvm.MethodName)) ∈ lw_all := lw_g (lw_at lw_m6 219 rfl) rfl
theorem q1560 : (Jvm.Cond.publicMethod ({ cls := "java/util/ArrayList", name := "remove", desc := "(I)Ljava/lang/Object;" } : Jvm.MethodName)) ∈ lw_tbl := lw_at lw_m6 220 rfl
theorem q1561 : (Jvm.Cond.code ({ cls := "java/util/ArrayList", name := "remove", desc := "(I)Ljava/lang/Object;" } : Jvm.MethodName) prog_37_method_29_code (4 : Nat) (Option.some (Jvm.ClassFile.FieldType.object "java/lang/Object"))) ∈ lw_all := lw_g (lw_at lw_m6 221 rfl) rfl
theorem q1562 : (Jvm.Cond.methodLink "java/util/ArrayList" (144 : Nat) ({ cls := "java/util/ArrayList", name := "fastRemove", desc := "([Ljava/lang/Object;I)V" } : Jvm.MethodName)) ∈ lw_all := lw_g (lw_at lw_m6 222 rfl) rfl
theorem q1563 : (Jvm.Cond.privateMethod ({ cls := "java/util/ArrayList", name := "fastRemove", desc := "([Ljava/lang/Object;I)V" } : Jvm.MethodName)) ∈ lw_tbl := lw_at lw_m6 223 rfl
theorem q1564 : (Jvm.Cond.instanceMethod ({ cls := "java/util/ArrayList", name := "fastRemove", desc := "([Ljava/lang/Object;I)V" } : Jvm.MethodName)) ∈ lw_all := lw_g (lw_at lw_m6 224 rfl) rfl
theorem q1565 : (Jvm.Cond.code ({ cls := "java/util/ArrayList", name := "fastRemove", desc := "([Ljava/lang/Object;I)V" } : Jvm.MethodName) prog_37_method_39_code (4 : Nat) (Option.none : Option Jvm.ClassFile.FieldType)) ∈ lw_all := lw_g (lw_at lw_m6 225 rfl) rfl
theorem q1566 : (Jvm.Cond.methodLink "java/util/ArrayList" (112 : Nat) ({ cls := "java/lang/System", name := "arraycopy", desc := "(Ljava/lang/Object;ILjava/lang/Object;II)V" } : Jvm.MethodName)) ∈ lw_all := lw_g (lw_at lw_m6 226 rfl) rfl
theorem q1575 : (Jvm.Cond.selects "java/util/ArrayList" ({ cls := "java/util/List", name := "clear", desc := "()V" } : Jvm.MethodName) ({ cls := "java/util/ArrayList", name := "clear", desc := "()V" } : Jvm.MethodName)) ∈ lw_all := lw_g (lw_at lw_m6 235 rfl) rfl
theorem q1576 : (Jvm.Cond.unhidden "java/util/ArrayList" "clear" "()V") ∈ lw_tbl := lw_at lw_m6 236 rfl
theorem q1577 : (Jvm.Cond.instanceMethod ({ cls := "java/util/ArrayList", name := "clear", desc := "()V" } : Jvm.MethodName)) ∈ lw_all := lw_g (lw_at lw_m6 237 rfl) rfl
theorem q1578 : (Jvm.Cond.publicMethod ({ cls := "java/util/ArrayList", name := "clear", desc := "()V" } : Jvm.MethodName)) ∈ lw_tbl := lw_at lw_m6 238 rfl
theorem q1579 : (Jvm.Cond.code ({ cls := "java/util/ArrayList", name := "clear", desc := "()V" } : Jvm.MethodName) prog_37_method_40_code (4 : Nat) (Option.none : Option Jvm.ClassFile.FieldType)) ∈ lw_all := lw_g (lw_at lw_m6 239 rfl) rfl
theorem q1604 : (Jvm.Cond.selects "java/util/ArrayList" ({ cls := "java/util/List", name := "iterator", desc := "()Ljava/util/Iterator;" } : Jvm.MethodName) ({ cls := "java/util/ArrayList", name := "iterator", desc := "()Ljava/util/Iterator;" } : Jvm.MethodName)) ∈ lw_all := lw_g (lw_at lw_m7 24 rfl) rfl
theorem q1605 : (Jvm.Cond.unhidden "java/util/ArrayList" "iterator" "()Ljava/util/Iterator;") ∈ lw_tbl := lw_at lw_m7 25 rfl
theorem q1606 : (Jvm.Cond.instanceMethod ({ cls := "java/util/ArrayList", name := "iterator", desc := "()Ljava/util/Iterator;" } : Jvm.MethodName)) ∈ lw_all := lw_g (lw_at lw_m7 26 rfl) rfl
theorem q1607 : (Jvm.Cond.publicMethod ({ cls := "java/util/ArrayList", name := "iterator", desc := "()Ljava/util/Iterator;" } : Jvm.MethodName)) ∈ lw_tbl := lw_at lw_m7 27 rfl
theorem q1608 : (Jvm.Cond.code ({ cls := "java/util/ArrayList", name := "iterator", desc := "()Ljava/util/Iterator;" } : Jvm.MethodName) prog_37_method_55_code (1 : Nat) (Option.some (Jvm.ClassFile.FieldType.object "java/util/Iterator"))) ∈ lw_all := lw_g (lw_at lw_m7 28 rfl) rfl
theorem q1609 : (Jvm.Cond.classLink "java/util/ArrayList" (267 : Nat) "java/util/ArrayList$Itr") ∈ lw_all := lw_g (lw_at lw_m7 29 rfl) rfl
theorem q1611 : (Jvm.Cond.methodLink "java/util/ArrayList" (269 : Nat) ({ cls := "java/util/ArrayList$Itr", name := "<init>", desc := "(Ljava/util/ArrayList;)V" } : Jvm.MethodName)) ∈ lw_all := lw_g (lw_at lw_m7 31 rfl) rfl
theorem q1665 : (Jvm.Cond.selects "java/util/ArrayList" ({ cls := "java/util/List", name := "addAll", desc := "(Ljava/util/Collection;)Z" } : Jvm.MethodName) ({ cls := "java/util/ArrayList", name := "addAll", desc := "(Ljava/util/Collection;)Z" } : Jvm.MethodName)) ∈ lw_all := lw_g (lw_at lw_m7 85 rfl) rfl
theorem q1666 : (Jvm.Cond.unhidden "java/util/ArrayList" "addAll" "(Ljava/util/Collection;)Z") ∈ lw_tbl := lw_at lw_m7 86 rfl
theorem q1667 : (Jvm.Cond.instanceMethod ({ cls := "java/util/ArrayList", name := "addAll", desc := "(Ljava/util/Collection;)Z" } : Jvm.MethodName)) ∈ lw_all := lw_g (lw_at lw_m7 87 rfl) rfl
theorem q1668 : (Jvm.Cond.publicMethod ({ cls := "java/util/ArrayList", name := "addAll", desc := "(Ljava/util/Collection;)Z" } : Jvm.MethodName)) ∈ lw_tbl := lw_at lw_m7 88 rfl
theorem q1669 : (Jvm.Cond.code ({ cls := "java/util/ArrayList", name := "addAll", desc := "(Ljava/util/Collection;)Z" } : Jvm.MethodName) prog_37_method_41_code (6 : Nat) (Option.some Jvm.ClassFile.FieldType.boolean)) ∈ lw_all := lw_g (lw_at lw_m7 89 rfl) rfl
theorem q1670 : (Jvm.Cond.interfaceEntry "java/util/ArrayList" (42 : Nat)) ∈ lw_tbl := lw_at lw_m7 90 rfl
theorem q1671 : (Jvm.Cond.methodLink "java/util/ArrayList" (42 : Nat) ({ cls := "java/util/Collection", name := "toArray", desc := "()[Ljava/lang/Object;" } : Jvm.MethodName)) ∈ lw_all := lw_g (lw_at lw_m7 91 rfl) rfl
theorem q1674 : (Jvm.Cond.castable "java/util/ArrayList" "java/util/Collection") ∈ lw_tbl := lw_at lw_m7 94 rfl
theorem q1675 : (Jvm.Cond.selects "java/util/ArrayList" ({ cls := "java/util/Collection", name := "toArray", desc := "()[Ljava/lang/Object;" } : Jvm.MethodName) ({ cls := "java/util/ArrayList", name := "toArray", desc := "()[Ljava/lang/Object;" } : Jvm.MethodName)) ∈ lw_all := lw_g (lw_at lw_m7 95 rfl) rfl
theorem q1676 : (Jvm.Cond.unhidden "java/util/ArrayList" "toArray" "()[Ljava/lang/Object;") ∈ lw_tbl := lw_at lw_m7 96 rfl
theorem q1677 : (Jvm.Cond.instanceMethod ({ cls := "java/util/ArrayList", name := "toArray", desc := "()[Ljava/lang/Object;" } : Jvm.MethodName)) ∈ lw_all := lw_g (lw_at lw_m7 97 rfl) rfl
theorem q1678 : (Jvm.Cond.publicMethod ({ cls := "java/util/ArrayList", name := "toArray", desc := "()[Ljava/lang/Object;" } : Jvm.MethodName)) ∈ lw_tbl := lw_at lw_m7 98 rfl
theorem q1679 : (Jvm.Cond.code ({ cls := "java/util/ArrayList", name := "toArray", desc := "()[Ljava/lang/Object;" } : Jvm.MethodName) prog_37_method_16_code (1 : Nat) (Option.some (Jvm.ClassFile.FieldType.array (Jvm.ClassFile.FieldType.object "java/lang/Object")))) ∈ lw_all := lw_g (lw_at lw_m7 99 rfl) rfl
theorem q2500 : (Jvm.Cond.castable "java/util/ArrayList" "java/lang/Object") ∈ lw_tbl := lw_at lw_m10 200 rfl
theorem q152 : (Jvm.Cond.initialized "java/lang/Math") ∈ lw_all := lw_g (lw_at lw_m1 12 rfl) rfl
theorem q668 : (Jvm.Cond.static ({ cls := "java/lang/Math", name := "min", desc := "(II)I" } : Jvm.MethodName)) ∈ lw_all := lw_g (lw_at lw_m3 48 rfl) rfl
theorem q669 : (Jvm.Cond.code ({ cls := "java/lang/Math", name := "min", desc := "(II)I" } : Jvm.MethodName) prog_24_method_69_code (2 : Nat) (Option.some Jvm.ClassFile.FieldType.int)) ∈ lw_all := lw_g (lw_at lw_m3 49 rfl) rfl
theorem q877 : (Jvm.Cond.static ({ cls := "java/lang/Math", name := "max", desc := "(II)I" } : Jvm.MethodName)) ∈ lw_all := lw_g (lw_at lw_m4 17 rfl) rfl
theorem q878 : (Jvm.Cond.code ({ cls := "java/lang/Math", name := "max", desc := "(II)I" } : Jvm.MethodName) prog_24_method_65_code (2 : Nat) (Option.some Jvm.ClassFile.FieldType.int)) ∈ lw_all := lw_g (lw_at lw_m4 18 rfl) rfl
theorem q1449 : (Jvm.Cond.static ({ cls := "java/lang/Math", name := "abs", desc := "(J)J" } : Jvm.MethodName)) ∈ lw_all := lw_g (lw_at lw_m6 109 rfl) rfl
theorem q1450 : (Jvm.Cond.code ({ cls := "java/lang/Math", name := "abs", desc := "(J)J" } : Jvm.MethodName) prog_24_method_61_code (2 : Nat) (Option.some Jvm.ClassFile.FieldType.long)) ∈ lw_all := lw_g (lw_at lw_m6 110 rfl) rfl
theorem q153 : (Jvm.Cond.initialized "java/lang/String") ∈ lw_all := lw_g (lw_at lw_m1 13 rfl) rfl
theorem q272 : (Jvm.Cond.instantiable "java/lang/String" (4 : Nat)) ∈ lw_all := lw_g (lw_at lw_m1 132 rfl) rfl
theorem q274 : (Jvm.Cond.laysFinal "java/lang/String" "java/lang/String" "value" "[B") ∈ lw_all := lw_g (lw_at lw_m1 134 rfl) rfl
theorem q275 : (Jvm.Cond.soleField "java/lang/String" "value") ∈ lw_all := lw_g (lw_at lw_m1 135 rfl) rfl
theorem q276 : (Jvm.Cond.laysFinal "java/lang/String" "java/lang/String" "coder" "B") ∈ lw_all := lw_g (lw_at lw_m1 136 rfl) rfl
theorem q277 : (Jvm.Cond.soleField "java/lang/String" "coder") ∈ lw_all := lw_g (lw_at lw_m1 137 rfl) rfl
theorem q710 : (Jvm.Cond.instanceMethod ({ cls := "java/lang/String", name := "length", desc := "()I" } : Jvm.MethodName)) ∈ lw_all := lw_g (lw_at lw_m3 90 rfl) rfl
theorem q711 : (Jvm.Cond.selects "java/lang/String" ({ cls := "java/lang/String", name := "length", desc := "()I" } : Jvm.MethodName) ({ cls := "java/lang/String", name := "length", desc := "()I" } : Jvm.MethodName)) ∈ lw_all := lw_g (lw_at lw_m3 91 rfl) rfl
theorem q712 : (Jvm.Cond.code ({ cls := "java/lang/String", name := "length", desc := "()I" } : Jvm.MethodName) prog_28_method_54_code (1 : Nat) (Option.some Jvm.ClassFile.FieldType.int)) ∈ lw_all := lw_g (lw_at lw_m3 92 rfl) rfl
theorem q713 : (Jvm.Cond.methodLink "java/lang/String" (335 : Nat) ({ cls := "java/lang/String", name := "coder", desc := "()B" } : Jvm.MethodName)) ∈ lw_all := lw_g (lw_at lw_m3 93 rfl) rfl
theorem q714 : (Jvm.Cond.instanceMethod ({ cls := "java/lang/String", name := "coder", desc := "()B" } : Jvm.MethodName)) ∈ lw_all := lw_g (lw_at lw_m3 94 rfl) rfl
theorem q715 : (Jvm.Cond.selects "java/lang/String" ({ cls := "java/lang/String", name := "coder", desc := "()B" } : Jvm.MethodName) ({ cls := "java/lang/String", name := "coder", desc := "()B" } : Jvm.MethodName)) ∈ lw_all := lw_g (lw_at lw_m3 95 rfl) rfl
theorem q716 : (Jvm.Cond.code ({ cls := "java/lang/String", name := "coder", desc := "()B" } : Jvm.MethodName) prog_28_method_152_code (1 : Nat) (Option.some Jvm.ClassFile.FieldType.byte)) ∈ lw_all := lw_g (lw_at lw_m3 96 rfl) rfl
theorem q717 : (Jvm.Cond.fieldLink "java/lang/String" (38 : Nat) "java/lang/String" "COMPACT_STRINGS" "Z") ∈ lw_all := lw_g (lw_at lw_m3 97 rfl) rfl
theorem q718 : (Jvm.Cond.laysStatic "java/lang/String" "COMPACT_STRINGS" "Z") ∈ lw_tbl := lw_at lw_m3 98 rfl
theorem q720 : (Jvm.Cond.instanceMethod ({ cls := "java/lang/String", name := "charAt", desc := "(I)C" } : Jvm.MethodName)) ∈ lw_all := lw_g (lw_at lw_m3 100 rfl) rfl
theorem q721 : (Jvm.Cond.selects "java/lang/String" ({ cls := "java/lang/String", name := "charAt", desc := "(I)C" } : Jvm.MethodName) ({ cls := "java/lang/String", name := "charAt", desc := "(I)C" } : Jvm.MethodName)) ∈ lw_all := lw_g (lw_at lw_m3 101 rfl) rfl
theorem q722 : (Jvm.Cond.code ({ cls := "java/lang/String", name := "charAt", desc := "(I)C" } : Jvm.MethodName) prog_28_method_56_code (2 : Nat) (Option.some Jvm.ClassFile.FieldType.char)) ∈ lw_all := lw_g (lw_at lw_m3 102 rfl) rfl
theorem q723 : (Jvm.Cond.methodLink "java/lang/String" (492 : Nat) ({ cls := "java/lang/String", name := "isLatin1", desc := "()Z" } : Jvm.MethodName)) ∈ lw_all := lw_g (lw_at lw_m3 103 rfl) rfl
theorem q724 : (Jvm.Cond.instanceMethod ({ cls := "java/lang/String", name := "isLatin1", desc := "()Z" } : Jvm.MethodName)) ∈ lw_all := lw_g (lw_at lw_m3 104 rfl) rfl
theorem q725 : (Jvm.Cond.selects "java/lang/String" ({ cls := "java/lang/String", name := "isLatin1", desc := "()Z" } : Jvm.MethodName) ({ cls := "java/lang/String", name := "isLatin1", desc := "()Z" } : Jvm.MethodName)) ∈ lw_all := lw_g (lw_at lw_m3 105 rfl) rfl
theorem q726 : (Jvm.Cond.code ({ cls := "java/lang/String", name := "isLatin1", desc := "()Z" } : Jvm.MethodName) prog_28_method_154_code (1 : Nat) (Option.some Jvm.ClassFile.FieldType.boolean)) ∈ lw_all := lw_g (lw_at lw_m3 106 rfl) rfl
theorem q727 : (Jvm.Cond.methodLink "java/lang/String" (495 : Nat) ({ cls := "java/lang/StringLatin1", name := "charAt", desc := "([BI)C" } : Jvm.MethodName)) ∈ lw_all := lw_g (lw_at lw_m3 107 rfl) rfl
theorem q731 : (Jvm.Cond.static ({ cls := "java/lang/String", name := "checkIndex", desc := "(II)V" } : Jvm.MethodName)) ∈ lw_all := lw_g (lw_at lw_m3 111 rfl) rfl
theorem q732 : (Jvm.Cond.code ({ cls := "java/lang/String", name := "checkIndex", desc := "(II)V" } : Jvm.MethodName) prog_28_method_155_code (2 : Nat) (Option.none : Option Jvm.ClassFile.FieldType)) ∈ lw_all := lw_g (lw_at lw_m3 112 rfl) rfl
theorem q733 : (Jvm.Cond.fieldLink "java/lang/String" (1053 : Nat) "jdk/internal/util/Preconditions" "SIOOBE_FORMATTER" "Ljava/util/function/BiFunction;") ∈ lw_all := lw_g (lw_at lw_m3 113 rfl) rfl
theorem q735 : (Jvm.Cond.methodLink "java/lang/String" (1059 : Nat) ({ cls := "jdk/internal/util/Preconditions", name := "checkIndex", desc := "(IILjava/util/function/BiFunction;)I" } : Jvm.MethodName)) ∈ lw_all := lw_g (lw_at lw_m3 115 rfl) rfl
theorem q738 : (Jvm.Cond.methodLink "java/lang/String" (498 : Nat) ({ cls := "java/lang/StringUTF16", name := "charAt", desc := "([BI)C" } : Jvm.MethodName)) ∈ lw_all := lw_g (lw_at lw_m3 118 rfl) rfl
theorem q2516 : (Jvm.Cond.castable "java/lang/String" "java/lang/Object") ∈ lw_tbl := lw_at lw_m10 216 rfl
theorem q2528 : (Jvm.Cond.fieldLink "java/lang/String" (9 : Nat) "java/lang/String" "value" "[B") ∈ lw_all := lw_g (lw_at lw_m10 228 rfl) rfl
theorem q2529 : (Jvm.Cond.fieldLink "java/lang/String" (15 : Nat) "java/lang/String" "coder" "B") ∈ lw_all := lw_g (lw_at lw_m10 229 rfl) rfl
theorem q154 : (Jvm.Cond.initialized "java/lang/StringLatin1") ∈ lw_all := lw_g (lw_at lw_m1 14 rfl) rfl
theorem q728 : (Jvm.Cond.static ({ cls := "java/lang/StringLatin1", name := "charAt", desc := "([BI)C" } : Jvm.MethodName)) ∈ lw_all := lw_g (lw_at lw_m3 108 rfl) rfl
theorem q729 : (Jvm.Cond.code ({ cls := "java/lang/StringLatin1", name := "charAt", desc := "([BI)C" } : Jvm.MethodName) prog_29_method_2_code (2 : Nat) (Option.some Jvm.ClassFile.FieldType.char)) ∈ lw_all := lw_g (lw_at lw_m3 109 rfl) rfl
theorem q730 : (Jvm.Cond.methodLink "java/lang/StringLatin1" (9 : Nat) ({ cls := "java/lang/String", name := "checkIndex", desc := "(II)V" } : Jvm.MethodName)) ∈ lw_all := lw_g (lw_at lw_m3 110 rfl) rfl
theorem q155 : (Jvm.Cond.initialized "jdk/internal/util/Preconditions") ∈ lw_all := lw_g (lw_at lw_m1 15 rfl) rfl
theorem q734 : (Jvm.Cond.laysStatic "jdk/internal/util/Preconditions" "SIOOBE_FORMATTER" "Ljava/util/function/BiFunction;") ∈ lw_tbl := lw_at lw_m3 114 rfl
theorem q736 : (Jvm.Cond.static ({ cls := "jdk/internal/util/Preconditions", name := "checkIndex", desc := "(IILjava/util/function/BiFunction;)I" } : Jvm.MethodName)) ∈ lw_all := lw_g (lw_at lw_m3 116 rfl) rfl
theorem q737 : (Jvm.Cond.code ({ cls := "jdk/internal/util/Preconditions", name := "checkIndex", desc := "(IILjava/util/function/BiFunction;)I" } : Jvm.MethodName) prog_47_method_11_code (3 : Nat) (Option.some Jvm.ClassFile.FieldType.int)) ∈ lw_all := lw_g (lw_at lw_m3 117 rfl) rfl
theorem q156 : (Jvm.Cond.initialized "java/lang/StringUTF16") ∈ lw_all := lw_g (lw_at lw_m1 16 rfl) rfl
theorem q739 : (Jvm.Cond.static ({ cls := "java/lang/StringUTF16", name := "charAt", desc := "([BI)C" } : Jvm.MethodName)) ∈ lw_all := lw_g (lw_at lw_m3 119 rfl) rfl
theorem q740 : (Jvm.Cond.code ({ cls := "java/lang/StringUTF16", name := "charAt", desc := "([BI)C" } : Jvm.MethodName) prog_30_method_83_code (2 : Nat) (Option.some Jvm.ClassFile.FieldType.char)) ∈ lw_all := lw_g (lw_at lw_m3 120 rfl) rfl
theorem q741 : (Jvm.Cond.methodLink "java/lang/StringUTF16" (67 : Nat) ({ cls := "java/lang/StringUTF16", name := "checkIndex", desc := "(I[B)V" } : Jvm.MethodName)) ∈ lw_all := lw_g (lw_at lw_m3 121 rfl) rfl
theorem q742 : (Jvm.Cond.static ({ cls := "java/lang/StringUTF16", name := "checkIndex", desc := "(I[B)V" } : Jvm.MethodName)) ∈ lw_all := lw_g (lw_at lw_m3 122 rfl) rfl
theorem q743 : (Jvm.Cond.code ({ cls := "java/lang/StringUTF16", name := "checkIndex", desc := "(I[B)V" } : Jvm.MethodName) prog_30_method_91_code (2 : Nat) (Option.none : Option Jvm.ClassFile.FieldType)) ∈ lw_all := lw_g (lw_at lw_m3 123 rfl) rfl
theorem q744 : (Jvm.Cond.methodLink "java/lang/StringUTF16" (48 : Nat) ({ cls := "java/lang/StringUTF16", name := "length", desc := "([B)I" } : Jvm.MethodName)) ∈ lw_all := lw_g (lw_at lw_m3 124 rfl) rfl
theorem q745 : (Jvm.Cond.static ({ cls := "java/lang/StringUTF16", name := "length", desc := "([B)I" } : Jvm.MethodName)) ∈ lw_all := lw_g (lw_at lw_m3 125 rfl) rfl
theorem q746 : (Jvm.Cond.code ({ cls := "java/lang/StringUTF16", name := "length", desc := "([B)I" } : Jvm.MethodName) prog_30_method_6_code (1 : Nat) (Option.some Jvm.ClassFile.FieldType.int)) ∈ lw_all := lw_g (lw_at lw_m3 126 rfl) rfl
theorem q747 : (Jvm.Cond.methodLink "java/lang/StringUTF16" (414 : Nat) ({ cls := "java/lang/String", name := "checkIndex", desc := "(II)V" } : Jvm.MethodName)) ∈ lw_all := lw_g (lw_at lw_m3 127 rfl) rfl
theorem q748 : (Jvm.Cond.methodLink "java/lang/StringUTF16" (71 : Nat) ({ cls := "java/lang/StringUTF16", name := "getChar", desc := "([BI)C" } : Jvm.MethodName)) ∈ lw_all := lw_g (lw_at lw_m3 128 rfl) rfl
theorem q749 : (Jvm.Cond.static ({ cls := "java/lang/StringUTF16", name := "getChar", desc := "([BI)C" } : Jvm.MethodName)) ∈ lw_all := lw_g (lw_at lw_m3 129 rfl) rfl
theorem q750 : (Jvm.Cond.code ({ cls := "java/lang/StringUTF16", name := "getChar", desc := "([BI)C" } : Jvm.MethodName) prog_30_method_5_code (2 : Nat) (Option.some Jvm.ClassFile.FieldType.char)) ∈ lw_all := lw_g (lw_at lw_m3 130 rfl) rfl
theorem q751 : (Jvm.Cond.fieldLink "java/lang/StringUTF16" (44 : Nat) "java/lang/StringUTF16" "$assertionsDisabled" "Z") ∈ lw_all := lw_g (lw_at lw_m3 131 rfl) rfl
theorem q752 : (Jvm.Cond.laysStatic "java/lang/StringUTF16" "$assertionsDisabled" "Z") ∈ lw_tbl := lw_at lw_m3 132 rfl
theorem q753 : (Jvm.Cond.fieldLink "java/lang/StringUTF16" (59 : Nat) "java/lang/StringUTF16" "HI_BYTE_SHIFT" "I") ∈ lw_all := lw_g (lw_at lw_m3 133 rfl) rfl
theorem q754 : (Jvm.Cond.laysStatic "java/lang/StringUTF16" "HI_BYTE_SHIFT" "I") ∈ lw_tbl := lw_at lw_m3 134 rfl
theorem q755 : (Jvm.Cond.fieldLink "java/lang/StringUTF16" (63 : Nat) "java/lang/StringUTF16" "LO_BYTE_SHIFT" "I") ∈ lw_all := lw_g (lw_at lw_m3 135 rfl) rfl
theorem q756 : (Jvm.Cond.laysStatic "java/lang/StringUTF16" "LO_BYTE_SHIFT" "I") ∈ lw_tbl := lw_at lw_m3 136 rfl
theorem q157 : (Jvm.Cond.initialized "java/lang/Throwable") ∈ lw_all := lw_g (lw_at lw_m1 17 rfl) rfl
theorem q201 : (Jvm.Cond.instanceMethod ({ cls := "java/lang/Throwable", name := "<init>", desc := "(Ljava/lang/String;)V" } : Jvm.MethodName)) ∈ lw_all := lw_g (lw_at lw_m1 61 rfl) rfl
theorem q202 : (Jvm.Cond.code ({ cls := "java/lang/Throwable", name := "<init>", desc := "(Ljava/lang/String;)V" } : Jvm.MethodName) prog_32_method_2_code (2 : Nat) (Option.none : Option Jvm.ClassFile.FieldType)) ∈ lw_all := lw_g (lw_at lw_m1 62 rfl) rfl
theorem q203 : (Jvm.Cond.methodLink "java/lang/Throwable" (1 : Nat) ({ cls := "java/lang/Object", name := "<init>", desc := "()V" } : Jvm.MethodName)) ∈ lw_all := lw_g (lw_at lw_m1 63 rfl) rfl
theorem q206 : (Jvm.Cond.fieldLink "java/lang/Throwable" (13 : Nat) "java/lang/Throwable" "UNASSIGNED_STACK" "[Ljava/lang/StackTraceElement;") ∈ lw_all := lw_g (lw_at lw_m1 66 rfl) rfl
theorem q207 : (Jvm.Cond.laysStatic "java/lang/Throwable" "UNASSIGNED_STACK" "[Ljava/lang/StackTraceElement;") ∈ lw_tbl := lw_at lw_m1 67 rfl
theorem q208 : (Jvm.Cond.fieldLink "java/lang/Throwable" (20 : Nat) "java/lang/Throwable" "SUPPRESSED_SENTINEL" "Ljava/util/List;") ∈ lw_all := lw_g (lw_at lw_m1 68 rfl) rfl
theorem q209 : (Jvm.Cond.laysStatic "java/lang/Throwable" "SUPPRESSED_SENTINEL" "Ljava/util/List;") ∈ lw_tbl := lw_at lw_m1 69 rfl
theorem q210 : (Jvm.Cond.methodLink "java/lang/Throwable" (27 : Nat) ({ cls := "java/lang/Throwable", name := "fillInStackTrace", desc := "()Ljava/lang/Throwable;" } : Jvm.MethodName)) ∈ lw_all := lw_g (lw_at lw_m1 70 rfl) rfl
theorem q211 : (Jvm.Cond.instanceMethod ({ cls := "java/lang/Throwable", name := "fillInStackTrace", desc := "()Ljava/lang/Throwable;" } : Jvm.MethodName)) ∈ lw_all := lw_g (lw_at lw_m1 71 rfl) rfl
theorem q212 : (Jvm.Cond.sameMethod "java/lang/Throwable" "java/lang/Throwable" "fillInStackTrace" "()Ljava/lang/Throwable;") ∈ lw_all := lw_g (lw_at lw_m1 72 rfl) rfl
theorem q227 : (Jvm.Cond.declares ({ cls := "java/lang/Throwable", name := "fillInStackTrace", desc := "()Ljava/lang/Throwable;" } : Jvm.MethodName)) ∈ lw_tbl := lw_at lw_m1 87 rfl
theorem q231 : (Jvm.Cond.codeSync ({ cls := "java/lang/Throwable", name := "fillInStackTrace", desc := "()Ljava/lang/Throwable;" } : Jvm.MethodName) prog_32_method_18_code (1 : Nat) (Option.some (Jvm.ClassFile.FieldType.object "java/lang/Throwable"))) ∈ lw_all := lw_g (lw_at lw_m1 91 rfl) rfl
theorem q232 : (Jvm.Cond.methodLink "java/lang/Throwable" (202 : Nat) ({ cls := "java/lang/Throwable", name := "fillInStackTrace", desc := "(I)Ljava/lang/Throwable;" } : Jvm.MethodName)) ∈ lw_all := lw_g (lw_at lw_m1 92 rfl) rfl
theorem q233 : (Jvm.Cond.privateMethod ({ cls := "java/lang/Throwable", name := "fillInStackTrace", desc := "(I)Ljava/lang/Throwable;" } : Jvm.MethodName)) ∈ lw_tbl := lw_at lw_m1 93 rfl
theorem q234 : (Jvm.Cond.instanceMethod ({ cls := "java/lang/Throwable", name := "fillInStackTrace", desc := "(I)Ljava/lang/Throwable;" } : Jvm.MethodName)) ∈ lw_all := lw_g (lw_at lw_m1 94 rfl) rfl
theorem q235 : (Jvm.Cond.instantiable "java/lang/Throwable" (6 : Nat)) ∈ lw_all := lw_g (lw_at lw_m1 95 rfl) rfl
theorem q236 : (Jvm.Cond.native ({ cls := "java/lang/Throwable", name := "fillInStackTrace", desc := "(I)Ljava/lang/Throwable;" } : Jvm.MethodName)) ∈ lw_all := lw_g (lw_at lw_m1 96 rfl) rfl
theorem q237 : (Jvm.Cond.fieldLink "java/lang/Throwable" (198 : Nat) "java/lang/Throwable" "backtrace" "Ljava/lang/Object;") ∈ lw_all := lw_g (lw_at lw_m1 97 rfl) rfl
theorem q238 : (Jvm.Cond.fieldLink "java/lang/Throwable" (31 : Nat) "java/lang/Throwable" "detailMessage" "Ljava/lang/String;") ∈ lw_all := lw_g (lw_at lw_m1 98 rfl) rfl
theorem q239 : (Jvm.Cond.fieldLink "java/lang/Throwable" (7 : Nat) "java/lang/Throwable" "cause" "Ljava/lang/Throwable;") ∈ lw_all := lw_g (lw_at lw_m1 99 rfl) rfl
theorem q240 : (Jvm.Cond.fieldLink "java/lang/Throwable" (17 : Nat) "java/lang/Throwable" "stackTrace" "[Ljava/lang/StackTraceElement;") ∈ lw_all := lw_g (lw_at lw_m1 100 rfl) rfl
theorem q241 : (Jvm.Cond.fieldLink "java/lang/Throwable" (24 : Nat) "java/lang/Throwable" "suppressedExceptions" "Ljava/util/List;") ∈ lw_all := lw_g (lw_at lw_m1 101 rfl) rfl
theorem q243 : (Jvm.Cond.soleField "java/lang/Throwable" "backtrace") ∈ lw_all := lw_g (lw_at lw_m1 103 rfl) rfl
theorem q245 : (Jvm.Cond.soleField "java/lang/Throwable" "detailMessage") ∈ lw_all := lw_g (lw_at lw_m1 105 rfl) rfl
theorem q247 : (Jvm.Cond.soleField "java/lang/Throwable" "cause") ∈ lw_all := lw_g (lw_at lw_m1 107 rfl) rfl
theorem q249 : (Jvm.Cond.soleField "java/lang/Throwable" "stackTrace") ∈ lw_all := lw_g (lw_at lw_m1 109 rfl) rfl
theorem q251 : (Jvm.Cond.soleField "java/lang/Throwable" "depth") ∈ lw_all := lw_g (lw_at lw_m1 111 rfl) rfl
theorem q253 : (Jvm.Cond.soleField "java/lang/Throwable" "suppressedExceptions") ∈ lw_all := lw_g (lw_at lw_m1 113 rfl) rfl
theorem q260 : (Jvm.Cond.declares ({ cls := "java/lang/Throwable", name := "<init>", desc := "()V" } : Jvm.MethodName)) ∈ lw_tbl := lw_at lw_m1 120 rfl
theorem q261 : (Jvm.Cond.declares ({ cls := "java/lang/Throwable", name := "<init>", desc := "(Ljava/lang/String;)V" } : Jvm.MethodName)) ∈ lw_tbl := lw_at lw_m1 121 rfl
theorem q263 : (Jvm.Cond.lays "java/lang/Throwable" "java/lang/Throwable" "cause" "Ljava/lang/Throwable;") ∈ lw_all := lw_g (lw_at lw_m1 123 rfl) rfl
theorem q264 : (Jvm.Cond.lays "java/lang/Throwable" "java/lang/Throwable" "stackTrace" "[Ljava/lang/StackTraceElement;") ∈ lw_all := lw_g (lw_at lw_m1 124 rfl) rfl
theorem q265 : (Jvm.Cond.lays "java/lang/Throwable" "java/lang/Throwable" "suppressedExceptions" "Ljava/util/List;") ∈ lw_all := lw_g (lw_at lw_m1 125 rfl) rfl
theorem q266 : (Jvm.Cond.lays "java/lang/Throwable" "java/lang/Throwable" "detailMessage" "Ljava/lang/String;") ∈ lw_all := lw_g (lw_at lw_m1 126 rfl) rfl
theorem q267 : (Jvm.Cond.lays "java/lang/Throwable" "java/lang/Throwable" "backtrace" "Ljava/lang/Object;") ∈ lw_all := lw_g (lw_at lw_m1 127 rfl) rfl
theorem q268 : (Jvm.Cond.fieldLink "java/lang/Throwable" (198 : Nat) "java/lang/Throwable" "backtrace" "Ljava/lang/Object;") ∈ lw_all := lw_g (lw_at lw_m1 128 rfl) rfl
theorem q269 : (Jvm.Cond.superclass "java/lang/Throwable" "java/lang/Object") ∈ lw_all := lw_g (lw_at lw_m1 129 rfl) rfl
theorem q270 : (Jvm.Cond.instanceMethod ({ cls := "java/lang/Throwable", name := "<init>", desc := "()V" } : Jvm.MethodName)) ∈ lw_all := lw_g (lw_at lw_m1 130 rfl) rfl
theorem q271 : (Jvm.Cond.code ({ cls := "java/lang/Throwable", name := "<init>", desc := "()V" } : Jvm.MethodName) prog_32_method_1_code (1 : Nat) (Option.none : Option Jvm.ClassFile.FieldType)) ∈ lw_all := lw_g (lw_at lw_m1 131 rfl) rfl
theorem q780 : (Jvm.Cond.instanceMethod ({ cls := "java/lang/Throwable", name := "<init>", desc := "(Ljava/lang/String;Ljava/lang/Throwable;ZZ)V" } : Jvm.MethodName)) ∈ lw_all := lw_g (lw_at lw_m3 160 rfl) rfl
theorem q781 : (Jvm.Cond.code ({ cls := "java/lang/Throwable", name := "<init>", desc := "(Ljava/lang/String;Ljava/lang/Throwable;ZZ)V" } : Jvm.MethodName) prog_32_method_5_code (5 : Nat) (Option.none : Option Jvm.ClassFile.FieldType)) ∈ lw_all := lw_g (lw_at lw_m3 161 rfl) rfl
theorem q2494 : (Jvm.Cond.sameMethod "java/lang/Throwable" "java/lang/Throwable" "fillInStackTrace" "(I)Ljava/lang/Throwable;") ∈ lw_all := lw_g (lw_at lw_m10 194 rfl) rfl
theorem q2515 : (Jvm.Cond.castable "java/lang/Throwable" "java/lang/Object") ∈ lw_tbl := lw_at lw_m10 215 rfl
theorem q158 : (Jvm.Cond.initialized "java/lang/Exception") ∈ lw_all := lw_g (lw_at lw_m1 18 rfl) rfl
theorem q198 : (Jvm.Cond.instanceMethod ({ cls := "java/lang/Exception", name := "<init>", desc := "(Ljava/lang/String;)V" } : Jvm.MethodName)) ∈ lw_all := lw_g (lw_at lw_m1 58 rfl) rfl
theorem q199 : (Jvm.Cond.code ({ cls := "java/lang/Exception", name := "<init>", desc := "(Ljava/lang/String;)V" } : Jvm.MethodName) prog_20_method_2_code (2 : Nat) (Option.none : Option Jvm.ClassFile.FieldType)) ∈ lw_all := lw_g (lw_at lw_m1 59 rfl) rfl
theorem q200 : (Jvm.Cond.methodLink "java/lang/Exception" (7 : Nat) ({ cls := "java/lang/Throwable", name := "<init>", desc := "(Ljava/lang/String;)V" } : Jvm.MethodName)) ∈ lw_all := lw_g (lw_at lw_m1 60 rfl) rfl
theorem q230 : (Jvm.Cond.superclass "java/lang/Exception" "java/lang/Throwable") ∈ lw_all := lw_g (lw_at lw_m1 90 rfl) rfl
theorem q258 : (Jvm.Cond.declares ({ cls := "java/lang/Exception", name := "<init>", desc := "()V" } : Jvm.MethodName)) ∈ lw_tbl := lw_at lw_m1 118 rfl
theorem q259 : (Jvm.Cond.declares ({ cls := "java/lang/Exception", name := "<init>", desc := "(Ljava/lang/String;)V" } : Jvm.MethodName)) ∈ lw_tbl := lw_at lw_m1 119 rfl
theorem q296 : (Jvm.Cond.instanceMethod ({ cls := "java/lang/Exception", name := "<init>", desc := "()V" } : Jvm.MethodName)) ∈ lw_all := lw_g (lw_at lw_m1 156 rfl) rfl
theorem q297 : (Jvm.Cond.code ({ cls := "java/lang/Exception", name := "<init>", desc := "()V" } : Jvm.MethodName) prog_20_method_1_code (1 : Nat) (Option.none : Option Jvm.ClassFile.FieldType)) ∈ lw_all := lw_g (lw_at lw_m1 157 rfl) rfl
theorem q298 : (Jvm.Cond.methodLink "java/lang/Exception" (1 : Nat) ({ cls := "java/lang/Throwable", name := "<init>", desc := "()V" } : Jvm.MethodName)) ∈ lw_all := lw_g (lw_at lw_m1 158 rfl) rfl
theorem q777 : (Jvm.Cond.instanceMethod ({ cls := "java/lang/Exception", name := "<init>", desc := "(Ljava/lang/String;Ljava/lang/Throwable;ZZ)V" } : Jvm.MethodName)) ∈ lw_all := lw_g (lw_at lw_m3 157 rfl) rfl
theorem q778 : (Jvm.Cond.code ({ cls := "java/lang/Exception", name := "<init>", desc := "(Ljava/lang/String;Ljava/lang/Throwable;ZZ)V" } : Jvm.MethodName) prog_20_method_5_code (5 : Nat) (Option.none : Option Jvm.ClassFile.FieldType)) ∈ lw_all := lw_g (lw_at lw_m3 158 rfl) rfl
theorem q779 : (Jvm.Cond.methodLink "java/lang/Exception" (16 : Nat) ({ cls := "java/lang/Throwable", name := "<init>", desc := "(Ljava/lang/String;Ljava/lang/Throwable;ZZ)V" } : Jvm.MethodName)) ∈ lw_all := lw_g (lw_at lw_m3 159 rfl) rfl
theorem q159 : (Jvm.Cond.initialized "java/lang/RuntimeException") ∈ lw_all := lw_g (lw_at lw_m1 19 rfl) rfl
theorem q195 : (Jvm.Cond.instanceMethod ({ cls := "java/lang/RuntimeException", name := "<init>", desc := "(Ljava/lang/String;)V" } : Jvm.MethodName)) ∈ lw_all := lw_g (lw_at lw_m1 55 rfl) rfl
theorem q196 : (Jvm.Cond.code ({ cls := "java/lang/RuntimeException", name := "<init>", desc := "(Ljava/lang/String;)V" } : Jvm.MethodName) prog_27_method_2_code (2 : Nat) (Option.none : Option Jvm.ClassFile.FieldType)) ∈ lw_all := lw_g (lw_at lw_m1 56 rfl) rfl
theorem q197 : (Jvm.Cond.methodLink "java/lang/RuntimeException" (7 : Nat) ({ cls := "java/lang/Exception", name := "<init>", desc := "(Ljava/lang/String;)V" } : Jvm.MethodName)) ∈ lw_all := lw_g (lw_at lw_m1 57 rfl) rfl
theorem q226 : (Jvm.Cond.sameMethod "java/lang/RuntimeException" "java/lang/Throwable" "fillInStackTrace" "()Ljava/lang/Throwable;") ∈ lw_all := lw_g (lw_at lw_m1 86 rfl) rfl
theorem q229 : (Jvm.Cond.superclass "java/lang/RuntimeException" "java/lang/Exception") ∈ lw_all := lw_g (lw_at lw_m1 89 rfl) rfl
theorem q256 : (Jvm.Cond.declares ({ cls := "java/lang/RuntimeException", name := "<init>", desc := "()V" } : Jvm.MethodName)) ∈ lw_tbl := lw_at lw_m1 116 rfl
theorem q257 : (Jvm.Cond.declares ({ cls := "java/lang/RuntimeException", name := "<init>", desc := "(Ljava/lang/String;)V" } : Jvm.MethodName)) ∈ lw_tbl := lw_at lw_m1 117 rfl
theorem q293 : (Jvm.Cond.instanceMethod ({ cls := "java/lang/RuntimeException", name := "<init>", desc := "()V" } : Jvm.MethodName)) ∈ lw_all := lw_g (lw_at lw_m1 153 rfl) rfl
theorem q294 : (Jvm.Cond.code ({ cls := "java/lang/RuntimeException", name := "<init>", desc := "()V" } : Jvm.MethodName) prog_27_method_1_code (1 : Nat) (Option.none : Option Jvm.ClassFile.FieldType)) ∈ lw_all := lw_g (lw_at lw_m1 154 rfl) rfl
theorem q295 : (Jvm.Cond.methodLink "java/lang/RuntimeException" (1 : Nat) ({ cls := "java/lang/Exception", name := "<init>", desc := "()V" } : Jvm.MethodName)) ∈ lw_all := lw_g (lw_at lw_m1 155 rfl) rfl
theorem q313 : (Jvm.Cond.castable "java/lang/RuntimeException" "java/lang/Throwable") ∈ lw_tbl := lw_at lw_m1 173 rfl
theorem q774 : (Jvm.Cond.instanceMethod ({ cls := "java/lang/RuntimeException", name := "<init>", desc := "(Ljava/lang/String;Ljava/lang/Throwable;ZZ)V" } : Jvm.MethodName)) ∈ lw_all := lw_g (lw_at lw_m3 154 rfl) rfl
theorem q775 : (Jvm.Cond.code ({ cls := "java/lang/RuntimeException", name := "<init>", desc := "(Ljava/lang/String;Ljava/lang/Throwable;ZZ)V" } : Jvm.MethodName) prog_27_method_5_code (5 : Nat) (Option.none : Option Jvm.ClassFile.FieldType)) ∈ lw_all := lw_g (lw_at lw_m3 155 rfl) rfl
theorem q776 : (Jvm.Cond.methodLink "java/lang/RuntimeException" (16 : Nat) ({ cls := "java/lang/Exception", name := "<init>", desc := "(Ljava/lang/String;Ljava/lang/Throwable;ZZ)V" } : Jvm.MethodName)) ∈ lw_all := lw_g (lw_at lw_m3 156 rfl) rfl
theorem q162 : (Jvm.Cond.initialized "jdk/internal/util/ArraysSupport") ∈ lw_all := lw_g (lw_at lw_m1 22 rfl) rfl
theorem q874 : (Jvm.Cond.static ({ cls := "jdk/internal/util/ArraysSupport", name := "newLength", desc := "(III)I" } : Jvm.MethodName)) ∈ lw_all := lw_g (lw_at lw_m4 14 rfl) rfl
theorem q875 : (Jvm.Cond.code ({ cls := "jdk/internal/util/ArraysSupport", name := "newLength", desc := "(III)I" } : Jvm.MethodName) prog_46_method_27_code (4 : Nat) (Option.some Jvm.ClassFile.FieldType.int)) ∈ lw_all := lw_g (lw_at lw_m4 15 rfl) rfl
theorem q876 : (Jvm.Cond.methodLink "jdk/internal/util/ArraysSupport" (194 : Nat) ({ cls := "java/lang/Math", name := "max", desc := "(II)I" } : Jvm.MethodName)) ∈ lw_all := lw_g (lw_at lw_m4 16 rfl) rfl
theorem q879 : (Jvm.Cond.constant "jdk/internal/util/ArraysSupport" (200 : Nat) (2147483639 : Int32)) ∈ lw_all := lw_g (lw_at lw_m4 19 rfl) rfl
theorem q880 : (Jvm.Cond.methodLink "jdk/internal/util/ArraysSupport" (201 : Nat) ({ cls := "jdk/internal/util/ArraysSupport", name := "hugeLength", desc := "(II)I" } : Jvm.MethodName)) ∈ lw_all := lw_g (lw_at lw_m4 20 rfl) rfl
theorem q881 : (Jvm.Cond.static ({ cls := "jdk/internal/util/ArraysSupport", name := "hugeLength", desc := "(II)I" } : Jvm.MethodName)) ∈ lw_all := lw_g (lw_at lw_m4 21 rfl) rfl
theorem q882 : (Jvm.Cond.code ({ cls := "jdk/internal/util/ArraysSupport", name := "hugeLength", desc := "(II)I" } : Jvm.MethodName) prog_46_method_28_code (3 : Nat) (Option.some Jvm.ClassFile.FieldType.int)) ∈ lw_all := lw_g (lw_at lw_m4 22 rfl) rfl
theorem q163 : (Jvm.Cond.initialized "java/util/Arrays") ∈ lw_all := lw_g (lw_at lw_m1 23 rfl) rfl
theorem q884 : (Jvm.Cond.static ({ cls := "java/util/Arrays", name := "copyOf", desc := "([Ljava/lang/Object;I)[Ljava/lang/Object;" } : Jvm.MethodName)) ∈ lw_all := lw_g (lw_at lw_m4 24 rfl) rfl
theorem q885 : (Jvm.Cond.code ({ cls := "java/util/Arrays", name := "copyOf", desc := "([Ljava/lang/Object;I)[Ljava/lang/Object;" } : Jvm.MethodName) prog_39_method_119_code (2 : Nat) (Option.some (Jvm.ClassFile.FieldType.array (Jvm.ClassFile.FieldType.object "java/lang/Object")))) ∈ lw_all := lw_g (lw_at lw_m4 25 rfl) rfl
theorem q886 : (Jvm.Cond.methodLink "java/util/Arrays" (86 : Nat) ({ cls := "java/lang/Object", name := "getClass", desc := "()Ljava/lang/Class;" } : Jvm.MethodName)) ∈ lw_all := lw_g (lw_at lw_m4 26 rfl) rfl
theorem q908 : (Jvm.Cond.methodLink "java/util/Arrays" (300 : Nat) ({ cls := "java/util/Arrays", name := "copyOf", desc := "([Ljava/lang/Object;ILjava/lang/Class;)[Ljava/lang/Object;" } : Jvm.MethodName)) ∈ lw_all := lw_g (lw_at lw_m4 48 rfl) rfl
theorem q909 : (Jvm.Cond.static ({ cls := "java/util/Arrays", name := "copyOf", desc := "([Ljava/lang/Object;ILjava/lang/Class;)[Ljava/lang/Object;" } : Jvm.MethodName)) ∈ lw_all := lw_g (lw_at lw_m4 49 rfl) rfl
theorem q910 : (Jvm.Cond.code ({ cls := "java/util/Arrays", name := "copyOf", desc := "([Ljava/lang/Object;ILjava/lang/Class;)[Ljava/lang/Object;" } : Jvm.MethodName) prog_39_method_120_code (4 : Nat) (Option.some (Jvm.ClassFile.FieldType.array (Jvm.ClassFile.FieldType.object "java/lang/Object")))) ∈ lw_all := lw_g (lw_at lw_m4 50 rfl) rfl
theorem q911 : (Jvm.Cond.classLink "java/util/Arrays" (110 : Nat) "[Ljava/lang/Object;") ∈ lw_all := lw_g (lw_at lw_m4 51 rfl) rfl
theorem q912 : (Jvm.Cond.classLink "java/util/Arrays" (2 : Nat) "java/lang/Object") ∈ lw_all := lw_g (lw_at lw_m4 52 rfl) rfl
theorem q913 : (Jvm.Cond.methodLink "java/util/Arrays" (304 : Nat) ({ cls := "java/lang/Math", name := "min", desc := "(II)I" } : Jvm.MethodName)) ∈ lw_all := lw_g (lw_at lw_m4 53 rfl) rfl
theorem q914 : (Jvm.Cond.methodLink "java/util/Arrays" (150 : Nat) ({ cls := "java/lang/System", name := "arraycopy", desc := "(Ljava/lang/Object;ILjava/lang/Object;II)V" } : Jvm.MethodName)) ∈ lw_all := lw_g (lw_at lw_m4 54 rfl) rfl
theorem q1054 : (Jvm.Cond.static ({ cls := "java/util/Arrays", name := "fill", desc := "([II)V" } : Jvm.MethodName)) ∈ lw_all := lw_g (lw_at lw_m4 194 rfl) rfl
theorem q1055 : (Jvm.Cond.code ({ cls := "java/util/Arrays", name := "fill", desc := "([II)V" } : Jvm.MethodName) prog_39_method_103_code (4 : Nat) (Option.none : Option Jvm.ClassFile.FieldType)) ∈ lw_all := lw_g (lw_at lw_m4 195 rfl) rfl
theorem q165 : (Jvm.Cond.initialized "java/util/Objects") ∈ lw_all := lw_g (lw_at lw_m1 25 rfl) rfl
theorem q931 : (Jvm.Cond.static ({ cls := "java/util/Objects", name := "checkIndex", desc := "(II)I" } : Jvm.MethodName)) ∈ lw_all := lw_g (lw_at lw_m4 71 rfl) rfl
theorem q932 : (Jvm.Cond.code ({ cls := "java/util/Objects", name := "checkIndex", desc := "(II)I" } : Jvm.MethodName) prog_43_method_17_code (2 : Nat) (Option.some Jvm.ClassFile.FieldType.int)) ∈ lw_all := lw_g (lw_at lw_m4 72 rfl) rfl
theorem q933 : (Jvm.Cond.methodLink "java/util/Objects" (105 : Nat) ({ cls := "jdk/internal/util/Preconditions", name := "checkIndex", desc := "(IILjava/util/function/BiFunction;)I" } : Jvm.MethodName)) ∈ lw_all := lw_g (lw_at lw_m4 73 rfl) rfl
theorem q167 : (Jvm.Cond.initialized "java/lang/Integer") ∈ lw_all := lw_g (lw_at lw_m1 27 rfl) rfl
theorem q1186 : (Jvm.Cond.static ({ cls := "java/lang/Integer", name := "bitCount", desc := "(I)I" } : Jvm.MethodName)) ∈ lw_all := lw_g (lw_at lw_m5 86 rfl) rfl
theorem q1187 : (Jvm.Cond.code ({ cls := "java/lang/Integer", name := "bitCount", desc := "(I)I" } : Jvm.MethodName) prog_22_method_49_code (1 : Nat) (Option.some Jvm.ClassFile.FieldType.int)) ∈ lw_all := lw_g (lw_at lw_m5 87 rfl) rfl
theorem q1188 : (Jvm.Cond.constant "java/lang/Integer" (265 : Nat) (1431655765 : Int32)) ∈ lw_all := lw_g (lw_at lw_m5 88 rfl) rfl
theorem q1189 : (Jvm.Cond.constant "java/lang/Integer" (266 : Nat) (858993459 : Int32)) ∈ lw_all := lw_g (lw_at lw_m5 89 rfl) rfl
theorem q1190 : (Jvm.Cond.constant "java/lang/Integer" (267 : Nat) (252645135 : Int32)) ∈ lw_all := lw_g (lw_at lw_m5 90 rfl) rfl
theorem q169 : (Jvm.Cond.initialized "java/util/ArrayList$Itr") ∈ lw_all := lw_g (lw_at lw_m1 29 rfl) rfl
theorem q416 : (Jvm.Cond.fieldLink "java/util/ArrayList$Itr" (37 : Nat) "java/util/ArrayList" "elementData" "[Ljava/lang/Object;") ∈ lw_all := lw_g (lw_at lw_m2 36 rfl) rfl
theorem q417 : (Jvm.Cond.fieldLinkNest "java/util/ArrayList$Itr" (28 : Nat) "java/util/ArrayList" "size" "I" "java/util/ArrayList") ∈ lw_tbl := lw_at lw_m2 37 rfl
theorem q420 : (Jvm.Cond.fieldLink "java/util/ArrayList$Itr" (17 : Nat) "java/util/ArrayList" "modCount" "I") ∈ lw_all := lw_g (lw_at lw_m2 40 rfl) rfl
theorem q906 : (Jvm.Cond.selects "java/util/ArrayList$Itr" ({ cls := "java/lang/Object", name := "getClass", desc := "()Ljava/lang/Class;" } : Jvm.MethodName) ({ cls := "java/lang/Object", name := "getClass", desc := "()Ljava/lang/Class;" } : Jvm.MethodName)) ∈ lw_all := lw_g (lw_at lw_m4 46 rfl) rfl
theorem q1610 : (Jvm.Cond.instantiable "java/util/ArrayList$Itr" (4 : Nat)) ∈ lw_all := lw_g (lw_at lw_m7 30 rfl) rfl
theorem q1612 : (Jvm.Cond.instanceMethod ({ cls := "java/util/ArrayList$Itr", name := "<init>", desc := "(Ljava/util/ArrayList;)V" } : Jvm.MethodName)) ∈ lw_all := lw_g (lw_at lw_m7 32 rfl) rfl
theorem q1613 : (Jvm.Cond.code ({ cls := "java/util/ArrayList$Itr", name := "<init>", desc := "(Ljava/util/ArrayList;)V" } : Jvm.MethodName) prog_38_method_1_code (2 : Nat) (Option.none : Option Jvm.ClassFile.FieldType)) ∈ lw_all := lw_g (lw_at lw_m7 33 rfl) rfl
theorem q1614 : (Jvm.Cond.methodLink "java/util/ArrayList$Itr" (7 : Nat) ({ cls := "java/lang/Object", name := "<init>", desc := "()V" } : Jvm.MethodName)) ∈ lw_all := lw_g (lw_at lw_m7 34 rfl) rfl
theorem q1615 : (Jvm.Cond.fieldLink "java/util/ArrayList$Itr" (25 : Nat) "java/util/ArrayList$Itr" "cursor" "I") ∈ lw_all := lw_g (lw_at lw_m7 35 rfl) rfl
theorem q1616 : (Jvm.Cond.fieldLink "java/util/ArrayList$Itr" (13 : Nat) "java/util/ArrayList$Itr" "lastRet" "I") ∈ lw_all := lw_g (lw_at lw_m7 36 rfl) rfl
theorem q1617 : (Jvm.Cond.fieldLink "java/util/ArrayList$Itr" (22 : Nat) "java/util/ArrayList$Itr" "expectedModCount" "I") ∈ lw_all := lw_g (lw_at lw_m7 37 rfl) rfl
theorem q1618 : (Jvm.Cond.fieldLink "java/util/ArrayList$Itr" (1 : Nat) "java/util/ArrayList$Itr" "this$0" "Ljava/util/ArrayList;") ∈ lw_all := lw_g (lw_at lw_m7 38 rfl) rfl
theorem q1619 : (Jvm.Cond.lays "java/util/ArrayList$Itr" "java/util/ArrayList$Itr" "cursor" "I") ∈ lw_all := lw_g (lw_at lw_m7 39 rfl) rfl
theorem q1620 : (Jvm.Cond.soleField "java/util/ArrayList$Itr" "cursor") ∈ lw_all := lw_g (lw_at lw_m7 40 rfl) rfl
theorem q1621 : (Jvm.Cond.lays "java/util/ArrayList$Itr" "java/util/ArrayList$Itr" "lastRet" "I") ∈ lw_all := lw_g (lw_at lw_m7 41 rfl) rfl
theorem q1622 : (Jvm.Cond.soleField "java/util/ArrayList$Itr" "lastRet") ∈ lw_all := lw_g (lw_at lw_m7 42 rfl) rfl
theorem q1623 : (Jvm.Cond.lays "java/util/ArrayList$Itr" "java/util/ArrayList$Itr" "expectedModCount" "I") ∈ lw_all := lw_g (lw_at lw_m7 43 rfl) rfl
theorem q1624 : (Jvm.Cond.soleField "java/util/ArrayList$Itr" "expectedModCount") ∈ lw_all := lw_g (lw_at lw_m7 44 rfl) rfl
theorem q1625 : (Jvm.Cond.laysFinal "java/util/ArrayList$Itr" "java/util/ArrayList$Itr" "this$0" "Ljava/util/ArrayList;") ∈ lw_all := lw_g (lw_at lw_m7 45 rfl) rfl
theorem q1626 : (Jvm.Cond.soleField "java/util/ArrayList$Itr" "this$0") ∈ lw_all := lw_g (lw_at lw_m7 46 rfl) rfl
theorem q1627 : (Jvm.Cond.superclass "java/util/ArrayList$Itr" "java/lang/Object") ∈ lw_all := lw_g (lw_at lw_m7 47 rfl) rfl
theorem q1632 : (Jvm.Cond.castable "java/util/ArrayList$Itr" "java/util/Iterator") ∈ lw_tbl := lw_at lw_m7 52 rfl
theorem q1633 : (Jvm.Cond.selects "java/util/ArrayList$Itr" ({ cls := "java/util/Iterator", name := "hasNext", desc := "()Z" } : Jvm.MethodName) ({ cls := "java/util/ArrayList$Itr", name := "hasNext", desc := "()Z" } : Jvm.MethodName)) ∈ lw_all := lw_g (lw_at lw_m7 53 rfl) rfl
theorem q1634 : (Jvm.Cond.unhidden "java/util/ArrayList$Itr" "hasNext" "()Z") ∈ lw_tbl := lw_at lw_m7 54 rfl
theorem q1635 : (Jvm.Cond.instanceMethod ({ cls := "java/util/ArrayList$Itr", name := "hasNext", desc := "()Z" } : Jvm.MethodName)) ∈ lw_all := lw_g (lw_at lw_m7 55 rfl) rfl
theorem q1636 : (Jvm.Cond.publicMethod ({ cls := "java/util/ArrayList$Itr", name := "hasNext", desc := "()Z" } : Jvm.MethodName)) ∈ lw_tbl := lw_at lw_m7 56 rfl
theorem q1637 : (Jvm.Cond.code ({ cls := "java/util/ArrayList$Itr", name := "hasNext", desc := "()Z" } : Jvm.MethodName) prog_38_method_2_code (1 : Nat) (Option.some Jvm.ClassFile.FieldType.boolean)) ∈ lw_all := lw_g (lw_at lw_m7 57 rfl) rfl
theorem q1642 : (Jvm.Cond.selects "java/util/ArrayList$Itr" ({ cls := "java/util/Iterator", name := "next", desc := "()Ljava/lang/Object;" } : Jvm.MethodName) ({ cls := "java/util/ArrayList$Itr", name := "next", desc := "()Ljava/lang/Object;" } : Jvm.MethodName)) ∈ lw_all := lw_g (lw_at lw_m7 62 rfl) rfl
theorem q1643 : (Jvm.Cond.unhidden "java/util/ArrayList$Itr" "next" "()Ljava/lang/Object;") ∈ lw_tbl := lw_at lw_m7 63 rfl
theorem q1644 : (Jvm.Cond.instanceMethod ({ cls := "java/util/ArrayList$Itr", name := "next", desc := "()Ljava/lang/Object;" } : Jvm.MethodName)) ∈ lw_all := lw_g (lw_at lw_m7 64 rfl) rfl
theorem q1645 : (Jvm.Cond.publicMethod ({ cls := "java/util/ArrayList$Itr", name := "next", desc := "()Ljava/lang/Object;" } : Jvm.MethodName)) ∈ lw_tbl := lw_at lw_m7 65 rfl
theorem q1646 : (Jvm.Cond.code ({ cls := "java/util/ArrayList$Itr", name := "next", desc := "()Ljava/lang/Object;" } : Jvm.MethodName) prog_38_method_3_code (3 : Nat) (Option.some (Jvm.ClassFile.FieldType.object "java/lang/Object"))) ∈ lw_all := lw_g (lw_at lw_m7 66 rfl) rfl
theorem q1647 : (Jvm.Cond.methodLink "java/util/ArrayList$Itr" (31 : Nat) ({ cls := "java/util/ArrayList$Itr", name := "checkForComodification", desc := "()V" } : Jvm.MethodName)) ∈ lw_all := lw_g (lw_at lw_m7 67 rfl) rfl
theorem q1648 : (Jvm.Cond.instanceMethod ({ cls := "java/util/ArrayList$Itr", name := "checkForComodification", desc := "()V" } : Jvm.MethodName)) ∈ lw_all := lw_g (lw_at lw_m7 68 rfl) rfl
theorem q1649 : (Jvm.Cond.selects "java/util/ArrayList$Itr" ({ cls := "java/util/ArrayList$Itr", name := "checkForComodification", desc := "()V" } : Jvm.MethodName) ({ cls := "java/util/ArrayList$Itr", name := "checkForComodification", desc := "()V" } : Jvm.MethodName)) ∈ lw_all := lw_g (lw_at lw_m7 69 rfl) rfl
theorem q1650 : (Jvm.Cond.code ({ cls := "java/util/ArrayList$Itr", name := "checkForComodification", desc := "()V" } : Jvm.MethodName) prog_38_method_6_code (1 : Nat) (Option.none : Option Jvm.ClassFile.FieldType)) ∈ lw_all := lw_g (lw_at lw_m7 70 rfl) rfl
theorem q2510 : (Jvm.Cond.castable "java/util/ArrayList$Itr" "java/lang/Object") ∈ lw_tbl := lw_at lw_m10 210 rfl
theorem q170 : (Jvm.Cond.initialized "java/lang/NegativeArraySizeException") ∈ lw_all := lw_g (lw_at lw_m1 30 rfl) rfl
theorem q191 : (Jvm.Cond.instantiable "java/lang/NegativeArraySizeException" (6 : Nat)) ∈ lw_all := lw_g (lw_at lw_m1 51 rfl) rfl
theorem q192 : (Jvm.Cond.instanceMethod ({ cls := "java/lang/NegativeArraySizeException", name := "<init>", desc := "(Ljava/lang/String;)V" } : Jvm.MethodName)) ∈ lw_all := lw_g (lw_at lw_m1 52 rfl) rfl
theorem q193 : (Jvm.Cond.code ({ cls := "java/lang/NegativeArraySizeException", name := "<init>", desc := "(Ljava/lang/String;)V" } : Jvm.MethodName) prog_25_method_2_code (2 : Nat) (Option.none : Option Jvm.ClassFile.FieldType)) ∈ lw_all := lw_g (lw_at lw_m1 53 rfl) rfl
theorem q194 : (Jvm.Cond.methodLink "java/lang/NegativeArraySizeException" (7 : Nat) ({ cls := "java/lang/RuntimeException", name := "<init>", desc := "(Ljava/lang/String;)V" } : Jvm.MethodName)) ∈ lw_all := lw_g (lw_at lw_m1 54 rfl) rfl
theorem q216 : (Jvm.Cond.selects "java/lang/NegativeArraySizeException" ({ cls := "java/lang/Throwable", name := "fillInStackTrace", desc := "()Ljava/lang/Throwable;" } : Jvm.MethodName) ({ cls := "java/lang/Throwable", name := "fillInStackTrace", desc := "()Ljava/lang/Throwable;" } : Jvm.MethodName)) ∈ lw_all := lw_g (lw_at lw_m1 76 rfl) rfl
theorem q242 : (Jvm.Cond.lays "java/lang/NegativeArraySizeException" "java/lang/Throwable" "backtrace" "Ljava/lang/Object;") ∈ lw_all := lw_g (lw_at lw_m1 102 rfl) rfl
theorem q244 : (Jvm.Cond.lays "java/lang/NegativeArraySizeException" "java/lang/Throwable" "detailMessage" "Ljava/lang/String;") ∈ lw_all := lw_g (lw_at lw_m1 104 rfl) rfl
theorem q246 : (Jvm.Cond.lays "java/lang/NegativeArraySizeException" "java/lang/Throwable" "cause" "Ljava/lang/Throwable;") ∈ lw_all := lw_g (lw_at lw_m1 106 rfl) rfl
theorem q248 : (Jvm.Cond.lays "java/lang/NegativeArraySizeException" "java/lang/Throwable" "stackTrace" "[Ljava/lang/StackTraceElement;") ∈ lw_all := lw_g (lw_at lw_m1 108 rfl) rfl
theorem q250 : (Jvm.Cond.lays "java/lang/NegativeArraySizeException" "java/lang/Throwable" "depth" "I") ∈ lw_all := lw_g (lw_at lw_m1 110 rfl) rfl
theorem q252 : (Jvm.Cond.lays "java/lang/NegativeArraySizeException" "java/lang/Throwable" "suppressedExceptions" "Ljava/util/List;") ∈ lw_all := lw_g (lw_at lw_m1 112 rfl) rfl
theorem q254 : (Jvm.Cond.superclass "java/lang/NegativeArraySizeException" "java/lang/RuntimeException") ∈ lw_all := lw_g (lw_at lw_m1 114 rfl) rfl
theorem q255 : (Jvm.Cond.castable "java/lang/NegativeArraySizeException" "java/lang/NegativeArraySizeException") ∈ lw_tbl := lw_at lw_m1 115 rfl
theorem q262 : (Jvm.Cond.selects "java/lang/NegativeArraySizeException" ({ cls := "java/lang/Throwable", name := "fillInStackTrace", desc := "(I)Ljava/lang/Throwable;" } : Jvm.MethodName) ({ cls := "java/lang/Throwable", name := "fillInStackTrace", desc := "(I)Ljava/lang/Throwable;" } : Jvm.MethodName)) ∈ lw_all := lw_g (lw_at lw_m1 122 rfl) rfl
theorem q903 : (Jvm.Cond.selects "java/lang/NegativeArraySizeException" ({ cls := "java/lang/Object", name := "getClass", desc := "()Ljava/lang/Class;" } : Jvm.MethodName) ({ cls := "java/lang/Object", name := "getClass", desc := "()Ljava/lang/Class;" } : Jvm.MethodName)) ∈ lw_all := lw_g (lw_at lw_m4 43 rfl) rfl
theorem q2511 : (Jvm.Cond.castable "java/lang/NegativeArraySizeException" "java/lang/Object") ∈ lw_tbl := lw_at lw_m10 211 rfl
theorem q171 : (Jvm.Cond.initialized "java/lang/NullPointerException") ∈ lw_all := lw_g (lw_at lw_m1 31 rfl) rfl
theorem q217 : (Jvm.Cond.selects "java/lang/NullPointerException" ({ cls := "java/lang/Throwable", name := "fillInStackTrace", desc := "()Ljava/lang/Throwable;" } : Jvm.MethodName) ({ cls := "java/lang/NullPointerException", name := "fillInStackTrace", desc := "()Ljava/lang/Throwable;" } : Jvm.MethodName)) ∈ lw_all := lw_g (lw_at lw_m1 77 rfl) rfl
theorem q218 : (Jvm.Cond.instanceMethod ({ cls := "java/lang/NullPointerException", name := "fillInStackTrace", desc := "()Ljava/lang/Throwable;" } : Jvm.MethodName)) ∈ lw_all := lw_g (lw_at lw_m1 78 rfl) rfl
theorem q219 : (Jvm.Cond.codeSync ({ cls := "java/lang/NullPointerException", name := "fillInStackTrace", desc := "()Ljava/lang/Throwable;" } : Jvm.MethodName) prog_26_method_3_code (1 : Nat) (Option.some (Jvm.ClassFile.FieldType.object "java/lang/Throwable"))) ∈ lw_all := lw_g (lw_at lw_m1 79 rfl) rfl
theorem q220 : (Jvm.Cond.methodLink "java/lang/NullPointerException" (16 : Nat) ({ cls := "java/lang/NullPointerException", name := "getExtendedNPEMessage", desc := "()Ljava/lang/String;" } : Jvm.MethodName)) ∈ lw_all := lw_g (lw_at lw_m1 80 rfl) rfl
theorem q221 : (Jvm.Cond.privateMethod ({ cls := "java/lang/NullPointerException", name := "getExtendedNPEMessage", desc := "()Ljava/lang/String;" } : Jvm.MethodName)) ∈ lw_tbl := lw_at lw_m1 81 rfl
theorem q222 : (Jvm.Cond.instanceMethod ({ cls := "java/lang/NullPointerException", name := "getExtendedNPEMessage", desc := "()Ljava/lang/String;" } : Jvm.MethodName)) ∈ lw_all := lw_g (lw_at lw_m1 82 rfl) rfl
theorem q223 : (Jvm.Cond.instantiable "java/lang/NullPointerException" (8 : Nat)) ∈ lw_all := lw_g (lw_at lw_m1 83 rfl) rfl
theorem q224 : (Jvm.Cond.native ({ cls := "java/lang/NullPointerException", name := "getExtendedNPEMessage", desc := "()Ljava/lang/String;" } : Jvm.MethodName)) ∈ lw_all := lw_g (lw_at lw_m1 84 rfl) rfl
theorem q225 : (Jvm.Cond.methodLink "java/lang/NullPointerException" (24 : Nat) ({ cls := "java/lang/RuntimeException", name := "fillInStackTrace", desc := "()Ljava/lang/Throwable;" } : Jvm.MethodName)) ∈ lw_all := lw_g (lw_at lw_m1 85 rfl) rfl
theorem q228 : (Jvm.Cond.superclass "java/lang/NullPointerException" "java/lang/RuntimeException") ∈ lw_all := lw_g (lw_at lw_m1 88 rfl) rfl
theorem q290 : (Jvm.Cond.instanceMethod ({ cls := "java/lang/NullPointerException", name := "<init>", desc := "()V" } : Jvm.MethodName)) ∈ lw_all := lw_g (lw_at lw_m1 150 rfl) rfl
theorem q291 : (Jvm.Cond.code ({ cls := "java/lang/NullPointerException", name := "<init>", desc := "()V" } : Jvm.MethodName) prog_26_method_1_code (1 : Nat) (Option.none : Option Jvm.ClassFile.FieldType)) ∈ lw_all := lw_g (lw_at lw_m1 151 rfl) rfl
theorem q292 : (Jvm.Cond.methodLink "java/lang/NullPointerException" (1 : Nat) ({ cls := "java/lang/RuntimeException", name := "<init>", desc := "()V" } : Jvm.MethodName)) ∈ lw_all := lw_g (lw_at lw_m1 152 rfl) rfl
theorem q299 : (Jvm.Cond.fieldLink "java/lang/NullPointerException" (10 : Nat) "java/lang/NullPointerException" "extendedMessageState" "I") ∈ lw_all := lw_g (lw_at lw_m1 159 rfl) rfl
theorem q300 : (Jvm.Cond.fieldLink "java/lang/NullPointerException" (20 : Nat) "java/lang/NullPointerException" "extendedMessage" "Ljava/lang/String;") ∈ lw_all := lw_g (lw_at lw_m1 160 rfl) rfl
theorem q301 : (Jvm.Cond.lays "java/lang/NullPointerException" "java/lang/NullPointerException" "extendedMessageState" "I") ∈ lw_all := lw_g (lw_at lw_m1 161 rfl) rfl
theorem q302 : (Jvm.Cond.soleField "java/lang/NullPointerException" "extendedMessageState") ∈ lw_all := lw_g (lw_at lw_m1 162 rfl) rfl
theorem q303 : (Jvm.Cond.lays "java/lang/NullPointerException" "java/lang/NullPointerException" "extendedMessage" "Ljava/lang/String;") ∈ lw_all := lw_g (lw_at lw_m1 163 rfl) rfl
theorem q304 : (Jvm.Cond.soleField "java/lang/NullPointerException" "extendedMessage") ∈ lw_all := lw_g (lw_at lw_m1 164 rfl) rfl
theorem q305 : (Jvm.Cond.lays "java/lang/NullPointerException" "java/lang/Throwable" "backtrace" "Ljava/lang/Object;") ∈ lw_all := lw_g (lw_at lw_m1 165 rfl) rfl
theorem q306 : (Jvm.Cond.lays "java/lang/NullPointerException" "java/lang/Throwable" "detailMessage" "Ljava/lang/String;") ∈ lw_all := lw_g (lw_at lw_m1 166 rfl) rfl
theorem q307 : (Jvm.Cond.lays "java/lang/NullPointerException" "java/lang/Throwable" "cause" "Ljava/lang/Throwable;") ∈ lw_all := lw_g (lw_at lw_m1 167 rfl) rfl
theorem q308 : (Jvm.Cond.lays "java/lang/NullPointerException" "java/lang/Throwable" "stackTrace" "[Ljava/lang/StackTraceElement;") ∈ lw_all := lw_g (lw_at lw_m1 168 rfl) rfl
theorem q309 : (Jvm.Cond.lays "java/lang/NullPointerException" "java/lang/Throwable" "depth" "I") ∈ lw_all := lw_g (lw_at lw_m1 169 rfl) rfl
theorem q310 : (Jvm.Cond.lays "java/lang/NullPointerException" "java/lang/Throwable" "suppressedExceptions" "Ljava/util/List;") ∈ lw_all := lw_g (lw_at lw_m1 170 rfl) rfl
theorem q311 : (Jvm.Cond.castable "java/lang/NullPointerException" "java/lang/NullPointerException") ∈ lw_tbl := lw_at lw_m1 171 rfl
theorem q312 : (Jvm.Cond.selects "java/lang/NullPointerException" ({ cls := "java/lang/Throwable", name := "fillInStackTrace", desc := "(I)Ljava/lang/Throwable;" } : Jvm.MethodName) ({ cls := "java/lang/Throwable", name := "fillInStackTrace", desc := "(I)Ljava/lang/Throwable;" } : Jvm.MethodName)) ∈ lw_all := lw_g (lw_at lw_m1 172 rfl) rfl
theorem q904 : (Jvm.Cond.selects "java/lang/NullPointerException" ({ cls := "java/lang/Object", name := "getClass", desc := "()Ljava/lang/Class;" } : Jvm.MethodName) ({ cls := "java/lang/Object", name := "getClass", desc := "()Ljava/lang/Class;" } : Jvm.MethodName)) ∈ lw_all := lw_g (lw_at lw_m4 44 rfl) rfl
theorem q2512 : (Jvm.Cond.castable "java/lang/NullPointerException" "java/lang/Object") ∈ lw_tbl := lw_at lw_m10 212 rfl
theorem q172 : (Jvm.Cond.initialized "java/lang/IndexOutOfBoundsException") ∈ lw_all := lw_g (lw_at lw_m1 32 rfl) rfl
theorem q319 : (Jvm.Cond.instanceMethod ({ cls := "java/lang/IndexOutOfBoundsException", name := "<init>", desc := "(Ljava/lang/String;)V" } : Jvm.MethodName)) ∈ lw_all := lw_g (lw_at lw_m1 179 rfl) rfl
theorem q320 : (Jvm.Cond.code ({ cls := "java/lang/IndexOutOfBoundsException", name := "<init>", desc := "(Ljava/lang/String;)V" } : Jvm.MethodName) prog_21_method_2_code (2 : Nat) (Option.none : Option Jvm.ClassFile.FieldType)) ∈ lw_all := lw_g (lw_at lw_m1 180 rfl) rfl
theorem q321 : (Jvm.Cond.methodLink "java/lang/IndexOutOfBoundsException" (7 : Nat) ({ cls := "java/lang/RuntimeException", name := "<init>", desc := "(Ljava/lang/String;)V" } : Jvm.MethodName)) ∈ lw_all := lw_g (lw_at lw_m1 181 rfl) rfl
theorem q330 : (Jvm.Cond.declares ({ cls := "java/lang/IndexOutOfBoundsException", name := "<init>", desc := "()V" } : Jvm.MethodName)) ∈ lw_tbl := lw_at lw_m1 190 rfl
theorem q331 : (Jvm.Cond.declares ({ cls := "java/lang/IndexOutOfBoundsException", name := "<init>", desc := "(Ljava/lang/String;)V" } : Jvm.MethodName)) ∈ lw_tbl := lw_at lw_m1 191 rfl
theorem q173 : (Jvm.Cond.initialized "java/lang/ArrayIndexOutOfBoundsException") ∈ lw_all := lw_g (lw_at lw_m1 33 rfl) rfl
theorem q214 : (Jvm.Cond.selects "java/lang/ArrayIndexOutOfBoundsException" ({ cls := "java/lang/Throwable", name := "fillInStackTrace", desc := "()Ljava/lang/Throwable;" } : Jvm.MethodName) ({ cls := "java/lang/Throwable", name := "fillInStackTrace", desc := "()Ljava/lang/Throwable;" } : Jvm.MethodName)) ∈ lw_all := lw_g (lw_at lw_m1 74 rfl) rfl
theorem q315 : (Jvm.Cond.instantiable "java/lang/ArrayIndexOutOfBoundsException" (6 : Nat)) ∈ lw_all := lw_g (lw_at lw_m1 175 rfl) rfl
theorem q316 : (Jvm.Cond.instanceMethod ({ cls := "java/lang/ArrayIndexOutOfBoundsException", name := "<init>", desc := "(Ljava/lang/String;)V" } : Jvm.MethodName)) ∈ lw_all := lw_g (lw_at lw_m1 176 rfl) rfl
theorem q317 : (Jvm.Cond.code ({ cls := "java/lang/ArrayIndexOutOfBoundsException", name := "<init>", desc := "(Ljava/lang/String;)V" } : Jvm.MethodName) prog_15_method_2_code (2 : Nat) (Option.none : Option Jvm.ClassFile.FieldType)) ∈ lw_all := lw_g (lw_at lw_m1 177 rfl) rfl
theorem q318 : (Jvm.Cond.methodLink "java/lang/ArrayIndexOutOfBoundsException" (7 : Nat) ({ cls := "java/lang/IndexOutOfBoundsException", name := "<init>", desc := "(Ljava/lang/String;)V" } : Jvm.MethodName)) ∈ lw_all := lw_g (lw_at lw_m1 178 rfl) rfl
theorem q322 : (Jvm.Cond.lays "java/lang/ArrayIndexOutOfBoundsException" "java/lang/Throwable" "backtrace" "Ljava/lang/Object;") ∈ lw_all := lw_g (lw_at lw_m1 182 rfl) rfl
theorem q323 : (Jvm.Cond.lays "java/lang/ArrayIndexOutOfBoundsException" "java/lang/Throwable" "detailMessage" "Ljava/lang/String;") ∈ lw_all := lw_g (lw_at lw_m1 183 rfl) rfl
theorem q324 : (Jvm.Cond.lays "java/lang/ArrayIndexOutOfBoundsException" "java/lang/Throwable" "cause" "Ljava/lang/Throwable;") ∈ lw_all := lw_g (lw_at lw_m1 184 rfl) rfl
theorem q325 : (Jvm.Cond.lays "java/lang/ArrayIndexOutOfBoundsException" "java/lang/Throwable" "stackTrace" "[Ljava/lang/StackTraceElement;") ∈ lw_all := lw_g (lw_at lw_m1 185 rfl) rfl
theorem q326 : (Jvm.Cond.lays "java/lang/ArrayIndexOutOfBoundsException" "java/lang/Throwable" "depth" "I") ∈ lw_all := lw_g (lw_at lw_m1 186 rfl) rfl
theorem q327 : (Jvm.Cond.lays "java/lang/ArrayIndexOutOfBoundsException" "java/lang/Throwable" "suppressedExceptions" "Ljava/util/List;") ∈ lw_all := lw_g (lw_at lw_m1 187 rfl) rfl
theorem q328 : (Jvm.Cond.superclass "java/lang/ArrayIndexOutOfBoundsException" "java/lang/IndexOutOfBoundsException") ∈ lw_all := lw_g (lw_at lw_m1 188 rfl) rfl
theorem q329 : (Jvm.Cond.castable "java/lang/ArrayIndexOutOfBoundsException" "java/lang/ArrayIndexOutOfBoundsException") ∈ lw_tbl := lw_at lw_m1 189 rfl
theorem q332 : (Jvm.Cond.selects "java/lang/ArrayIndexOutOfBoundsException" ({ cls := "java/lang/Throwable", name := "fillInStackTrace", desc := "(I)Ljava/lang/Throwable;" } : Jvm.MethodName) ({ cls := "java/lang/Throwable", name := "fillInStackTrace", desc := "(I)Ljava/lang/Throwable;" } : Jvm.MethodName)) ∈ lw_all := lw_g (lw_at lw_m1 192 rfl) rfl
theorem q901 : (Jvm.Cond.selects "java/lang/ArrayIndexOutOfBoundsException" ({ cls := "java/lang/Object", name := "getClass", desc := "()Ljava/lang/Class;" } : Jvm.MethodName) ({ cls := "java/lang/Object", name := "getClass", desc := "()Ljava/lang/Class;" } : Jvm.MethodName)) ∈ lw_all := lw_g (lw_at lw_m4 41 rfl) rfl
theorem q2496 : (Jvm.Cond.castable "java/lang/ArrayIndexOutOfBoundsException" "java/lang/IndexOutOfBoundsException") ∈ lw_tbl := lw_at lw_m10 196 rfl
theorem q2513 : (Jvm.Cond.castable "java/lang/ArrayIndexOutOfBoundsException" "java/lang/Object") ∈ lw_tbl := lw_at lw_m10 213 rfl
theorem q174 : (Jvm.Cond.initialized "java/lang/ClassCastException") ∈ lw_all := lw_g (lw_at lw_m1 34 rfl) rfl
theorem q215 : (Jvm.Cond.selects "java/lang/ClassCastException" ({ cls := "java/lang/Throwable", name := "fillInStackTrace", desc := "()Ljava/lang/Throwable;" } : Jvm.MethodName) ({ cls := "java/lang/Throwable", name := "fillInStackTrace", desc := "()Ljava/lang/Throwable;" } : Jvm.MethodName)) ∈ lw_all := lw_g (lw_at lw_m1 75 rfl) rfl
theorem q345 : (Jvm.Cond.instantiable "java/lang/ClassCastException" (6 : Nat)) ∈ lw_all := lw_g (lw_at lw_m1 205 rfl) rfl
theorem q346 : (Jvm.Cond.instanceMethod ({ cls := "java/lang/ClassCastException", name := "<init>", desc := "(Ljava/lang/String;)V" } : Jvm.MethodName)) ∈ lw_all := lw_g (lw_at lw_m1 206 rfl) rfl
theorem q347 : (Jvm.Cond.code ({ cls := "java/lang/ClassCastException", name := "<init>", desc := "(Ljava/lang/String;)V" } : Jvm.MethodName) prog_17_method_2_code (2 : Nat) (Option.none : Option Jvm.ClassFile.FieldType)) ∈ lw_all := lw_g (lw_at lw_m1 207 rfl) rfl
theorem q348 : (Jvm.Cond.methodLink "java/lang/ClassCastException" (7 : Nat) ({ cls := "java/lang/RuntimeException", name := "<init>", desc := "(Ljava/lang/String;)V" } : Jvm.MethodName)) ∈ lw_all := lw_g (lw_at lw_m1 208 rfl) rfl
theorem q349 : (Jvm.Cond.lays "java/lang/ClassCastException" "java/lang/Throwable" "backtrace" "Ljava/lang/Object;") ∈ lw_all := lw_g (lw_at lw_m1 209 rfl) rfl
theorem q350 : (Jvm.Cond.lays "java/lang/ClassCastException" "java/lang/Throwable" "detailMessage" "Ljava/lang/String;") ∈ lw_all := lw_g (lw_at lw_m1 210 rfl) rfl
theorem q351 : (Jvm.Cond.lays "java/lang/ClassCastException" "java/lang/Throwable" "cause" "Ljava/lang/Throwable;") ∈ lw_all := lw_g (lw_at lw_m1 211 rfl) rfl
theorem q352 : (Jvm.Cond.lays "java/lang/ClassCastException" "java/lang/Throwable" "stackTrace" "[Ljava/lang/StackTraceElement;") ∈ lw_all := lw_g (lw_at lw_m1 212 rfl) rfl
theorem q353 : (Jvm.Cond.lays "java/lang/ClassCastException" "java/lang/Throwable" "depth" "I") ∈ lw_all := lw_g (lw_at lw_m1 213 rfl) rfl
theorem q354 : (Jvm.Cond.lays "java/lang/ClassCastException" "java/lang/Throwable" "suppressedExceptions" "Ljava/util/List;") ∈ lw_all := lw_g (lw_at lw_m1 214 rfl) rfl
theorem q355 : (Jvm.Cond.superclass "java/lang/ClassCastException" "java/lang/RuntimeException") ∈ lw_all := lw_g (lw_at lw_m1 215 rfl) rfl
theorem q356 : (Jvm.Cond.castable "java/lang/ClassCastException" "java/lang/ClassCastException") ∈ lw_tbl := lw_at lw_m1 216 rfl
theorem q357 : (Jvm.Cond.selects "java/lang/ClassCastException" ({ cls := "java/lang/Throwable", name := "fillInStackTrace", desc := "(I)Ljava/lang/Throwable;" } : Jvm.MethodName) ({ cls := "java/lang/Throwable", name := "fillInStackTrace", desc := "(I)Ljava/lang/Throwable;" } : Jvm.MethodName)) ∈ lw_all := lw_g (lw_at lw_m1 217 rfl) rfl
theorem q902 : (Jvm.Cond.selects "java/lang/ClassCastException" ({ cls := "java/lang/Object", name := "getClass", desc := "()Ljava/lang/Class;" } : Jvm.MethodName) ({ cls := "java/lang/Object", name := "getClass", desc := "()Ljava/lang/Class;" } : Jvm.MethodName)) ∈ lw_all := lw_g (lw_at lw_m4 42 rfl) rfl
theorem q2514 : (Jvm.Cond.castable "java/lang/ClassCastException" "java/lang/Object") ∈ lw_tbl := lw_at lw_m10 214 rfl
theorem q204 : (Jvm.Cond.instanceMethod ({ cls := "java/lang/Object", name := "<init>", desc := "()V" } : Jvm.MethodName)) ∈ lw_all := lw_g (lw_at lw_m1 64 rfl) rfl
theorem q205 : (Jvm.Cond.code ({ cls := "java/lang/Object", name := "<init>", desc := "()V" } : Jvm.MethodName) object_method_1_code (1 : Nat) (Option.none : Option Jvm.ClassFile.FieldType)) ∈ lw_all := lw_g (lw_at lw_m1 65 rfl) rfl
theorem q887 : (Jvm.Cond.instanceMethod ({ cls := "java/lang/Object", name := "getClass", desc := "()Ljava/lang/Class;" } : Jvm.MethodName)) ∈ lw_all := lw_g (lw_at lw_m4 27 rfl) rfl
theorem q888 : (Jvm.Cond.sameMethod "java/lang/Object" "java/lang/Object" "getClass" "()Ljava/lang/Class;") ∈ lw_all := lw_g (lw_at lw_m4 28 rfl) rfl
theorem q907 : (Jvm.Cond.native ({ cls := "java/lang/Object", name := "getClass", desc := "()Ljava/lang/Class;" } : Jvm.MethodName)) ∈ lw_all := lw_g (lw_at lw_m4 47 rfl) rfl
theorem q2495 : (Jvm.Cond.initialized "java/lang/Object") ∈ lw_all := lw_g (lw_at lw_m10 195 rfl) rfl
theorem q2519 : (Jvm.Cond.declares ({ cls := "java/lang/Object", name := "getClass", desc := "()Ljava/lang/Class;" } : Jvm.MethodName)) ∈ lw_tbl := lw_at lw_m10 219 rfl
theorem q141 : (Jvm.Cond.initialized "ObligingPosts") ∈ lw_all := lw_g (lw_at lw_m1 1 rfl) rfl
theorem q176 : (Jvm.Cond.instanceMethod ({ cls := "ObligingPosts", name := "row", desc := "(III)I" } : Jvm.MethodName)) ∈ lw_all := lw_g (lw_at lw_m1 36 rfl) rfl
theorem q177 : (Jvm.Cond.selects "ObligingPosts" ({ cls := "ObligingPosts", name := "row", desc := "(III)I" } : Jvm.MethodName) ({ cls := "ObligingPosts", name := "row", desc := "(III)I" } : Jvm.MethodName)) ∈ lw_all := lw_g (lw_at lw_m1 37 rfl) rfl
theorem q178 : (Jvm.Cond.code ({ cls := "ObligingPosts", name := "row", desc := "(III)I" } : Jvm.MethodName) prog_1_method_5_code (4 : Nat) (Option.some Jvm.ClassFile.FieldType.int)) ∈ lw_all := lw_g (lw_at lw_m1 38 rfl) rfl
theorem q179 : (Jvm.Cond.methodLink "ObligingPosts" (15 : Nat) ({ cls := "ObligingPosts", name := "isSlot", desc := "(I)Z" } : Jvm.MethodName)) ∈ lw_all := lw_g (lw_at lw_m1 39 rfl) rfl
theorem q180 : (Jvm.Cond.static ({ cls := "ObligingPosts", name := "isSlot", desc := "(I)Z" } : Jvm.MethodName)) ∈ lw_all := lw_g (lw_at lw_m1 40 rfl) rfl
theorem q181 : (Jvm.Cond.code ({ cls := "ObligingPosts", name := "isSlot", desc := "(I)Z" } : Jvm.MethodName) prog_1_method_4_code (1 : Nat) (Option.some Jvm.ClassFile.FieldType.boolean)) ∈ lw_all := lw_g (lw_at lw_m1 41 rfl) rfl
theorem q182 : (Jvm.Cond.constantLong "ObligingPosts" (9 : Nat) (3 : Int64)) ∈ lw_all := lw_g (lw_at lw_m1 42 rfl) rfl
theorem q183 : (Jvm.Cond.methodLink "ObligingPosts" (11 : Nat) ({ cls := "ObligingPosts", name := "in", desc := "(JJJ)Z" } : Jvm.MethodName)) ∈ lw_all := lw_g (lw_at lw_m1 43 rfl) rfl
theorem q184 : (Jvm.Cond.static ({ cls := "ObligingPosts", name := "in", desc := "(JJJ)Z" } : Jvm.MethodName)) ∈ lw_all := lw_g (lw_at lw_m1 44 rfl) rfl
theorem q185 : (Jvm.Cond.code ({ cls := "ObligingPosts", name := "in", desc := "(JJJ)Z" } : Jvm.MethodName) prog_1_method_1_code (6 : Nat) (Option.some Jvm.ClassFile.FieldType.boolean)) ∈ lw_all := lw_g (lw_at lw_m1 45 rfl) rfl
theorem q186 : (Jvm.Cond.methodLink "ObligingPosts" (23 : Nat) ({ cls := "ObligingPosts$Slot", name := "begins", desc := "(II)Z" } : Jvm.MethodName)) ∈ lw_all := lw_g (lw_at lw_m1 46 rfl) rfl
theorem q282 : (Jvm.Cond.instanceMethod ({ cls := "ObligingPosts", name := "write", desc := "(IIJ)I" } : Jvm.MethodName)) ∈ lw_all := lw_g (lw_at lw_m1 142 rfl) rfl
theorem q283 : (Jvm.Cond.selects "ObligingPosts" ({ cls := "ObligingPosts", name := "write", desc := "(IIJ)I" } : Jvm.MethodName) ({ cls := "ObligingPosts", name := "write", desc := "(IIJ)I" } : Jvm.MethodName)) ∈ lw_all := lw_g (lw_at lw_m1 143 rfl) rfl
theorem q284 : (Jvm.Cond.code ({ cls := "ObligingPosts", name := "write", desc := "(IIJ)I" } : Jvm.MethodName) prog_1_method_6_code (5 : Nat) (Option.some Jvm.ClassFile.FieldType.int)) ∈ lw_all := lw_g (lw_at lw_m1 144 rfl) rfl
theorem q285 : (Jvm.Cond.methodLink "ObligingPosts" (29 : Nat) ({ cls := "ObligingPosts$Slot", name := "puts", desc := "(IJ)I" } : Jvm.MethodName)) ∈ lw_all := lw_g (lw_at lw_m1 145 rfl) rfl
theorem q361 : (Jvm.Cond.instanceMethod ({ cls := "ObligingPosts", name := "paste", desc := "(IIIII)I" } : Jvm.MethodName)) ∈ lw_all := lw_g (lw_at lw_m1 221 rfl) rfl
theorem q362 : (Jvm.Cond.selects "ObligingPosts" ({ cls := "ObligingPosts", name := "paste", desc := "(IIIII)I" } : Jvm.MethodName) ({ cls := "ObligingPosts", name := "paste", desc := "(IIIII)I" } : Jvm.MethodName)) ∈ lw_all := lw_g (lw_at lw_m1 222 rfl) rfl
theorem q363 : (Jvm.Cond.code ({ cls := "ObligingPosts", name := "paste", desc := "(IIIII)I" } : Jvm.MethodName) prog_1_method_7_code (6 : Nat) (Option.some Jvm.ClassFile.FieldType.int)) ∈ lw_all := lw_g (lw_at lw_m1 223 rfl) rfl
theorem q364 : (Jvm.Cond.methodLink "ObligingPosts" (33 : Nat) ({ cls := "ObligingPosts$Slot", name := "pastes", desc := "(ILObligingPosts$Slot;II)I" } : Jvm.MethodName)) ∈ lw_all := lw_g (lw_at lw_m1 224 rfl) rfl
theorem q377 : (Jvm.Cond.instantiable "ObligingPosts" (10 : Nat)) ∈ lw_all := lw_g (lw_at lw_m1 237 rfl) rfl
theorem q379 : (Jvm.Cond.instanceMethod ({ cls := "ObligingPosts", name := "<init>", desc := "()V" } : Jvm.MethodName)) ∈ lw_all := lw_g (lw_at lw_m1 239 rfl) rfl
theorem q380 : (Jvm.Cond.code ({ cls := "ObligingPosts", name := "<init>", desc := "()V" } : Jvm.MethodName) prog_1_method_8_code (1 : Nat) (Option.none : Option Jvm.ClassFile.FieldType)) ∈ lw_all := lw_g (lw_at lw_m2 0 rfl) rfl
theorem q381 : (Jvm.Cond.methodLink "ObligingPosts" (37 : Nat) ({ cls := "java/lang/Object", name := "<init>", desc := "()V" } : Jvm.MethodName)) ∈ lw_all := lw_g (lw_at lw_m2 1 rfl) rfl
theorem q382 : (Jvm.Cond.classLink "ObligingPosts" (24 : Nat) "ObligingPosts$Slot") ∈ lw_all := lw_g (lw_at lw_m2 2 rfl) rfl
theorem q384 : (Jvm.Cond.methodLinkNest "ObligingPosts" (43 : Nat) ({ cls := "ObligingPosts$Slot", name := "<init>", desc := "()V" } : Jvm.MethodName) "ObligingPosts") ∈ lw_tbl := lw_at lw_m2 4 rfl
theorem q389 : (Jvm.Cond.fieldLinkNest "ObligingPosts" (305 : Nat) "ObligingPosts$Slot" "held" "Ljava/lang/Object;" "ObligingPosts") ∈ lw_tbl := lw_at lw_m2 9 rfl
theorem q393 : (Jvm.Cond.classLink "ObligingPosts" (44 : Nat) "ObligingPosts$Heath") ∈ lw_all := lw_g (lw_at lw_m2 13 rfl) rfl
theorem q395 : (Jvm.Cond.methodLinkNest "ObligingPosts" (46 : Nat) ({ cls := "ObligingPosts$Heath", name := "<init>", desc := "()V" } : Jvm.MethodName) "ObligingPosts") ∈ lw_tbl := lw_at lw_m2 15 rfl
theorem q438 : (Jvm.Cond.fieldLinkNest "ObligingPosts" (159 : Nat) "ObligingPosts$Heath" "room" "[I" "ObligingPosts") ∈ lw_tbl := lw_at lw_m2 58 rfl
theorem q441 : (Jvm.Cond.fieldLinkNest "ObligingPosts" (116 : Nat) "ObligingPosts$Heath" "posts" "Ljava/util/List;" "ObligingPosts") ∈ lw_tbl := lw_at lw_m2 61 rfl
theorem q444 : (Jvm.Cond.fieldLinkNest "ObligingPosts" (126 : Nat) "ObligingPosts$Heath" "walkers" "Ljava/util/List;" "ObligingPosts") ∈ lw_tbl := lw_at lw_m2 64 rfl
theorem q447 : (Jvm.Cond.fieldLinkNest "ObligingPosts" (416 : Nat) "ObligingPosts$Heath" "acts" "Ljava/util/List;" "ObligingPosts") ∈ lw_tbl := lw_at lw_m2 67 rfl
theorem q452 : (Jvm.Cond.fieldLinkNest "ObligingPosts" (151 : Nat) "ObligingPosts$Heath" "hours" "I" "ObligingPosts") ∈ lw_tbl := lw_at lw_m2 72 rfl
theorem q456 : (Jvm.Cond.fieldLinkNest "ObligingPosts" (441 : Nat) "ObligingPosts$Heath" "law" "I" "ObligingPosts") ∈ lw_tbl := lw_at lw_m2 76 rfl
theorem q459 : (Jvm.Cond.fieldLinkNest "ObligingPosts" (387 : Nat) "ObligingPosts$Heath" "odds" "I" "ObligingPosts") ∈ lw_tbl := lw_at lw_m2 79 rfl
theorem q462 : (Jvm.Cond.fieldLinkNest "ObligingPosts" (137 : Nat) "ObligingPosts$Heath" "inns" "I" "ObligingPosts") ∈ lw_tbl := lw_at lw_m2 82 rfl
theorem q465 : (Jvm.Cond.fieldLinkNest "ObligingPosts" (442 : Nat) "ObligingPosts$Heath" "roads" "I" "ObligingPosts") ∈ lw_tbl := lw_at lw_m2 85 rfl
theorem q468 : (Jvm.Cond.fieldLinkNest "ObligingPosts" (445 : Nat) "ObligingPosts$Heath" "arms" "I" "ObligingPosts") ∈ lw_tbl := lw_at lw_m2 88 rfl
theorem q470 : (Jvm.Cond.fieldLinkNest "ObligingPosts" (105 : Nat) "ObligingPosts$Heath" "lines" "I" "ObligingPosts") ∈ lw_tbl := lw_at lw_m2 90 rfl
theorem q496 : (Jvm.Cond.classLink "ObligingPosts" (63 : Nat) "ObligingPosts$Hours") ∈ lw_all := lw_g (lw_at lw_m2 116 rfl) rfl
theorem q498 : (Jvm.Cond.methodLinkNest "ObligingPosts" (65 : Nat) ({ cls := "ObligingPosts$Hours", name := "<init>", desc := "(LObligingPosts;)V" } : Jvm.MethodName) "ObligingPosts") ∈ lw_tbl := lw_at lw_m2 118 rfl
theorem q504 : (Jvm.Cond.fieldLinkNest "ObligingPosts" (286 : Nat) "ObligingPosts$Hours" "arm" "[I" "ObligingPosts") ∈ lw_tbl := lw_at lw_m2 124 rfl
theorem q508 : (Jvm.Cond.fieldLinkNest "ObligingPosts" (210 : Nat) "ObligingPosts$Hours" "arms" "[I" "ObligingPosts") ∈ lw_tbl := lw_at lw_m2 128 rfl
theorem q510 : (Jvm.Cond.fieldLinkNest "ObligingPosts" (225 : Nat) "ObligingPosts$Hours" "used" "[I" "ObligingPosts") ∈ lw_tbl := lw_at lw_m2 130 rfl
theorem q512 : (Jvm.Cond.fieldLinkNest "ObligingPosts" (222 : Nat) "ObligingPosts$Hours" "sent" "[I" "ObligingPosts") ∈ lw_tbl := lw_at lw_m2 132 rfl
theorem q514 : (Jvm.Cond.fieldLinkNest "ObligingPosts" (231 : Nat) "ObligingPosts$Hours" "walks" "[I" "ObligingPosts") ∈ lw_tbl := lw_at lw_m2 134 rfl
theorem q516 : (Jvm.Cond.fieldLinkNest "ObligingPosts" (369 : Nat) "ObligingPosts$Hours" "comes" "[I" "ObligingPosts") ∈ lw_tbl := lw_at lw_m2 136 rfl
theorem q519 : (Jvm.Cond.fieldLinkNest "ObligingPosts" (245 : Nat) "ObligingPosts$Hours" "refused" "[I" "ObligingPosts") ∈ lw_tbl := lw_at lw_m2 139 rfl
theorem q521 : (Jvm.Cond.fieldLinkNest "ObligingPosts" (335 : Nat) "ObligingPosts$Hours" "law" "I" "ObligingPosts") ∈ lw_tbl := lw_at lw_m2 141 rfl
theorem q523 : (Jvm.Cond.fieldLinkNest "ObligingPosts" (384 : Nat) "ObligingPosts$Hours" "fog" "I" "ObligingPosts") ∈ lw_tbl := lw_at lw_m2 143 rfl
theorem q525 : (Jvm.Cond.fieldLinkNest "ObligingPosts" (348 : Nat) "ObligingPosts$Hours" "stiff" "I" "ObligingPosts") ∈ lw_tbl := lw_at lw_m2 145 rfl
theorem q527 : (Jvm.Cond.fieldLinkNest "ObligingPosts" (302 : Nat) "ObligingPosts$Hours" "without" "I" "ObligingPosts") ∈ lw_tbl := lw_at lw_m2 147 rfl
theorem q558 : (Jvm.Cond.classLink "ObligingPosts" (72 : Nat) "ObligingPosts$Alone") ∈ lw_all := lw_g (lw_at lw_m2 178 rfl) rfl
theorem q560 : (Jvm.Cond.methodLinkNest "ObligingPosts" (74 : Nat) ({ cls := "ObligingPosts$Alone", name := "<init>", desc := "(LObligingPosts;)V" } : Jvm.MethodName) "ObligingPosts") ∈ lw_tbl := lw_at lw_m2 180 rfl
theorem q565 : (Jvm.Cond.fieldLinkNest "ObligingPosts" (277 : Nat) "ObligingPosts$Alone" "place" "I" "ObligingPosts") ∈ lw_tbl := lw_at lw_m2 185 rfl
theorem q567 : (Jvm.Cond.fieldLinkNest "ObligingPosts" (278 : Nat) "ObligingPosts$Alone" "steps" "I" "ObligingPosts") ∈ lw_tbl := lw_at lw_m2 187 rfl
theorem q576 : (Jvm.Cond.classLink "ObligingPosts" (79 : Nat) "ObligingPosts$Stood") ∈ lw_all := lw_g (lw_at lw_m2 196 rfl) rfl
theorem q578 : (Jvm.Cond.methodLinkNest "ObligingPosts" (81 : Nat) ({ cls := "ObligingPosts$Stood", name := "<init>", desc := "(LObligingPosts;)V" } : Jvm.MethodName) "ObligingPosts") ∈ lw_tbl := lw_at lw_m2 198 rfl
theorem q584 : (Jvm.Cond.fieldLinkNest "ObligingPosts" (326 : Nat) "ObligingPosts$Stood" "bits" "I" "ObligingPosts") ∈ lw_tbl := lw_at lw_m2 204 rfl
theorem q586 : (Jvm.Cond.fieldLinkNest "ObligingPosts" (329 : Nat) "ObligingPosts$Stood" "best" "I" "ObligingPosts") ∈ lw_tbl := lw_at lw_m2 206 rfl
theorem q588 : (Jvm.Cond.fieldLinkNest "ObligingPosts" (332 : Nat) "ObligingPosts$Stood" "leaves" "I" "ObligingPosts") ∈ lw_tbl := lw_at lw_m2 208 rfl
theorem q601 : (Jvm.Cond.fieldLink "ObligingPosts" (19 : Nat) "ObligingPosts" "slots" "[LObligingPosts$Slot;") ∈ lw_all := lw_g (lw_at lw_m2 221 rfl) rfl
theorem q604 : (Jvm.Cond.fieldLink "ObligingPosts" (47 : Nat) "ObligingPosts" "now" "LObligingPosts$Heath;") ∈ lw_all := lw_g (lw_at lw_m2 224 rfl) rfl
theorem q605 : (Jvm.Cond.fieldLink "ObligingPosts" (51 : Nat) "ObligingPosts" "images" "[LObligingPosts$Heath;") ∈ lw_all := lw_g (lw_at lw_m2 225 rfl) rfl
theorem q606 : (Jvm.Cond.fieldLink "ObligingPosts" (55 : Nat) "ObligingPosts" "tape" "[B") ∈ lw_all := lw_g (lw_at lw_m2 226 rfl) rfl
theorem q607 : (Jvm.Cond.fieldLink "ObligingPosts" (86 : Nat) "ObligingPosts" "taped" "I") ∈ lw_all := lw_g (lw_at lw_m2 227 rfl) rfl
theorem q608 : (Jvm.Cond.fieldLink "ObligingPosts" (102 : Nat) "ObligingPosts" "faultKind" "I") ∈ lw_all := lw_g (lw_at lw_m2 228 rfl) rfl
theorem q609 : (Jvm.Cond.fieldLink "ObligingPosts" (59 : Nat) "ObligingPosts" "faultPlace" "I") ∈ lw_all := lw_g (lw_at lw_m2 229 rfl) rfl
theorem q612 : (Jvm.Cond.fieldLink "ObligingPosts" (68 : Nat) "ObligingPosts" "hours" "LObligingPosts$Hours;") ∈ lw_all := lw_g (lw_at lw_m2 232 rfl) rfl
theorem q613 : (Jvm.Cond.fieldLink "ObligingPosts" (75 : Nat) "ObligingPosts" "one" "LObligingPosts$Alone;") ∈ lw_all := lw_g (lw_at lw_m2 233 rfl) rfl
theorem q614 : (Jvm.Cond.fieldLink "ObligingPosts" (82 : Nat) "ObligingPosts" "stood" "LObligingPosts$Stood;") ∈ lw_all := lw_g (lw_at lw_m2 234 rfl) rfl
theorem q615 : (Jvm.Cond.laysFinal "ObligingPosts" "ObligingPosts" "slots" "[LObligingPosts$Slot;") ∈ lw_all := lw_g (lw_at lw_m2 235 rfl) rfl
theorem q616 : (Jvm.Cond.soleField "ObligingPosts" "slots") ∈ lw_all := lw_g (lw_at lw_m2 236 rfl) rfl
theorem q617 : (Jvm.Cond.lays "ObligingPosts" "ObligingPosts" "now" "LObligingPosts$Heath;") ∈ lw_all := lw_g (lw_at lw_m2 237 rfl) rfl
theorem q618 : (Jvm.Cond.soleField "ObligingPosts" "now") ∈ lw_all := lw_g (lw_at lw_m2 238 rfl) rfl
theorem q619 : (Jvm.Cond.laysFinal "ObligingPosts" "ObligingPosts" "images" "[LObligingPosts$Heath;") ∈ lw_all := lw_g (lw_at lw_m2 239 rfl) rfl
theorem q620 : (Jvm.Cond.soleField "ObligingPosts" "images") ∈ lw_all := lw_g (lw_at lw_m3 0 rfl) rfl
theorem q621 : (Jvm.Cond.laysFinal "ObligingPosts" "ObligingPosts" "tape" "[B") ∈ lw_all := lw_g (lw_at lw_m3 1 rfl) rfl
theorem q622 : (Jvm.Cond.soleField "ObligingPosts" "tape") ∈ lw_all := lw_g (lw_at lw_m3 2 rfl) rfl
theorem q623 : (Jvm.Cond.lays "ObligingPosts" "ObligingPosts" "taped" "I") ∈ lw_all := lw_g (lw_at lw_m3 3 rfl) rfl
theorem q624 : (Jvm.Cond.soleField "ObligingPosts" "taped") ∈ lw_all := lw_g (lw_at lw_m3 4 rfl) rfl
theorem q625 : (Jvm.Cond.lays "ObligingPosts" "ObligingPosts" "faultKind" "I") ∈ lw_all := lw_g (lw_at lw_m3 5 rfl) rfl
theorem q626 : (Jvm.Cond.soleField "ObligingPosts" "faultKind") ∈ lw_all := lw_g (lw_at lw_m3 6 rfl) rfl
theorem q627 : (Jvm.Cond.lays "ObligingPosts" "ObligingPosts" "faultPlace" "I") ∈ lw_all := lw_g (lw_at lw_m3 7 rfl) rfl
theorem q628 : (Jvm.Cond.soleField "ObligingPosts" "faultPlace") ∈ lw_all := lw_g (lw_at lw_m3 8 rfl) rfl
theorem q629 : (Jvm.Cond.laysFinal "ObligingPosts" "ObligingPosts" "hours" "LObligingPosts$Hours;") ∈ lw_all := lw_g (lw_at lw_m3 9 rfl) rfl
theorem q630 : (Jvm.Cond.soleField "ObligingPosts" "hours") ∈ lw_all := lw_g (lw_at lw_m3 10 rfl) rfl
theorem q631 : (Jvm.Cond.laysFinal "ObligingPosts" "ObligingPosts" "one" "LObligingPosts$Alone;") ∈ lw_all := lw_g (lw_at lw_m3 11 rfl) rfl
theorem q632 : (Jvm.Cond.soleField "ObligingPosts" "one") ∈ lw_all := lw_g (lw_at lw_m3 12 rfl) rfl
theorem q633 : (Jvm.Cond.laysFinal "ObligingPosts" "ObligingPosts" "stood" "LObligingPosts$Stood;") ∈ lw_all := lw_g (lw_at lw_m3 13 rfl) rfl
theorem q634 : (Jvm.Cond.soleField "ObligingPosts" "stood") ∈ lw_all := lw_g (lw_at lw_m3 14 rfl) rfl
theorem q635 : (Jvm.Cond.superclass "ObligingPosts" "java/lang/Object") ∈ lw_all := lw_g (lw_at lw_m3 15 rfl) rfl
theorem q637 : (Jvm.Cond.instanceMethod ({ cls := "ObligingPosts", name := "feed", desc := "(IIIII)I" } : Jvm.MethodName)) ∈ lw_all := lw_g (lw_at lw_m3 17 rfl) rfl
theorem q638 : (Jvm.Cond.selects "ObligingPosts" ({ cls := "ObligingPosts", name := "feed", desc := "(IIIII)I" } : Jvm.MethodName) ({ cls := "ObligingPosts", name := "feed", desc := "(IIIII)I" } : Jvm.MethodName)) ∈ lw_all := lw_g (lw_at lw_m3 18 rfl) rfl
theorem q639 : (Jvm.Cond.code ({ cls := "ObligingPosts", name := "feed", desc := "(IIIII)I" } : Jvm.MethodName) prog_1_method_9_code (8 : Nat) (Option.some Jvm.ClassFile.FieldType.int)) ∈ lw_all := lw_g (lw_at lw_m3 19 rfl) rfl
theorem q641 : (Jvm.Cond.instanceMethod ({ cls := "ObligingPosts", name := "end", desc := "(I)I" } : Jvm.MethodName)) ∈ lw_all := lw_g (lw_at lw_m3 21 rfl) rfl
theorem q642 : (Jvm.Cond.selects "ObligingPosts" ({ cls := "ObligingPosts", name := "end", desc := "(I)I" } : Jvm.MethodName) ({ cls := "ObligingPosts", name := "end", desc := "(I)I" } : Jvm.MethodName)) ∈ lw_all := lw_g (lw_at lw_m3 22 rfl) rfl
theorem q643 : (Jvm.Cond.code ({ cls := "ObligingPosts", name := "end", desc := "(I)I" } : Jvm.MethodName) prog_1_method_10_code (2 : Nat) (Option.some Jvm.ClassFile.FieldType.int)) ∈ lw_all := lw_g (lw_at lw_m3 23 rfl) rfl
theorem q645 : (Jvm.Cond.instanceMethod ({ cls := "ObligingPosts", name := "heath", desc := "()I" } : Jvm.MethodName)) ∈ lw_all := lw_g (lw_at lw_m3 25 rfl) rfl
theorem q646 : (Jvm.Cond.selects "ObligingPosts" ({ cls := "ObligingPosts", name := "heath", desc := "()I" } : Jvm.MethodName) ({ cls := "ObligingPosts", name := "heath", desc := "()I" } : Jvm.MethodName)) ∈ lw_all := lw_g (lw_at lw_m3 26 rfl) rfl
theorem q647 : (Jvm.Cond.codeWith ({ cls := "ObligingPosts", name := "heath", desc := "()I" } : Jvm.MethodName) prog_1_method_11_code (4 : Nat) (Option.some Jvm.ClassFile.FieldType.int) [((0 : Nat), (59 : Nat), (66 : Nat), (108 : Nat)), ((0 : Nat), (59 : Nat), (93 : Nat), (0 : Nat)), ((66 : Nat), (86 : Nat), (93 : Nat), (0 : Nat))]) ∈ lw_all := lw_g (lw_at lw_m3 27 rfl) rfl
theorem q648 : (Jvm.Cond.classLink "ObligingPosts" (108 : Nat) "ObligingPosts$Fault") ∈ lw_all := lw_g (lw_at lw_m3 28 rfl) rfl
theorem q649 : (Jvm.Cond.classLink "ObligingPosts" (89 : Nat) "ObligingPosts$Reader") ∈ lw_all := lw_g (lw_at lw_m3 29 rfl) rfl
theorem q651 : (Jvm.Cond.methodLink "ObligingPosts" (91 : Nat) ({ cls := "ObligingPosts$Reader", name := "<init>", desc := "([BI)V" } : Jvm.MethodName)) ∈ lw_all := lw_g (lw_at lw_m3 31 rfl) rfl
theorem q692 : (Jvm.Cond.methodLink "ObligingPosts" (94 : Nat) ({ cls := "ObligingPosts$Reader", name := "reads", desc := "()LObligingPosts$Heath;" } : Jvm.MethodName)) ∈ lw_all := lw_g (lw_at lw_m3 72 rfl) rfl
theorem q783 : (Jvm.Cond.fieldLinkNest "ObligingPosts" (110 : Nat) "ObligingPosts$Fault" "kind" "I" "ObligingPosts") ∈ lw_tbl := lw_at lw_m3 163 rfl
theorem q785 : (Jvm.Cond.fieldLinkNest "ObligingPosts" (113 : Nat) "ObligingPosts$Fault" "place" "I" "ObligingPosts") ∈ lw_tbl := lw_at lw_m3 165 rfl
theorem q834 : (Jvm.Cond.fieldLinkNest "ObligingPosts" (172 : Nat) "ObligingPosts$Post" "to" "[I" "ObligingPosts") ∈ lw_tbl := lw_at lw_m3 214 rfl
theorem q840 : (Jvm.Cond.fieldLinkNest "ObligingPosts" (170 : Nat) "ObligingPosts$Post" "many" "I" "ObligingPosts") ∈ lw_tbl := lw_at lw_m3 220 rfl
theorem q844 : (Jvm.Cond.fieldLinkNest "ObligingPosts" (175 : Nat) "ObligingPosts$Post" "arm" "I" "ObligingPosts") ∈ lw_tbl := lw_at lw_m3 224 rfl
theorem q889 : (Jvm.Cond.selects "ObligingPosts" ({ cls := "java/lang/Object", name := "getClass", desc := "()Ljava/lang/Class;" } : Jvm.MethodName) ({ cls := "java/lang/Object", name := "getClass", desc := "()Ljava/lang/Class;" } : Jvm.MethodName)) ∈ lw_all := lw_g (lw_at lw_m4 29 rfl) rfl
theorem q955 : (Jvm.Cond.fieldLinkNest "ObligingPosts" (185 : Nat) "ObligingPosts$Walker" "post" "I" "ObligingPosts") ∈ lw_tbl := lw_at lw_m4 95 rfl
theorem q958 : (Jvm.Cond.fieldLinkNest "ObligingPosts" (188 : Nat) "ObligingPosts$Walker" "hour" "I" "ObligingPosts") ∈ lw_tbl := lw_at lw_m4 98 rfl
theorem q964 : (Jvm.Cond.methodLink "ObligingPosts" (98 : Nat) ({ cls := "ObligingPosts$Heath", name := "is", desc := "()Z" } : Jvm.MethodName)) ∈ lw_all := lw_g (lw_at lw_m4 104 rfl) rfl
theorem q969 : (Jvm.Cond.instanceMethod ({ cls := "ObligingPosts", name := "fault", desc := "(I)I" } : Jvm.MethodName)) ∈ lw_all := lw_g (lw_at lw_m4 109 rfl) rfl
theorem q970 : (Jvm.Cond.selects "ObligingPosts" ({ cls := "ObligingPosts", name := "fault", desc := "(I)I" } : Jvm.MethodName) ({ cls := "ObligingPosts", name := "fault", desc := "(I)I" } : Jvm.MethodName)) ∈ lw_all := lw_g (lw_at lw_m4 110 rfl) rfl
theorem q971 : (Jvm.Cond.code ({ cls := "ObligingPosts", name := "fault", desc := "(I)I" } : Jvm.MethodName) prog_1_method_12_code (2 : Nat) (Option.some Jvm.ClassFile.FieldType.int)) ∈ lw_all := lw_g (lw_at lw_m4 111 rfl) rfl
theorem q973 : (Jvm.Cond.instanceMethod ({ cls := "ObligingPosts", name := "room", desc := "(I)I" } : Jvm.MethodName)) ∈ lw_all := lw_g (lw_at lw_m4 113 rfl) rfl
theorem q974 : (Jvm.Cond.selects "ObligingPosts" ({ cls := "ObligingPosts", name := "room", desc := "(I)I" } : Jvm.MethodName) ({ cls := "ObligingPosts", name := "room", desc := "(I)I" } : Jvm.MethodName)) ∈ lw_all := lw_g (lw_at lw_m4 114 rfl) rfl
theorem q975 : (Jvm.Cond.code ({ cls := "ObligingPosts", name := "room", desc := "(I)I" } : Jvm.MethodName) prog_1_method_27_code (2 : Nat) (Option.some Jvm.ClassFile.FieldType.int)) ∈ lw_all := lw_g (lw_at lw_m4 115 rfl) rfl
theorem q976 : (Jvm.Cond.methodLink "ObligingPosts" (156 : Nat) ({ cls := "ObligingPosts", name := "isInn", desc := "(I)Z" } : Jvm.MethodName)) ∈ lw_all := lw_g (lw_at lw_m4 116 rfl) rfl
theorem q977 : (Jvm.Cond.privateMethod ({ cls := "ObligingPosts", name := "isInn", desc := "(I)Z" } : Jvm.MethodName)) ∈ lw_tbl := lw_at lw_m4 117 rfl
theorem q978 : (Jvm.Cond.instanceMethod ({ cls := "ObligingPosts", name := "isInn", desc := "(I)Z" } : Jvm.MethodName)) ∈ lw_all := lw_g (lw_at lw_m4 118 rfl) rfl
theorem q979 : (Jvm.Cond.code ({ cls := "ObligingPosts", name := "isInn", desc := "(I)Z" } : Jvm.MethodName) prog_1_method_17_code (2 : Nat) (Option.some Jvm.ClassFile.FieldType.boolean)) ∈ lw_all := lw_g (lw_at lw_m4 119 rfl) rfl
theorem q981 : (Jvm.Cond.instanceMethod ({ cls := "ObligingPosts", name := "roads", desc := "(I)I" } : Jvm.MethodName)) ∈ lw_all := lw_g (lw_at lw_m4 121 rfl) rfl
theorem q982 : (Jvm.Cond.selects "ObligingPosts" ({ cls := "ObligingPosts", name := "roads", desc := "(I)I" } : Jvm.MethodName) ({ cls := "ObligingPosts", name := "roads", desc := "(I)I" } : Jvm.MethodName)) ∈ lw_all := lw_g (lw_at lw_m4 122 rfl) rfl
theorem q983 : (Jvm.Cond.code ({ cls := "ObligingPosts", name := "roads", desc := "(I)I" } : Jvm.MethodName) prog_1_method_28_code (2 : Nat) (Option.some Jvm.ClassFile.FieldType.int)) ∈ lw_all := lw_g (lw_at lw_m4 123 rfl) rfl
theorem q984 : (Jvm.Cond.methodLink "ObligingPosts" (163 : Nat) ({ cls := "ObligingPosts", name := "isPost", desc := "(I)Z" } : Jvm.MethodName)) ∈ lw_all := lw_g (lw_at lw_m4 124 rfl) rfl
theorem q985 : (Jvm.Cond.privateMethod ({ cls := "ObligingPosts", name := "isPost", desc := "(I)Z" } : Jvm.MethodName)) ∈ lw_tbl := lw_at lw_m4 125 rfl
theorem q986 : (Jvm.Cond.instanceMethod ({ cls := "ObligingPosts", name := "isPost", desc := "(I)Z" } : Jvm.MethodName)) ∈ lw_all := lw_g (lw_at lw_m4 126 rfl) rfl
theorem q987 : (Jvm.Cond.code ({ cls := "ObligingPosts", name := "isPost", desc := "(I)Z" } : Jvm.MethodName) prog_1_method_18_code (2 : Nat) (Option.some Jvm.ClassFile.FieldType.boolean)) ∈ lw_all := lw_g (lw_at lw_m4 127 rfl) rfl
theorem q988 : (Jvm.Cond.methodLink "ObligingPosts" (140 : Nat) ({ cls := "ObligingPosts", name := "posts", desc := "()I" } : Jvm.MethodName)) ∈ lw_all := lw_g (lw_at lw_m4 128 rfl) rfl
theorem q989 : (Jvm.Cond.privateMethod ({ cls := "ObligingPosts", name := "posts", desc := "()I" } : Jvm.MethodName)) ∈ lw_tbl := lw_at lw_m4 129 rfl
theorem q990 : (Jvm.Cond.instanceMethod ({ cls := "ObligingPosts", name := "posts", desc := "()I" } : Jvm.MethodName)) ∈ lw_all := lw_g (lw_at lw_m4 130 rfl) rfl
theorem q991 : (Jvm.Cond.code ({ cls := "ObligingPosts", name := "posts", desc := "()I" } : Jvm.MethodName) prog_1_method_13_code (1 : Nat) (Option.some Jvm.ClassFile.FieldType.int)) ∈ lw_all := lw_g (lw_at lw_m4 131 rfl) rfl
theorem q992 : (Jvm.Cond.interfaceEntry "ObligingPosts" (120 : Nat)) ∈ lw_tbl := lw_at lw_m4 132 rfl
theorem q993 : (Jvm.Cond.methodLink "ObligingPosts" (120 : Nat) ({ cls := "java/util/List", name := "size", desc := "()I" } : Jvm.MethodName)) ∈ lw_all := lw_g (lw_at lw_m4 133 rfl) rfl
theorem q994 : (Jvm.Cond.methodLink "ObligingPosts" (166 : Nat) ({ cls := "ObligingPosts", name := "postOf", desc := "(I)LObligingPosts$Post;" } : Jvm.MethodName)) ∈ lw_all := lw_g (lw_at lw_m4 134 rfl) rfl
theorem q995 : (Jvm.Cond.privateMethod ({ cls := "ObligingPosts", name := "postOf", desc := "(I)LObligingPosts$Post;" } : Jvm.MethodName)) ∈ lw_tbl := lw_at lw_m4 135 rfl
theorem q996 : (Jvm.Cond.instanceMethod ({ cls := "ObligingPosts", name := "postOf", desc := "(I)LObligingPosts$Post;" } : Jvm.MethodName)) ∈ lw_all := lw_g (lw_at lw_m4 136 rfl) rfl
theorem q997 : (Jvm.Cond.code ({ cls := "ObligingPosts", name := "postOf", desc := "(I)LObligingPosts$Post;" } : Jvm.MethodName) prog_1_method_15_code (2 : Nat) (Option.some (Jvm.ClassFile.FieldType.object "ObligingPosts$Post"))) ∈ lw_all := lw_g (lw_at lw_m4 137 rfl) rfl
theorem q998 : (Jvm.Cond.interfaceEntry "ObligingPosts" (129 : Nat)) ∈ lw_tbl := lw_at lw_m4 138 rfl
theorem q999 : (Jvm.Cond.methodLink "ObligingPosts" (129 : Nat) ({ cls := "java/util/List", name := "get", desc := "(I)Ljava/lang/Object;" } : Jvm.MethodName)) ∈ lw_all := lw_g (lw_at lw_m4 139 rfl) rfl
theorem q1000 : (Jvm.Cond.classLink "ObligingPosts" (133 : Nat) "ObligingPosts$Post") ∈ lw_all := lw_g (lw_at lw_m4 140 rfl) rfl
theorem q1002 : (Jvm.Cond.instanceMethod ({ cls := "ObligingPosts", name := "goes", desc := "(II)I" } : Jvm.MethodName)) ∈ lw_all := lw_g (lw_at lw_m4 142 rfl) rfl
theorem q1003 : (Jvm.Cond.selects "ObligingPosts" ({ cls := "ObligingPosts", name := "goes", desc := "(II)I" } : Jvm.MethodName) ({ cls := "ObligingPosts", name := "goes", desc := "(II)I" } : Jvm.MethodName)) ∈ lw_all := lw_g (lw_at lw_m4 143 rfl) rfl
theorem q1004 : (Jvm.Cond.code ({ cls := "ObligingPosts", name := "goes", desc := "(II)I" } : Jvm.MethodName) prog_1_method_29_code (3 : Nat) (Option.some Jvm.ClassFile.FieldType.int)) ∈ lw_all := lw_g (lw_at lw_m4 144 rfl) rfl
theorem q1006 : (Jvm.Cond.instanceMethod ({ cls := "ObligingPosts", name := "told", desc := "(I)I" } : Jvm.MethodName)) ∈ lw_all := lw_g (lw_at lw_m4 146 rfl) rfl
theorem q1007 : (Jvm.Cond.selects "ObligingPosts" ({ cls := "ObligingPosts", name := "told", desc := "(I)I" } : Jvm.MethodName) ({ cls := "ObligingPosts", name := "told", desc := "(I)I" } : Jvm.MethodName)) ∈ lw_all := lw_g (lw_at lw_m4 147 rfl) rfl
theorem q1008 : (Jvm.Cond.code ({ cls := "ObligingPosts", name := "told", desc := "(I)I" } : Jvm.MethodName) prog_1_method_30_code (2 : Nat) (Option.some Jvm.ClassFile.FieldType.int)) ∈ lw_all := lw_g (lw_at lw_m4 148 rfl) rfl
theorem q1010 : (Jvm.Cond.instanceMethod ({ cls := "ObligingPosts", name := "walker", desc := "(II)I" } : Jvm.MethodName)) ∈ lw_all := lw_g (lw_at lw_m4 150 rfl) rfl
theorem q1011 : (Jvm.Cond.selects "ObligingPosts" ({ cls := "ObligingPosts", name := "walker", desc := "(II)I" } : Jvm.MethodName) ({ cls := "ObligingPosts", name := "walker", desc := "(II)I" } : Jvm.MethodName)) ∈ lw_all := lw_g (lw_at lw_m4 151 rfl) rfl
theorem q1012 : (Jvm.Cond.code ({ cls := "ObligingPosts", name := "walker", desc := "(II)I" } : Jvm.MethodName) prog_1_method_31_code (3 : Nat) (Option.some Jvm.ClassFile.FieldType.int)) ∈ lw_all := lw_g (lw_at lw_m4 152 rfl) rfl
theorem q1013 : (Jvm.Cond.methodLink "ObligingPosts" (147 : Nat) ({ cls := "ObligingPosts", name := "isWalker", desc := "(J)Z" } : Jvm.MethodName)) ∈ lw_all := lw_g (lw_at lw_m4 153 rfl) rfl
theorem q1014 : (Jvm.Cond.privateMethod ({ cls := "ObligingPosts", name := "isWalker", desc := "(J)Z" } : Jvm.MethodName)) ∈ lw_tbl := lw_at lw_m4 154 rfl
theorem q1015 : (Jvm.Cond.instanceMethod ({ cls := "ObligingPosts", name := "isWalker", desc := "(J)Z" } : Jvm.MethodName)) ∈ lw_all := lw_g (lw_at lw_m4 155 rfl) rfl
theorem q1016 : (Jvm.Cond.code ({ cls := "ObligingPosts", name := "isWalker", desc := "(J)Z" } : Jvm.MethodName) prog_1_method_20_code (3 : Nat) (Option.some Jvm.ClassFile.FieldType.boolean)) ∈ lw_all := lw_g (lw_at lw_m4 156 rfl) rfl
theorem q1017 : (Jvm.Cond.methodLink "ObligingPosts" (144 : Nat) ({ cls := "ObligingPosts", name := "many", desc := "()I" } : Jvm.MethodName)) ∈ lw_all := lw_g (lw_at lw_m4 157 rfl) rfl
theorem q1018 : (Jvm.Cond.privateMethod ({ cls := "ObligingPosts", name := "many", desc := "()I" } : Jvm.MethodName)) ∈ lw_tbl := lw_at lw_m4 158 rfl
theorem q1019 : (Jvm.Cond.instanceMethod ({ cls := "ObligingPosts", name := "many", desc := "()I" } : Jvm.MethodName)) ∈ lw_all := lw_g (lw_at lw_m4 159 rfl) rfl
theorem q1020 : (Jvm.Cond.code ({ cls := "ObligingPosts", name := "many", desc := "()I" } : Jvm.MethodName) prog_1_method_14_code (1 : Nat) (Option.some Jvm.ClassFile.FieldType.int)) ∈ lw_all := lw_g (lw_at lw_m4 160 rfl) rfl
theorem q1021 : (Jvm.Cond.methodLink "ObligingPosts" (178 : Nat) ({ cls := "ObligingPosts", name := "isBit", desc := "(I)Z" } : Jvm.MethodName)) ∈ lw_all := lw_g (lw_at lw_m4 161 rfl) rfl
theorem q1022 : (Jvm.Cond.static ({ cls := "ObligingPosts", name := "isBit", desc := "(I)Z" } : Jvm.MethodName)) ∈ lw_all := lw_g (lw_at lw_m4 162 rfl) rfl
theorem q1023 : (Jvm.Cond.code ({ cls := "ObligingPosts", name := "isBit", desc := "(I)Z" } : Jvm.MethodName) prog_1_method_26_code (1 : Nat) (Option.some Jvm.ClassFile.FieldType.boolean)) ∈ lw_all := lw_g (lw_at lw_m4 163 rfl) rfl
theorem q1024 : (Jvm.Cond.methodLink "ObligingPosts" (181 : Nat) ({ cls := "ObligingPosts", name := "walkerOf", desc := "(I)LObligingPosts$Walker;" } : Jvm.MethodName)) ∈ lw_all := lw_g (lw_at lw_m4 164 rfl) rfl
theorem q1025 : (Jvm.Cond.privateMethod ({ cls := "ObligingPosts", name := "walkerOf", desc := "(I)LObligingPosts$Walker;" } : Jvm.MethodName)) ∈ lw_tbl := lw_at lw_m4 165 rfl
theorem q1026 : (Jvm.Cond.instanceMethod ({ cls := "ObligingPosts", name := "walkerOf", desc := "(I)LObligingPosts$Walker;" } : Jvm.MethodName)) ∈ lw_all := lw_g (lw_at lw_m4 166 rfl) rfl
theorem q1027 : (Jvm.Cond.code ({ cls := "ObligingPosts", name := "walkerOf", desc := "(I)LObligingPosts$Walker;" } : Jvm.MethodName) prog_1_method_16_code (2 : Nat) (Option.some (Jvm.ClassFile.FieldType.object "ObligingPosts$Walker"))) ∈ lw_all := lw_g (lw_at lw_m4 167 rfl) rfl
theorem q1028 : (Jvm.Cond.classLink "ObligingPosts" (135 : Nat) "ObligingPosts$Walker") ∈ lw_all := lw_g (lw_at lw_m4 168 rfl) rfl
theorem q1030 : (Jvm.Cond.instanceMethod ({ cls := "ObligingPosts", name := "armless", desc := "()I" } : Jvm.MethodName)) ∈ lw_all := lw_g (lw_at lw_m4 170 rfl) rfl
theorem q1031 : (Jvm.Cond.selects "ObligingPosts" ({ cls := "ObligingPosts", name := "armless", desc := "()I" } : Jvm.MethodName) ({ cls := "ObligingPosts", name := "armless", desc := "()I" } : Jvm.MethodName)) ∈ lw_all := lw_g (lw_at lw_m4 171 rfl) rfl
theorem q1032 : (Jvm.Cond.code ({ cls := "ObligingPosts", name := "armless", desc := "()I" } : Jvm.MethodName) prog_1_method_33_code (3 : Nat) (Option.some Jvm.ClassFile.FieldType.int)) ∈ lw_all := lw_g (lw_at lw_m4 172 rfl) rfl
theorem q1034 : (Jvm.Cond.instanceMethod ({ cls := "ObligingPosts", name := "lingers", desc := "(I)I" } : Jvm.MethodName)) ∈ lw_all := lw_g (lw_at lw_m4 174 rfl) rfl
theorem q1035 : (Jvm.Cond.selects "ObligingPosts" ({ cls := "ObligingPosts", name := "lingers", desc := "(I)I" } : Jvm.MethodName) ({ cls := "ObligingPosts", name := "lingers", desc := "(I)I" } : Jvm.MethodName)) ∈ lw_all := lw_g (lw_at lw_m4 175 rfl) rfl
theorem q1036 : (Jvm.Cond.code ({ cls := "ObligingPosts", name := "lingers", desc := "(I)I" } : Jvm.MethodName) prog_1_method_34_code (4 : Nat) (Option.some Jvm.ClassFile.FieldType.int)) ∈ lw_all := lw_g (lw_at lw_m4 176 rfl) rfl
theorem q1037 : (Jvm.Cond.methodLink "ObligingPosts" (197 : Nat) ({ cls := "ObligingPosts", name := "is", desc := "()LObligingPosts$Hours;" } : Jvm.MethodName)) ∈ lw_all := lw_g (lw_at lw_m4 177 rfl) rfl
theorem q1038 : (Jvm.Cond.privateMethod ({ cls := "ObligingPosts", name := "is", desc := "()LObligingPosts$Hours;" } : Jvm.MethodName)) ∈ lw_tbl := lw_at lw_m4 178 rfl
theorem q1039 : (Jvm.Cond.instanceMethod ({ cls := "ObligingPosts", name := "is", desc := "()LObligingPosts$Hours;" } : Jvm.MethodName)) ∈ lw_all := lw_g (lw_at lw_m4 179 rfl) rfl
theorem q1040 : (Jvm.Cond.code ({ cls := "ObligingPosts", name := "is", desc := "()LObligingPosts$Hours;" } : Jvm.MethodName) prog_1_method_32_code (1 : Nat) (Option.some (Jvm.ClassFile.FieldType.object "ObligingPosts$Hours"))) ∈ lw_all := lw_g (lw_at lw_m4 180 rfl) rfl
theorem q1041 : (Jvm.Cond.methodLink "ObligingPosts" (191 : Nat) ({ cls := "ObligingPosts$Hours", name := "is", desc := "()LObligingPosts$Hours;" } : Jvm.MethodName)) ∈ lw_all := lw_g (lw_at lw_m4 181 rfl) rfl
theorem q1049 : (Jvm.Cond.methodLink "ObligingPosts" (194 : Nat) ({ cls := "ObligingPosts$Hours", name := "goes", desc := "()LObligingPosts$Hours;" } : Jvm.MethodName)) ∈ lw_all := lw_g (lw_at lw_m4 189 rfl) rfl
theorem q1072 : (Jvm.Cond.static ({ cls := "ObligingPosts", name := "isOn", desc := "(II)Z" } : Jvm.MethodName)) ∈ lw_all := lw_g (lw_at lw_m4 212 rfl) rfl
theorem q1073 : (Jvm.Cond.code ({ cls := "ObligingPosts", name := "isOn", desc := "(II)Z" } : Jvm.MethodName) prog_1_method_2_code (2 : Nat) (Option.some Jvm.ClassFile.FieldType.boolean)) ∈ lw_all := lw_g (lw_at lw_m4 213 rfl) rfl
theorem q1086 : (Jvm.Cond.methodLink "ObligingPosts" (198 : Nat) ({ cls := "ObligingPosts$Hours", name := "at", desc := "(II)I" } : Jvm.MethodName)) ∈ lw_all := lw_g (lw_at lw_m4 226 rfl) rfl
theorem q1090 : (Jvm.Cond.constantLong "ObligingPosts" (202 : Nat) (9 : Int64)) ∈ lw_all := lw_g (lw_at lw_m4 230 rfl) rfl
theorem q1092 : (Jvm.Cond.instanceMethod ({ cls := "ObligingPosts", name := "doors", desc := "(I)I" } : Jvm.MethodName)) ∈ lw_all := lw_g (lw_at lw_m4 232 rfl) rfl
theorem q1093 : (Jvm.Cond.selects "ObligingPosts" ({ cls := "ObligingPosts", name := "doors", desc := "(I)I" } : Jvm.MethodName) ({ cls := "ObligingPosts", name := "doors", desc := "(I)I" } : Jvm.MethodName)) ∈ lw_all := lw_g (lw_at lw_m4 233 rfl) rfl
theorem q1094 : (Jvm.Cond.code ({ cls := "ObligingPosts", name := "doors", desc := "(I)I" } : Jvm.MethodName) prog_1_method_35_code (2 : Nat) (Option.some Jvm.ClassFile.FieldType.int)) ∈ lw_all := lw_g (lw_at lw_m4 234 rfl) rfl
theorem q1095 : (Jvm.Cond.methodLink "ObligingPosts" (204 : Nat) ({ cls := "ObligingPosts", name := "roadsFrom", desc := "(I)I" } : Jvm.MethodName)) ∈ lw_all := lw_g (lw_at lw_m4 235 rfl) rfl
theorem q1096 : (Jvm.Cond.privateMethod ({ cls := "ObligingPosts", name := "roadsFrom", desc := "(I)I" } : Jvm.MethodName)) ∈ lw_tbl := lw_at lw_m4 236 rfl
theorem q1097 : (Jvm.Cond.instanceMethod ({ cls := "ObligingPosts", name := "roadsFrom", desc := "(I)I" } : Jvm.MethodName)) ∈ lw_all := lw_g (lw_at lw_m4 237 rfl) rfl
theorem q1098 : (Jvm.Cond.code ({ cls := "ObligingPosts", name := "roadsFrom", desc := "(I)I" } : Jvm.MethodName) prog_1_method_60_code (4 : Nat) (Option.some Jvm.ClassFile.FieldType.int)) ∈ lw_all := lw_g (lw_at lw_m4 238 rfl) rfl
theorem q1100 : (Jvm.Cond.instanceMethod ({ cls := "ObligingPosts", name := "at", desc := "(II)I" } : Jvm.MethodName)) ∈ lw_all := lw_g (lw_at lw_m5 0 rfl) rfl
theorem q1101 : (Jvm.Cond.selects "ObligingPosts" ({ cls := "ObligingPosts", name := "at", desc := "(II)I" } : Jvm.MethodName) ({ cls := "ObligingPosts", name := "at", desc := "(II)I" } : Jvm.MethodName)) ∈ lw_all := lw_g (lw_at lw_m5 1 rfl) rfl
theorem q1102 : (Jvm.Cond.code ({ cls := "ObligingPosts", name := "at", desc := "(II)I" } : Jvm.MethodName) prog_1_method_36_code (3 : Nat) (Option.some Jvm.ClassFile.FieldType.int)) ∈ lw_all := lw_g (lw_at lw_m5 2 rfl) rfl
theorem q1103 : (Jvm.Cond.methodLink "ObligingPosts" (207 : Nat) ({ cls := "ObligingPosts", name := "isThen", desc := "(II)Z" } : Jvm.MethodName)) ∈ lw_all := lw_g (lw_at lw_m5 3 rfl) rfl
theorem q1104 : (Jvm.Cond.privateMethod ({ cls := "ObligingPosts", name := "isThen", desc := "(II)Z" } : Jvm.MethodName)) ∈ lw_tbl := lw_at lw_m5 4 rfl
theorem q1105 : (Jvm.Cond.instanceMethod ({ cls := "ObligingPosts", name := "isThen", desc := "(II)Z" } : Jvm.MethodName)) ∈ lw_all := lw_g (lw_at lw_m5 5 rfl) rfl
theorem q1106 : (Jvm.Cond.code ({ cls := "ObligingPosts", name := "isThen", desc := "(II)Z" } : Jvm.MethodName) prog_1_method_24_code (3 : Nat) (Option.some Jvm.ClassFile.FieldType.boolean)) ∈ lw_all := lw_g (lw_at lw_m5 6 rfl) rfl
theorem q1107 : (Jvm.Cond.methodLink "ObligingPosts" (153 : Nat) ({ cls := "ObligingPosts", name := "isHour", desc := "(J)Z" } : Jvm.MethodName)) ∈ lw_all := lw_g (lw_at lw_m5 7 rfl) rfl
theorem q1108 : (Jvm.Cond.privateMethod ({ cls := "ObligingPosts", name := "isHour", desc := "(J)Z" } : Jvm.MethodName)) ∈ lw_tbl := lw_at lw_m5 8 rfl
theorem q1109 : (Jvm.Cond.instanceMethod ({ cls := "ObligingPosts", name := "isHour", desc := "(J)Z" } : Jvm.MethodName)) ∈ lw_all := lw_g (lw_at lw_m5 9 rfl) rfl
theorem q1110 : (Jvm.Cond.code ({ cls := "ObligingPosts", name := "isHour", desc := "(J)Z" } : Jvm.MethodName) prog_1_method_22_code (3 : Nat) (Option.some Jvm.ClassFile.FieldType.boolean)) ∈ lw_all := lw_g (lw_at lw_m5 10 rfl) rfl
theorem q1112 : (Jvm.Cond.instanceMethod ({ cls := "ObligingPosts", name := "arm", desc := "(II)I" } : Jvm.MethodName)) ∈ lw_all := lw_g (lw_at lw_m5 12 rfl) rfl
theorem q1113 : (Jvm.Cond.selects "ObligingPosts" ({ cls := "ObligingPosts", name := "arm", desc := "(II)I" } : Jvm.MethodName) ({ cls := "ObligingPosts", name := "arm", desc := "(II)I" } : Jvm.MethodName)) ∈ lw_all := lw_g (lw_at lw_m5 13 rfl) rfl
theorem q1114 : (Jvm.Cond.code ({ cls := "ObligingPosts", name := "arm", desc := "(II)I" } : Jvm.MethodName) prog_1_method_37_code (3 : Nat) (Option.some Jvm.ClassFile.FieldType.int)) ∈ lw_all := lw_g (lw_at lw_m5 14 rfl) rfl
theorem q1116 : (Jvm.Cond.instanceMethod ({ cls := "ObligingPosts", name := "here", desc := "(II)I" } : Jvm.MethodName)) ∈ lw_all := lw_g (lw_at lw_m5 16 rfl) rfl
theorem q1117 : (Jvm.Cond.selects "ObligingPosts" ({ cls := "ObligingPosts", name := "here", desc := "(II)I" } : Jvm.MethodName) ({ cls := "ObligingPosts", name := "here", desc := "(II)I" } : Jvm.MethodName)) ∈ lw_all := lw_g (lw_at lw_m5 17 rfl) rfl
theorem q1118 : (Jvm.Cond.code ({ cls := "ObligingPosts", name := "here", desc := "(II)I" } : Jvm.MethodName) prog_1_method_39_code (3 : Nat) (Option.some Jvm.ClassFile.FieldType.int)) ∈ lw_all := lw_g (lw_at lw_m5 18 rfl) rfl
theorem q1119 : (Jvm.Cond.methodLink "ObligingPosts" (213 : Nat) ({ cls := "ObligingPosts", name := "isPlace", desc := "(J)Z" } : Jvm.MethodName)) ∈ lw_all := lw_g (lw_at lw_m5 19 rfl) rfl
theorem q1120 : (Jvm.Cond.privateMethod ({ cls := "ObligingPosts", name := "isPlace", desc := "(J)Z" } : Jvm.MethodName)) ∈ lw_tbl := lw_at lw_m5 20 rfl
theorem q1121 : (Jvm.Cond.instanceMethod ({ cls := "ObligingPosts", name := "isPlace", desc := "(J)Z" } : Jvm.MethodName)) ∈ lw_all := lw_g (lw_at lw_m5 21 rfl) rfl
theorem q1122 : (Jvm.Cond.code ({ cls := "ObligingPosts", name := "isPlace", desc := "(J)Z" } : Jvm.MethodName) prog_1_method_19_code (3 : Nat) (Option.some Jvm.ClassFile.FieldType.boolean)) ∈ lw_all := lw_g (lw_at lw_m5 22 rfl) rfl
theorem q1123 : (Jvm.Cond.constantLong "ObligingPosts" (142 : Nat) (10 : Int64)) ∈ lw_all := lw_g (lw_at lw_m5 23 rfl) rfl
theorem q1124 : (Jvm.Cond.methodLink "ObligingPosts" (216 : Nat) ({ cls := "ObligingPosts", name := "hereIn", desc := "(II)I" } : Jvm.MethodName)) ∈ lw_all := lw_g (lw_at lw_m5 24 rfl) rfl
theorem q1125 : (Jvm.Cond.privateMethod ({ cls := "ObligingPosts", name := "hereIn", desc := "(II)I" } : Jvm.MethodName)) ∈ lw_tbl := lw_at lw_m5 25 rfl
theorem q1126 : (Jvm.Cond.instanceMethod ({ cls := "ObligingPosts", name := "hereIn", desc := "(II)I" } : Jvm.MethodName)) ∈ lw_all := lw_g (lw_at lw_m5 26 rfl) rfl
theorem q1127 : (Jvm.Cond.code ({ cls := "ObligingPosts", name := "hereIn", desc := "(II)I" } : Jvm.MethodName) prog_1_method_38_code (5 : Nat) (Option.some Jvm.ClassFile.FieldType.int)) ∈ lw_all := lw_g (lw_at lw_m5 27 rfl) rfl
theorem q1129 : (Jvm.Cond.instanceMethod ({ cls := "ObligingPosts", name := "sent", desc := "(I)I" } : Jvm.MethodName)) ∈ lw_all := lw_g (lw_at lw_m5 29 rfl) rfl
theorem q1130 : (Jvm.Cond.selects "ObligingPosts" ({ cls := "ObligingPosts", name := "sent", desc := "(I)I" } : Jvm.MethodName) ({ cls := "ObligingPosts", name := "sent", desc := "(I)I" } : Jvm.MethodName)) ∈ lw_all := lw_g (lw_at lw_m5 30 rfl) rfl
theorem q1131 : (Jvm.Cond.code ({ cls := "ObligingPosts", name := "sent", desc := "(I)I" } : Jvm.MethodName) prog_1_method_40_code (2 : Nat) (Option.some Jvm.ClassFile.FieldType.int)) ∈ lw_all := lw_g (lw_at lw_m5 31 rfl) rfl
theorem q1132 : (Jvm.Cond.methodLink "ObligingPosts" (219 : Nat) ({ cls := "ObligingPosts", name := "isAhead", desc := "(I)Z" } : Jvm.MethodName)) ∈ lw_all := lw_g (lw_at lw_m5 32 rfl) rfl
theorem q1133 : (Jvm.Cond.privateMethod ({ cls := "ObligingPosts", name := "isAhead", desc := "(I)Z" } : Jvm.MethodName)) ∈ lw_tbl := lw_at lw_m5 33 rfl
theorem q1134 : (Jvm.Cond.instanceMethod ({ cls := "ObligingPosts", name := "isAhead", desc := "(I)Z" } : Jvm.MethodName)) ∈ lw_all := lw_g (lw_at lw_m5 34 rfl) rfl
theorem q1135 : (Jvm.Cond.code ({ cls := "ObligingPosts", name := "isAhead", desc := "(I)Z" } : Jvm.MethodName) prog_1_method_23_code (2 : Nat) (Option.some Jvm.ClassFile.FieldType.boolean)) ∈ lw_all := lw_g (lw_at lw_m5 35 rfl) rfl
theorem q1137 : (Jvm.Cond.instanceMethod ({ cls := "ObligingPosts", name := "sends", desc := "(I)I" } : Jvm.MethodName)) ∈ lw_all := lw_g (lw_at lw_m5 37 rfl) rfl
theorem q1138 : (Jvm.Cond.selects "ObligingPosts" ({ cls := "ObligingPosts", name := "sends", desc := "(I)I" } : Jvm.MethodName) ({ cls := "ObligingPosts", name := "sends", desc := "(I)I" } : Jvm.MethodName)) ∈ lw_all := lw_g (lw_at lw_m5 38 rfl) rfl
theorem q1139 : (Jvm.Cond.code ({ cls := "ObligingPosts", name := "sends", desc := "(I)I" } : Jvm.MethodName) prog_1_method_42_code (2 : Nat) (Option.some Jvm.ClassFile.FieldType.int)) ∈ lw_all := lw_g (lw_at lw_m5 39 rfl) rfl
theorem q1140 : (Jvm.Cond.methodLink "ObligingPosts" (228 : Nat) ({ cls := "ObligingPosts", name := "sendsOf", desc := "(I)I" } : Jvm.MethodName)) ∈ lw_all := lw_g (lw_at lw_m5 40 rfl) rfl
theorem q1141 : (Jvm.Cond.privateMethod ({ cls := "ObligingPosts", name := "sendsOf", desc := "(I)I" } : Jvm.MethodName)) ∈ lw_tbl := lw_at lw_m5 41 rfl
theorem q1142 : (Jvm.Cond.instanceMethod ({ cls := "ObligingPosts", name := "sendsOf", desc := "(I)I" } : Jvm.MethodName)) ∈ lw_all := lw_g (lw_at lw_m5 42 rfl) rfl
theorem q1143 : (Jvm.Cond.code ({ cls := "ObligingPosts", name := "sendsOf", desc := "(I)I" } : Jvm.MethodName) prog_1_method_41_code (4 : Nat) (Option.some Jvm.ClassFile.FieldType.int)) ∈ lw_all := lw_g (lw_at lw_m5 43 rfl) rfl
theorem q1145 : (Jvm.Cond.instanceMethod ({ cls := "ObligingPosts", name := "used", desc := "(II)I" } : Jvm.MethodName)) ∈ lw_all := lw_g (lw_at lw_m5 45 rfl) rfl
theorem q1146 : (Jvm.Cond.selects "ObligingPosts" ({ cls := "ObligingPosts", name := "used", desc := "(II)I" } : Jvm.MethodName) ({ cls := "ObligingPosts", name := "used", desc := "(II)I" } : Jvm.MethodName)) ∈ lw_all := lw_g (lw_at lw_m5 46 rfl) rfl
theorem q1147 : (Jvm.Cond.code ({ cls := "ObligingPosts", name := "used", desc := "(II)I" } : Jvm.MethodName) prog_1_method_43_code (3 : Nat) (Option.some Jvm.ClassFile.FieldType.int)) ∈ lw_all := lw_g (lw_at lw_m5 47 rfl) rfl
theorem q1149 : (Jvm.Cond.instanceMethod ({ cls := "ObligingPosts", name := "walks", desc := "(I)I" } : Jvm.MethodName)) ∈ lw_all := lw_g (lw_at lw_m5 49 rfl) rfl
theorem q1150 : (Jvm.Cond.selects "ObligingPosts" ({ cls := "ObligingPosts", name := "walks", desc := "(I)I" } : Jvm.MethodName) ({ cls := "ObligingPosts", name := "walks", desc := "(I)I" } : Jvm.MethodName)) ∈ lw_all := lw_g (lw_at lw_m5 50 rfl) rfl
theorem q1151 : (Jvm.Cond.code ({ cls := "ObligingPosts", name := "walks", desc := "(I)I" } : Jvm.MethodName) prog_1_method_44_code (2 : Nat) (Option.some Jvm.ClassFile.FieldType.int)) ∈ lw_all := lw_g (lw_at lw_m5 51 rfl) rfl
theorem q1153 : (Jvm.Cond.instanceMethod ({ cls := "ObligingPosts", name := "home", desc := "(I)I" } : Jvm.MethodName)) ∈ lw_all := lw_g (lw_at lw_m5 53 rfl) rfl
theorem q1154 : (Jvm.Cond.selects "ObligingPosts" ({ cls := "ObligingPosts", name := "home", desc := "(I)I" } : Jvm.MethodName) ({ cls := "ObligingPosts", name := "home", desc := "(I)I" } : Jvm.MethodName)) ∈ lw_all := lw_g (lw_at lw_m5 54 rfl) rfl
theorem q1155 : (Jvm.Cond.code ({ cls := "ObligingPosts", name := "home", desc := "(I)I" } : Jvm.MethodName) prog_1_method_45_code (2 : Nat) (Option.some Jvm.ClassFile.FieldType.int)) ∈ lw_all := lw_g (lw_at lw_m5 55 rfl) rfl
theorem q1156 : (Jvm.Cond.methodLink "ObligingPosts" (234 : Nat) ({ cls := "ObligingPosts$Hours", name := "home", desc := "(II)I" } : Jvm.MethodName)) ∈ lw_all := lw_g (lw_at lw_m5 56 rfl) rfl
theorem q1162 : (Jvm.Cond.instanceMethod ({ cls := "ObligingPosts", name := "inn", desc := "(I)I" } : Jvm.MethodName)) ∈ lw_all := lw_g (lw_at lw_m5 62 rfl) rfl
theorem q1163 : (Jvm.Cond.selects "ObligingPosts" ({ cls := "ObligingPosts", name := "inn", desc := "(I)I" } : Jvm.MethodName) ({ cls := "ObligingPosts", name := "inn", desc := "(I)I" } : Jvm.MethodName)) ∈ lw_all := lw_g (lw_at lw_m5 63 rfl) rfl
theorem q1164 : (Jvm.Cond.code ({ cls := "ObligingPosts", name := "inn", desc := "(I)I" } : Jvm.MethodName) prog_1_method_46_code (3 : Nat) (Option.some Jvm.ClassFile.FieldType.int)) ∈ lw_all := lw_g (lw_at lw_m5 64 rfl) rfl
theorem q1166 : (Jvm.Cond.instanceMethod ({ cls := "ObligingPosts", name := "trail", desc := "(I)I" } : Jvm.MethodName)) ∈ lw_all := lw_g (lw_at lw_m5 66 rfl) rfl
theorem q1167 : (Jvm.Cond.selects "ObligingPosts" ({ cls := "ObligingPosts", name := "trail", desc := "(I)I" } : Jvm.MethodName) ({ cls := "ObligingPosts", name := "trail", desc := "(I)I" } : Jvm.MethodName)) ∈ lw_all := lw_g (lw_at lw_m5 67 rfl) rfl
theorem q1168 : (Jvm.Cond.code ({ cls := "ObligingPosts", name := "trail", desc := "(I)I" } : Jvm.MethodName) prog_1_method_48_code (2 : Nat) (Option.some Jvm.ClassFile.FieldType.int)) ∈ lw_all := lw_g (lw_at lw_m5 68 rfl) rfl
theorem q1169 : (Jvm.Cond.methodLink "ObligingPosts" (237 : Nat) ({ cls := "ObligingPosts", name := "trailTo", desc := "(II)I" } : Jvm.MethodName)) ∈ lw_all := lw_g (lw_at lw_m5 69 rfl) rfl
theorem q1170 : (Jvm.Cond.privateMethod ({ cls := "ObligingPosts", name := "trailTo", desc := "(II)I" } : Jvm.MethodName)) ∈ lw_tbl := lw_at lw_m5 70 rfl
theorem q1171 : (Jvm.Cond.instanceMethod ({ cls := "ObligingPosts", name := "trailTo", desc := "(II)I" } : Jvm.MethodName)) ∈ lw_all := lw_g (lw_at lw_m5 71 rfl) rfl
theorem q1172 : (Jvm.Cond.code ({ cls := "ObligingPosts", name := "trailTo", desc := "(II)I" } : Jvm.MethodName) prog_1_method_47_code (5 : Nat) (Option.some Jvm.ClassFile.FieldType.int)) ∈ lw_all := lw_g (lw_at lw_m5 72 rfl) rfl
theorem q1174 : (Jvm.Cond.instanceMethod ({ cls := "ObligingPosts", name := "again", desc := "(I)I" } : Jvm.MethodName)) ∈ lw_all := lw_g (lw_at lw_m5 74 rfl) rfl
theorem q1175 : (Jvm.Cond.selects "ObligingPosts" ({ cls := "ObligingPosts", name := "again", desc := "(I)I" } : Jvm.MethodName) ({ cls := "ObligingPosts", name := "again", desc := "(I)I" } : Jvm.MethodName)) ∈ lw_all := lw_g (lw_at lw_m5 75 rfl) rfl
theorem q1176 : (Jvm.Cond.code ({ cls := "ObligingPosts", name := "again", desc := "(I)I" } : Jvm.MethodName) prog_1_method_49_code (5 : Nat) (Option.some Jvm.ClassFile.FieldType.int)) ∈ lw_all := lw_g (lw_at lw_m5 76 rfl) rfl
theorem q1177 : (Jvm.Cond.methodLink "ObligingPosts" (240 : Nat) ({ cls := "ObligingPosts", name := "isOn", desc := "(II)Z" } : Jvm.MethodName)) ∈ lw_all := lw_g (lw_at lw_m5 77 rfl) rfl
theorem q1179 : (Jvm.Cond.instanceMethod ({ cls := "ObligingPosts", name := "guests", desc := "(II)I" } : Jvm.MethodName)) ∈ lw_all := lw_g (lw_at lw_m5 79 rfl) rfl
theorem q1180 : (Jvm.Cond.selects "ObligingPosts" ({ cls := "ObligingPosts", name := "guests", desc := "(II)I" } : Jvm.MethodName) ({ cls := "ObligingPosts", name := "guests", desc := "(II)I" } : Jvm.MethodName)) ∈ lw_all := lw_g (lw_at lw_m5 80 rfl) rfl
theorem q1181 : (Jvm.Cond.code ({ cls := "ObligingPosts", name := "guests", desc := "(II)I" } : Jvm.MethodName) prog_1_method_50_code (3 : Nat) (Option.some Jvm.ClassFile.FieldType.int)) ∈ lw_all := lw_g (lw_at lw_m5 81 rfl) rfl
theorem q1182 : (Jvm.Cond.methodLink "ObligingPosts" (243 : Nat) ({ cls := "ObligingPosts", name := "size", desc := "(I)I" } : Jvm.MethodName)) ∈ lw_all := lw_g (lw_at lw_m5 82 rfl) rfl
theorem q1183 : (Jvm.Cond.static ({ cls := "ObligingPosts", name := "size", desc := "(I)I" } : Jvm.MethodName)) ∈ lw_all := lw_g (lw_at lw_m5 83 rfl) rfl
theorem q1184 : (Jvm.Cond.code ({ cls := "ObligingPosts", name := "size", desc := "(I)I" } : Jvm.MethodName) prog_1_method_3_code (1 : Nat) (Option.some Jvm.ClassFile.FieldType.int)) ∈ lw_all := lw_g (lw_at lw_m5 84 rfl) rfl
theorem q1185 : (Jvm.Cond.methodLink "ObligingPosts" (1 : Nat) ({ cls := "java/lang/Integer", name := "bitCount", desc := "(I)I" } : Jvm.MethodName)) ∈ lw_all := lw_g (lw_at lw_m5 85 rfl) rfl
theorem q1192 : (Jvm.Cond.instanceMethod ({ cls := "ObligingPosts", name := "full", desc := "(I)I" } : Jvm.MethodName)) ∈ lw_all := lw_g (lw_at lw_m5 92 rfl) rfl
theorem q1193 : (Jvm.Cond.selects "ObligingPosts" ({ cls := "ObligingPosts", name := "full", desc := "(I)I" } : Jvm.MethodName) ({ cls := "ObligingPosts", name := "full", desc := "(I)I" } : Jvm.MethodName)) ∈ lw_all := lw_g (lw_at lw_m5 93 rfl) rfl
theorem q1194 : (Jvm.Cond.code ({ cls := "ObligingPosts", name := "full", desc := "(I)I" } : Jvm.MethodName) prog_1_method_51_code (3 : Nat) (Option.some Jvm.ClassFile.FieldType.int)) ∈ lw_all := lw_g (lw_at lw_m5 94 rfl) rfl
theorem q1196 : (Jvm.Cond.instanceMethod ({ cls := "ObligingPosts", name := "refuses", desc := "(I)I" } : Jvm.MethodName)) ∈ lw_all := lw_g (lw_at lw_m5 96 rfl) rfl
theorem q1197 : (Jvm.Cond.selects "ObligingPosts" ({ cls := "ObligingPosts", name := "refuses", desc := "(I)I" } : Jvm.MethodName) ({ cls := "ObligingPosts", name := "refuses", desc := "(I)I" } : Jvm.MethodName)) ∈ lw_all := lw_g (lw_at lw_m5 97 rfl) rfl
theorem q1198 : (Jvm.Cond.code ({ cls := "ObligingPosts", name := "refuses", desc := "(I)I" } : Jvm.MethodName) prog_1_method_52_code (2 : Nat) (Option.some Jvm.ClassFile.FieldType.int)) ∈ lw_all := lw_g (lw_at lw_m5 98 rfl) rfl
theorem q1200 : (Jvm.Cond.instanceMethod ({ cls := "ObligingPosts", name := "inside", desc := "(I)I" } : Jvm.MethodName)) ∈ lw_all := lw_g (lw_at lw_m5 100 rfl) rfl
theorem q1201 : (Jvm.Cond.selects "ObligingPosts" ({ cls := "ObligingPosts", name := "inside", desc := "(I)I" } : Jvm.MethodName) ({ cls := "ObligingPosts", name := "inside", desc := "(I)I" } : Jvm.MethodName)) ∈ lw_all := lw_g (lw_at lw_m5 101 rfl) rfl
theorem q1202 : (Jvm.Cond.code ({ cls := "ObligingPosts", name := "inside", desc := "(I)I" } : Jvm.MethodName) prog_1_method_53_code (2 : Nat) (Option.some Jvm.ClassFile.FieldType.int)) ∈ lw_all := lw_g (lw_at lw_m5 102 rfl) rfl
theorem q1203 : (Jvm.Cond.methodLink "ObligingPosts" (248 : Nat) ({ cls := "ObligingPosts$Hours", name := "inside", desc := "(I)I" } : Jvm.MethodName)) ∈ lw_all := lw_g (lw_at lw_m5 103 rfl) rfl
theorem q1208 : (Jvm.Cond.instanceMethod ({ cls := "ObligingPosts", name := "outside", desc := "(I)I" } : Jvm.MethodName)) ∈ lw_all := lw_g (lw_at lw_m5 108 rfl) rfl
theorem q1209 : (Jvm.Cond.selects "ObligingPosts" ({ cls := "ObligingPosts", name := "outside", desc := "(I)I" } : Jvm.MethodName) ({ cls := "ObligingPosts", name := "outside", desc := "(I)I" } : Jvm.MethodName)) ∈ lw_all := lw_g (lw_at lw_m5 109 rfl) rfl
theorem q1210 : (Jvm.Cond.code ({ cls := "ObligingPosts", name := "outside", desc := "(I)I" } : Jvm.MethodName) prog_1_method_54_code (4 : Nat) (Option.some Jvm.ClassFile.FieldType.int)) ∈ lw_all := lw_g (lw_at lw_m5 110 rfl) rfl
theorem q1212 : (Jvm.Cond.instanceMethod ({ cls := "ObligingPosts", name := "done", desc := "()I" } : Jvm.MethodName)) ∈ lw_all := lw_g (lw_at lw_m5 112 rfl) rfl
theorem q1213 : (Jvm.Cond.selects "ObligingPosts" ({ cls := "ObligingPosts", name := "done", desc := "()I" } : Jvm.MethodName) ({ cls := "ObligingPosts", name := "done", desc := "()I" } : Jvm.MethodName)) ∈ lw_all := lw_g (lw_at lw_m5 113 rfl) rfl
theorem q1214 : (Jvm.Cond.code ({ cls := "ObligingPosts", name := "done", desc := "()I" } : Jvm.MethodName) prog_1_method_55_code (2 : Nat) (Option.some Jvm.ClassFile.FieldType.int)) ∈ lw_all := lw_g (lw_at lw_m5 114 rfl) rfl
theorem q1216 : (Jvm.Cond.instanceMethod ({ cls := "ObligingPosts", name := "crowd", desc := "(I)I" } : Jvm.MethodName)) ∈ lw_all := lw_g (lw_at lw_m5 116 rfl) rfl
theorem q1217 : (Jvm.Cond.selects "ObligingPosts" ({ cls := "ObligingPosts", name := "crowd", desc := "(I)I" } : Jvm.MethodName) ({ cls := "ObligingPosts", name := "crowd", desc := "(I)I" } : Jvm.MethodName)) ∈ lw_all := lw_g (lw_at lw_m5 117 rfl) rfl
theorem q1218 : (Jvm.Cond.code ({ cls := "ObligingPosts", name := "crowd", desc := "(I)I" } : Jvm.MethodName) prog_1_method_56_code (4 : Nat) (Option.some Jvm.ClassFile.FieldType.int)) ∈ lw_all := lw_g (lw_at lw_m5 118 rfl) rfl
theorem q1219 : (Jvm.Cond.methodLink "ObligingPosts" (251 : Nat) ({ cls := "java/lang/Math", name := "max", desc := "(II)I" } : Jvm.MethodName)) ∈ lw_all := lw_g (lw_at lw_m5 119 rfl) rfl
theorem q1221 : (Jvm.Cond.instanceMethod ({ cls := "ObligingPosts", name := "meet", desc := "(II)I" } : Jvm.MethodName)) ∈ lw_all := lw_g (lw_at lw_m5 121 rfl) rfl
theorem q1222 : (Jvm.Cond.selects "ObligingPosts" ({ cls := "ObligingPosts", name := "meet", desc := "(II)I" } : Jvm.MethodName) ({ cls := "ObligingPosts", name := "meet", desc := "(II)I" } : Jvm.MethodName)) ∈ lw_all := lw_g (lw_at lw_m5 122 rfl) rfl
theorem q1223 : (Jvm.Cond.code ({ cls := "ObligingPosts", name := "meet", desc := "(II)I" } : Jvm.MethodName) prog_1_method_57_code (4 : Nat) (Option.some Jvm.ClassFile.FieldType.int)) ∈ lw_all := lw_g (lw_at lw_m5 123 rfl) rfl
theorem q1224 : (Jvm.Cond.methodLink "ObligingPosts" (256 : Nat) ({ cls := "ObligingPosts", name := "areTwo", desc := "(II)Z" } : Jvm.MethodName)) ∈ lw_all := lw_g (lw_at lw_m5 124 rfl) rfl
theorem q1225 : (Jvm.Cond.privateMethod ({ cls := "ObligingPosts", name := "areTwo", desc := "(II)Z" } : Jvm.MethodName)) ∈ lw_tbl := lw_at lw_m5 125 rfl
theorem q1226 : (Jvm.Cond.instanceMethod ({ cls := "ObligingPosts", name := "areTwo", desc := "(II)Z" } : Jvm.MethodName)) ∈ lw_all := lw_g (lw_at lw_m5 126 rfl) rfl
theorem q1227 : (Jvm.Cond.code ({ cls := "ObligingPosts", name := "areTwo", desc := "(II)Z" } : Jvm.MethodName) prog_1_method_21_code (3 : Nat) (Option.some Jvm.ClassFile.FieldType.boolean)) ∈ lw_all := lw_g (lw_at lw_m5 127 rfl) rfl
theorem q1229 : (Jvm.Cond.instanceMethod ({ cls := "ObligingPosts", name := "busy", desc := "()I" } : Jvm.MethodName)) ∈ lw_all := lw_g (lw_at lw_m5 129 rfl) rfl
theorem q1230 : (Jvm.Cond.selects "ObligingPosts" ({ cls := "ObligingPosts", name := "busy", desc := "()I" } : Jvm.MethodName) ({ cls := "ObligingPosts", name := "busy", desc := "()I" } : Jvm.MethodName)) ∈ lw_all := lw_g (lw_at lw_m5 130 rfl) rfl
theorem q1231 : (Jvm.Cond.code ({ cls := "ObligingPosts", name := "busy", desc := "()I" } : Jvm.MethodName) prog_1_method_58_code (3 : Nat) (Option.some Jvm.ClassFile.FieldType.int)) ∈ lw_all := lw_g (lw_at lw_m5 131 rfl) rfl
theorem q1233 : (Jvm.Cond.instanceMethod ({ cls := "ObligingPosts", name := "idle", desc := "()I" } : Jvm.MethodName)) ∈ lw_all := lw_g (lw_at lw_m5 133 rfl) rfl
theorem q1234 : (Jvm.Cond.selects "ObligingPosts" ({ cls := "ObligingPosts", name := "idle", desc := "()I" } : Jvm.MethodName) ({ cls := "ObligingPosts", name := "idle", desc := "()I" } : Jvm.MethodName)) ∈ lw_all := lw_g (lw_at lw_m5 134 rfl) rfl
theorem q1235 : (Jvm.Cond.code ({ cls := "ObligingPosts", name := "idle", desc := "()I" } : Jvm.MethodName) prog_1_method_59_code (3 : Nat) (Option.some Jvm.ClassFile.FieldType.int)) ∈ lw_all := lw_g (lw_at lw_m5 135 rfl) rfl
theorem q1237 : (Jvm.Cond.instanceMethod ({ cls := "ObligingPosts", name := "reach", desc := "(I)I" } : Jvm.MethodName)) ∈ lw_all := lw_g (lw_at lw_m5 137 rfl) rfl
theorem q1238 : (Jvm.Cond.selects "ObligingPosts" ({ cls := "ObligingPosts", name := "reach", desc := "(I)I" } : Jvm.MethodName) ({ cls := "ObligingPosts", name := "reach", desc := "(I)I" } : Jvm.MethodName)) ∈ lw_all := lw_g (lw_at lw_m5 138 rfl) rfl
theorem q1239 : (Jvm.Cond.code ({ cls := "ObligingPosts", name := "reach", desc := "(I)I" } : Jvm.MethodName) prog_1_method_62_code (4 : Nat) (Option.some Jvm.ClassFile.FieldType.int)) ∈ lw_all := lw_g (lw_at lw_m5 139 rfl) rfl
theorem q1240 : (Jvm.Cond.methodLink "ObligingPosts" (259 : Nat) ({ cls := "ObligingPosts", name := "stepFrom", desc := "(I)I" } : Jvm.MethodName)) ∈ lw_all := lw_g (lw_at lw_m5 140 rfl) rfl
theorem q1241 : (Jvm.Cond.privateMethod ({ cls := "ObligingPosts", name := "stepFrom", desc := "(I)I" } : Jvm.MethodName)) ∈ lw_tbl := lw_at lw_m5 141 rfl
theorem q1242 : (Jvm.Cond.instanceMethod ({ cls := "ObligingPosts", name := "stepFrom", desc := "(I)I" } : Jvm.MethodName)) ∈ lw_all := lw_g (lw_at lw_m5 142 rfl) rfl
theorem q1243 : (Jvm.Cond.code ({ cls := "ObligingPosts", name := "stepFrom", desc := "(I)I" } : Jvm.MethodName) prog_1_method_61_code (4 : Nat) (Option.some Jvm.ClassFile.FieldType.int)) ∈ lw_all := lw_g (lw_at lw_m5 143 rfl) rfl
theorem q1245 : (Jvm.Cond.instanceMethod ({ cls := "ObligingPosts", name := "far", desc := "(II)I" } : Jvm.MethodName)) ∈ lw_all := lw_g (lw_at lw_m5 145 rfl) rfl
theorem q1246 : (Jvm.Cond.selects "ObligingPosts" ({ cls := "ObligingPosts", name := "far", desc := "(II)I" } : Jvm.MethodName) ({ cls := "ObligingPosts", name := "far", desc := "(II)I" } : Jvm.MethodName)) ∈ lw_all := lw_g (lw_at lw_m5 146 rfl) rfl
theorem q1247 : (Jvm.Cond.code ({ cls := "ObligingPosts", name := "far", desc := "(II)I" } : Jvm.MethodName) prog_1_method_63_code (5 : Nat) (Option.some Jvm.ClassFile.FieldType.int)) ∈ lw_all := lw_g (lw_at lw_m5 147 rfl) rfl
theorem q1249 : (Jvm.Cond.instanceMethod ({ cls := "ObligingPosts", name := "setting", desc := "(I)I" } : Jvm.MethodName)) ∈ lw_all := lw_g (lw_at lw_m5 149 rfl) rfl
theorem q1250 : (Jvm.Cond.selects "ObligingPosts" ({ cls := "ObligingPosts", name := "setting", desc := "(I)I" } : Jvm.MethodName) ({ cls := "ObligingPosts", name := "setting", desc := "(I)I" } : Jvm.MethodName)) ∈ lw_all := lw_g (lw_at lw_m5 150 rfl) rfl
theorem q1251 : (Jvm.Cond.code ({ cls := "ObligingPosts", name := "setting", desc := "(I)I" } : Jvm.MethodName) prog_1_method_64_code (2 : Nat) (Option.some Jvm.ClassFile.FieldType.int)) ∈ lw_all := lw_g (lw_at lw_m5 151 rfl) rfl
theorem q1252 : (Jvm.Cond.methodLink "ObligingPosts" (262 : Nat) ({ cls := "ObligingPosts$Hours", name := "setting", desc := "(I)I" } : Jvm.MethodName)) ∈ lw_all := lw_g (lw_at lw_m5 152 rfl) rfl
theorem q1257 : (Jvm.Cond.instanceMethod ({ cls := "ObligingPosts", name := "settings", desc := "()I" } : Jvm.MethodName)) ∈ lw_all := lw_g (lw_at lw_m5 157 rfl) rfl
theorem q1258 : (Jvm.Cond.selects "ObligingPosts" ({ cls := "ObligingPosts", name := "settings", desc := "()I" } : Jvm.MethodName) ({ cls := "ObligingPosts", name := "settings", desc := "()I" } : Jvm.MethodName)) ∈ lw_all := lw_g (lw_at lw_m5 158 rfl) rfl
theorem q1259 : (Jvm.Cond.code ({ cls := "ObligingPosts", name := "settings", desc := "()I" } : Jvm.MethodName) prog_1_method_66_code (1 : Nat) (Option.some Jvm.ClassFile.FieldType.int)) ∈ lw_all := lw_g (lw_at lw_m5 159 rfl) rfl
theorem q1260 : (Jvm.Cond.methodLink "ObligingPosts" (265 : Nat) ({ cls := "ObligingPosts", name := "settingsOf", desc := "()I" } : Jvm.MethodName)) ∈ lw_all := lw_g (lw_at lw_m5 160 rfl) rfl
theorem q1261 : (Jvm.Cond.privateMethod ({ cls := "ObligingPosts", name := "settingsOf", desc := "()I" } : Jvm.MethodName)) ∈ lw_tbl := lw_at lw_m5 161 rfl
theorem q1262 : (Jvm.Cond.instanceMethod ({ cls := "ObligingPosts", name := "settingsOf", desc := "()I" } : Jvm.MethodName)) ∈ lw_all := lw_g (lw_at lw_m5 162 rfl) rfl
theorem q1263 : (Jvm.Cond.code ({ cls := "ObligingPosts", name := "settingsOf", desc := "()I" } : Jvm.MethodName) prog_1_method_65_code (3 : Nat) (Option.some Jvm.ClassFile.FieldType.int)) ∈ lw_all := lw_g (lw_at lw_m5 163 rfl) rfl
theorem q1265 : (Jvm.Cond.instanceMethod ({ cls := "ObligingPosts", name := "same", desc := "()I" } : Jvm.MethodName)) ∈ lw_all := lw_g (lw_at lw_m5 165 rfl) rfl
theorem q1266 : (Jvm.Cond.selects "ObligingPosts" ({ cls := "ObligingPosts", name := "same", desc := "()I" } : Jvm.MethodName) ({ cls := "ObligingPosts", name := "same", desc := "()I" } : Jvm.MethodName)) ∈ lw_all := lw_g (lw_at lw_m5 166 rfl) rfl
theorem q1267 : (Jvm.Cond.code ({ cls := "ObligingPosts", name := "same", desc := "()I" } : Jvm.MethodName) prog_1_method_67_code (2 : Nat) (Option.some Jvm.ClassFile.FieldType.int)) ∈ lw_all := lw_g (lw_at lw_m5 167 rfl) rfl
theorem q1269 : (Jvm.Cond.instanceMethod ({ cls := "ObligingPosts", name := "alone", desc := "(I)I" } : Jvm.MethodName)) ∈ lw_all := lw_g (lw_at lw_m5 169 rfl) rfl
theorem q1270 : (Jvm.Cond.selects "ObligingPosts" ({ cls := "ObligingPosts", name := "alone", desc := "(I)I" } : Jvm.MethodName) ({ cls := "ObligingPosts", name := "alone", desc := "(I)I" } : Jvm.MethodName)) ∈ lw_all := lw_g (lw_at lw_m5 170 rfl) rfl
theorem q1271 : (Jvm.Cond.code ({ cls := "ObligingPosts", name := "alone", desc := "(I)I" } : Jvm.MethodName) prog_1_method_69_code (2 : Nat) (Option.some Jvm.ClassFile.FieldType.int)) ∈ lw_all := lw_g (lw_at lw_m5 171 rfl) rfl
theorem q1272 : (Jvm.Cond.methodLink "ObligingPosts" (271 : Nat) ({ cls := "ObligingPosts", name := "first", desc := "(I)LObligingPosts$Alone;" } : Jvm.MethodName)) ∈ lw_all := lw_g (lw_at lw_m5 172 rfl) rfl
theorem q1273 : (Jvm.Cond.privateMethod ({ cls := "ObligingPosts", name := "first", desc := "(I)LObligingPosts$Alone;" } : Jvm.MethodName)) ∈ lw_tbl := lw_at lw_m5 173 rfl
theorem q1274 : (Jvm.Cond.instanceMethod ({ cls := "ObligingPosts", name := "first", desc := "(I)LObligingPosts$Alone;" } : Jvm.MethodName)) ∈ lw_all := lw_g (lw_at lw_m5 174 rfl) rfl
theorem q1275 : (Jvm.Cond.code ({ cls := "ObligingPosts", name := "first", desc := "(I)LObligingPosts$Alone;" } : Jvm.MethodName) prog_1_method_68_code (2 : Nat) (Option.some (Jvm.ClassFile.FieldType.object "ObligingPosts$Alone"))) ∈ lw_all := lw_g (lw_at lw_m5 175 rfl) rfl
theorem q1276 : (Jvm.Cond.methodLink "ObligingPosts" (268 : Nat) ({ cls := "ObligingPosts$Alone", name := "goes", desc := "(I)LObligingPosts$Alone;" } : Jvm.MethodName)) ∈ lw_all := lw_g (lw_at lw_m5 176 rfl) rfl
theorem q1282 : (Jvm.Cond.methodLink "ObligingPosts" (274 : Nat) ({ cls := "ObligingPosts$Alone", name := "isIn", desc := "()Z" } : Jvm.MethodName)) ∈ lw_all := lw_g (lw_at lw_m5 182 rfl) rfl
theorem q1287 : (Jvm.Cond.instanceMethod ({ cls := "ObligingPosts", name := "steps", desc := "(I)I" } : Jvm.MethodName)) ∈ lw_all := lw_g (lw_at lw_m5 187 rfl) rfl
theorem q1288 : (Jvm.Cond.selects "ObligingPosts" ({ cls := "ObligingPosts", name := "steps", desc := "(I)I" } : Jvm.MethodName) ({ cls := "ObligingPosts", name := "steps", desc := "(I)I" } : Jvm.MethodName)) ∈ lw_all := lw_g (lw_at lw_m5 188 rfl) rfl
theorem q1289 : (Jvm.Cond.code ({ cls := "ObligingPosts", name := "steps", desc := "(I)I" } : Jvm.MethodName) prog_1_method_70_code (2 : Nat) (Option.some Jvm.ClassFile.FieldType.int)) ∈ lw_all := lw_g (lw_at lw_m5 189 rfl) rfl
theorem q1291 : (Jvm.Cond.instanceMethod ({ cls := "ObligingPosts", name := "behind", desc := "(I)I" } : Jvm.MethodName)) ∈ lw_all := lw_g (lw_at lw_m5 191 rfl) rfl
theorem q1292 : (Jvm.Cond.selects "ObligingPosts" ({ cls := "ObligingPosts", name := "behind", desc := "(I)I" } : Jvm.MethodName) ({ cls := "ObligingPosts", name := "behind", desc := "(I)I" } : Jvm.MethodName)) ∈ lw_all := lw_g (lw_at lw_m5 192 rfl) rfl
theorem q1293 : (Jvm.Cond.code ({ cls := "ObligingPosts", name := "behind", desc := "(I)I" } : Jvm.MethodName) prog_1_method_71_code (2 : Nat) (Option.some Jvm.ClassFile.FieldType.int)) ∈ lw_all := lw_g (lw_at lw_m5 193 rfl) rfl
theorem q1294 : (Jvm.Cond.methodLink "ObligingPosts" (281 : Nat) ({ cls := "ObligingPosts$Hours", name := "settingNow", desc := "()I" } : Jvm.MethodName)) ∈ lw_all := lw_g (lw_at lw_m5 194 rfl) rfl
theorem q1300 : (Jvm.Cond.instanceMethod ({ cls := "ObligingPosts", name := "nth", desc := "(II)I" } : Jvm.MethodName)) ∈ lw_all := lw_g (lw_at lw_m5 200 rfl) rfl
theorem q1301 : (Jvm.Cond.selects "ObligingPosts" ({ cls := "ObligingPosts", name := "nth", desc := "(II)I" } : Jvm.MethodName) ({ cls := "ObligingPosts", name := "nth", desc := "(II)I" } : Jvm.MethodName)) ∈ lw_all := lw_g (lw_at lw_m5 201 rfl) rfl
theorem q1302 : (Jvm.Cond.code ({ cls := "ObligingPosts", name := "nth", desc := "(II)I" } : Jvm.MethodName) prog_1_method_72_code (4 : Nat) (Option.some Jvm.ClassFile.FieldType.int)) ∈ lw_all := lw_g (lw_at lw_m5 202 rfl) rfl
theorem q1303 : (Jvm.Cond.constantLong "ObligingPosts" (284 : Nat) (20 : Int64)) ∈ lw_all := lw_g (lw_at lw_m5 203 rfl) rfl
theorem q1305 : (Jvm.Cond.instanceMethod ({ cls := "ObligingPosts", name := "round", desc := "(I)I" } : Jvm.MethodName)) ∈ lw_all := lw_g (lw_at lw_m5 205 rfl) rfl
theorem q1306 : (Jvm.Cond.selects "ObligingPosts" ({ cls := "ObligingPosts", name := "round", desc := "(I)I" } : Jvm.MethodName) ({ cls := "ObligingPosts", name := "round", desc := "(I)I" } : Jvm.MethodName)) ∈ lw_all := lw_g (lw_at lw_m5 206 rfl) rfl
theorem q1307 : (Jvm.Cond.code ({ cls := "ObligingPosts", name := "round", desc := "(I)I" } : Jvm.MethodName) prog_1_method_73_code (4 : Nat) (Option.some Jvm.ClassFile.FieldType.int)) ∈ lw_all := lw_g (lw_at lw_m5 207 rfl) rfl
theorem q1309 : (Jvm.Cond.instanceMethod ({ cls := "ObligingPosts", name := "houses", desc := "(III)I" } : Jvm.MethodName)) ∈ lw_all := lw_g (lw_at lw_m5 209 rfl) rfl
theorem q1310 : (Jvm.Cond.selects "ObligingPosts" ({ cls := "ObligingPosts", name := "houses", desc := "(III)I" } : Jvm.MethodName) ({ cls := "ObligingPosts", name := "houses", desc := "(III)I" } : Jvm.MethodName)) ∈ lw_all := lw_g (lw_at lw_m5 210 rfl) rfl
theorem q1311 : (Jvm.Cond.code ({ cls := "ObligingPosts", name := "houses", desc := "(III)I" } : Jvm.MethodName) prog_1_method_74_code (6 : Nat) (Option.some Jvm.ClassFile.FieldType.int)) ∈ lw_all := lw_g (lw_at lw_m5 211 rfl) rfl
theorem q1313 : (Jvm.Cond.instanceMethod ({ cls := "ObligingPosts", name := "tree", desc := "(I)I" } : Jvm.MethodName)) ∈ lw_all := lw_g (lw_at lw_m5 213 rfl) rfl
theorem q1314 : (Jvm.Cond.selects "ObligingPosts" ({ cls := "ObligingPosts", name := "tree", desc := "(I)I" } : Jvm.MethodName) ({ cls := "ObligingPosts", name := "tree", desc := "(I)I" } : Jvm.MethodName)) ∈ lw_all := lw_g (lw_at lw_m5 214 rfl) rfl
theorem q1315 : (Jvm.Cond.code ({ cls := "ObligingPosts", name := "tree", desc := "(I)I" } : Jvm.MethodName) prog_1_method_78_code (2 : Nat) (Option.some Jvm.ClassFile.FieldType.int)) ∈ lw_all := lw_g (lw_at lw_m5 215 rfl) rfl
theorem q1316 : (Jvm.Cond.methodLink "ObligingPosts" (291 : Nat) ({ cls := "ObligingPosts", name := "laysArms", desc := "(I)V" } : Jvm.MethodName)) ∈ lw_all := lw_g (lw_at lw_m5 216 rfl) rfl
theorem q1317 : (Jvm.Cond.privateMethod ({ cls := "ObligingPosts", name := "laysArms", desc := "(I)V" } : Jvm.MethodName)) ∈ lw_tbl := lw_at lw_m5 217 rfl
theorem q1318 : (Jvm.Cond.instanceMethod ({ cls := "ObligingPosts", name := "laysArms", desc := "(I)V" } : Jvm.MethodName)) ∈ lw_all := lw_g (lw_at lw_m5 218 rfl) rfl
theorem q1319 : (Jvm.Cond.code ({ cls := "ObligingPosts", name := "laysArms", desc := "(I)V" } : Jvm.MethodName) prog_1_method_77_code (3 : Nat) (Option.none : Option Jvm.ClassFile.FieldType)) ∈ lw_all := lw_g (lw_at lw_m5 219 rfl) rfl
theorem q1320 : (Jvm.Cond.methodLink "ObligingPosts" (295 : Nat) ({ cls := "ObligingPosts", name := "isTree", desc := "()Z" } : Jvm.MethodName)) ∈ lw_all := lw_g (lw_at lw_m5 220 rfl) rfl
theorem q1321 : (Jvm.Cond.privateMethod ({ cls := "ObligingPosts", name := "isTree", desc := "()Z" } : Jvm.MethodName)) ∈ lw_tbl := lw_at lw_m5 221 rfl
theorem q1322 : (Jvm.Cond.instanceMethod ({ cls := "ObligingPosts", name := "isTree", desc := "()Z" } : Jvm.MethodName)) ∈ lw_all := lw_g (lw_at lw_m5 222 rfl) rfl
theorem q1323 : (Jvm.Cond.code ({ cls := "ObligingPosts", name := "isTree", desc := "()Z" } : Jvm.MethodName) prog_1_method_76_code (2 : Nat) (Option.some Jvm.ClassFile.FieldType.boolean)) ∈ lw_all := lw_g (lw_at lw_m5 223 rfl) rfl
theorem q1324 : (Jvm.Cond.methodLink "ObligingPosts" (288 : Nat) ({ cls := "ObligingPosts", name := "byArms", desc := "(II)I" } : Jvm.MethodName)) ∈ lw_all := lw_g (lw_at lw_m5 224 rfl) rfl
theorem q1325 : (Jvm.Cond.privateMethod ({ cls := "ObligingPosts", name := "byArms", desc := "(II)I" } : Jvm.MethodName)) ∈ lw_tbl := lw_at lw_m5 225 rfl
theorem q1326 : (Jvm.Cond.instanceMethod ({ cls := "ObligingPosts", name := "byArms", desc := "(II)I" } : Jvm.MethodName)) ∈ lw_all := lw_g (lw_at lw_m5 226 rfl) rfl
theorem q1327 : (Jvm.Cond.code ({ cls := "ObligingPosts", name := "byArms", desc := "(II)I" } : Jvm.MethodName) prog_1_method_75_code (5 : Nat) (Option.some Jvm.ClassFile.FieldType.int)) ∈ lw_all := lw_g (lw_at lw_m5 227 rfl) rfl
theorem q1329 : (Jvm.Cond.instanceMethod ({ cls := "ObligingPosts", name := "ring", desc := "(I)I" } : Jvm.MethodName)) ∈ lw_all := lw_g (lw_at lw_m5 229 rfl) rfl
theorem q1330 : (Jvm.Cond.selects "ObligingPosts" ({ cls := "ObligingPosts", name := "ring", desc := "(I)I" } : Jvm.MethodName) ({ cls := "ObligingPosts", name := "ring", desc := "(I)I" } : Jvm.MethodName)) ∈ lw_all := lw_g (lw_at lw_m5 230 rfl) rfl
theorem q1331 : (Jvm.Cond.code ({ cls := "ObligingPosts", name := "ring", desc := "(I)I" } : Jvm.MethodName) prog_1_method_79_code (5 : Nat) (Option.some Jvm.ClassFile.FieldType.int)) ∈ lw_all := lw_g (lw_at lw_m5 231 rfl) rfl
theorem q1333 : (Jvm.Cond.instanceMethod ({ cls := "ObligingPosts", name := "trees", desc := "()I" } : Jvm.MethodName)) ∈ lw_all := lw_g (lw_at lw_m5 233 rfl) rfl
theorem q1334 : (Jvm.Cond.selects "ObligingPosts" ({ cls := "ObligingPosts", name := "trees", desc := "()I" } : Jvm.MethodName) ({ cls := "ObligingPosts", name := "trees", desc := "()I" } : Jvm.MethodName)) ∈ lw_all := lw_g (lw_at lw_m5 234 rfl) rfl
theorem q1335 : (Jvm.Cond.code ({ cls := "ObligingPosts", name := "trees", desc := "()I" } : Jvm.MethodName) prog_1_method_80_code (5 : Nat) (Option.some Jvm.ClassFile.FieldType.int)) ∈ lw_all := lw_g (lw_at lw_m5 235 rfl) rfl
theorem q1337 : (Jvm.Cond.instanceMethod ({ cls := "ObligingPosts", name := "point", desc := "(II)I" } : Jvm.MethodName)) ∈ lw_all := lw_g (lw_at lw_m5 237 rfl) rfl
theorem q1338 : (Jvm.Cond.selects "ObligingPosts" ({ cls := "ObligingPosts", name := "point", desc := "(II)I" } : Jvm.MethodName) ({ cls := "ObligingPosts", name := "point", desc := "(II)I" } : Jvm.MethodName)) ∈ lw_all := lw_g (lw_at lw_m5 238 rfl) rfl
theorem q1339 : (Jvm.Cond.code ({ cls := "ObligingPosts", name := "point", desc := "(II)I" } : Jvm.MethodName) prog_1_method_81_code (9 : Nat) (Option.some Jvm.ClassFile.FieldType.int)) ∈ lw_all := lw_g (lw_at lw_m5 239 rfl) rfl
theorem q1340 : (Jvm.Cond.constant "ObligingPosts" (298 : Nat) (100000 : Int32)) ∈ lw_all := lw_g (lw_at lw_m6 0 rfl) rfl
theorem q1342 : (Jvm.Cond.instanceMethod ({ cls := "ObligingPosts", name := "best", desc := "()I" } : Jvm.MethodName)) ∈ lw_all := lw_g (lw_at lw_m6 2 rfl) rfl
theorem q1343 : (Jvm.Cond.selects "ObligingPosts" ({ cls := "ObligingPosts", name := "best", desc := "()I" } : Jvm.MethodName) ({ cls := "ObligingPosts", name := "best", desc := "()I" } : Jvm.MethodName)) ∈ lw_all := lw_g (lw_at lw_m6 3 rfl) rfl
theorem q1344 : (Jvm.Cond.code ({ cls := "ObligingPosts", name := "best", desc := "()I" } : Jvm.MethodName) prog_1_method_82_code (6 : Nat) (Option.some Jvm.ClassFile.FieldType.int)) ∈ lw_all := lw_g (lw_at lw_m6 4 rfl) rfl
theorem q1345 : (Jvm.Cond.methodLink "ObligingPosts" (299 : Nat) ({ cls := "ObligingPosts$Hours", name := "last", desc := "()I" } : Jvm.MethodName)) ∈ lw_all := lw_g (lw_at lw_m6 5 rfl) rfl
theorem q1351 : (Jvm.Cond.instanceMethod ({ cls := "ObligingPosts", name := "crowds", desc := "()I" } : Jvm.MethodName)) ∈ lw_all := lw_g (lw_at lw_m6 11 rfl) rfl
theorem q1352 : (Jvm.Cond.selects "ObligingPosts" ({ cls := "ObligingPosts", name := "crowds", desc := "()I" } : Jvm.MethodName) ({ cls := "ObligingPosts", name := "crowds", desc := "()I" } : Jvm.MethodName)) ∈ lw_all := lw_g (lw_at lw_m6 12 rfl) rfl
theorem q1353 : (Jvm.Cond.code ({ cls := "ObligingPosts", name := "crowds", desc := "()I" } : Jvm.MethodName) prog_1_method_83_code (6 : Nat) (Option.some Jvm.ClassFile.FieldType.int)) ∈ lw_all := lw_g (lw_at lw_m6 13 rfl) rfl
theorem q1355 : (Jvm.Cond.instanceMethod ({ cls := "ObligingPosts", name := "may", desc := "(II)I" } : Jvm.MethodName)) ∈ lw_all := lw_g (lw_at lw_m6 15 rfl) rfl
theorem q1356 : (Jvm.Cond.selects "ObligingPosts" ({ cls := "ObligingPosts", name := "may", desc := "(II)I" } : Jvm.MethodName) ({ cls := "ObligingPosts", name := "may", desc := "(II)I" } : Jvm.MethodName)) ∈ lw_all := lw_g (lw_at lw_m6 16 rfl) rfl
theorem q1357 : (Jvm.Cond.code ({ cls := "ObligingPosts", name := "may", desc := "(II)I" } : Jvm.MethodName) prog_1_method_87_code (4 : Nat) (Option.some Jvm.ClassFile.FieldType.int)) ∈ lw_all := lw_g (lw_at lw_m6 17 rfl) rfl
theorem q1358 : (Jvm.Cond.methodLink "ObligingPosts" (319 : Nat) ({ cls := "ObligingPosts", name := "whyNotOf", desc := "(II)I" } : Jvm.MethodName)) ∈ lw_all := lw_g (lw_at lw_m6 18 rfl) rfl
theorem q1359 : (Jvm.Cond.privateMethod ({ cls := "ObligingPosts", name := "whyNotOf", desc := "(II)I" } : Jvm.MethodName)) ∈ lw_tbl := lw_at lw_m6 19 rfl
theorem q1360 : (Jvm.Cond.instanceMethod ({ cls := "ObligingPosts", name := "whyNotOf", desc := "(II)I" } : Jvm.MethodName)) ∈ lw_all := lw_g (lw_at lw_m6 20 rfl) rfl
theorem q1361 : (Jvm.Cond.code ({ cls := "ObligingPosts", name := "whyNotOf", desc := "(II)I" } : Jvm.MethodName) prog_1_method_85_code (3 : Nat) (Option.some Jvm.ClassFile.FieldType.int)) ∈ lw_all := lw_g (lw_at lw_m6 21 rfl) rfl
theorem q1362 : (Jvm.Cond.methodLink "ObligingPosts" (316 : Nat) ({ cls := "ObligingPosts", name := "whyNot", desc := "(I)I" } : Jvm.MethodName)) ∈ lw_all := lw_g (lw_at lw_m6 22 rfl) rfl
theorem q1363 : (Jvm.Cond.privateMethod ({ cls := "ObligingPosts", name := "whyNot", desc := "(I)I" } : Jvm.MethodName)) ∈ lw_tbl := lw_at lw_m6 23 rfl
theorem q1364 : (Jvm.Cond.instanceMethod ({ cls := "ObligingPosts", name := "whyNot", desc := "(I)I" } : Jvm.MethodName)) ∈ lw_all := lw_g (lw_at lw_m6 24 rfl) rfl
theorem q1365 : (Jvm.Cond.code ({ cls := "ObligingPosts", name := "whyNot", desc := "(I)I" } : Jvm.MethodName) prog_1_method_84_code (4 : Nat) (Option.some Jvm.ClassFile.FieldType.int)) ∈ lw_all := lw_g (lw_at lw_m6 25 rfl) rfl
theorem q1366 : (Jvm.Cond.methodLink "ObligingPosts" (309 : Nat) ({ cls := "ObligingPosts$Slot", name := "many", desc := "()I" } : Jvm.MethodName)) ∈ lw_all := lw_g (lw_at lw_m6 26 rfl) rfl
theorem q1370 : (Jvm.Cond.methodLink "ObligingPosts" (310 : Nat) ({ cls := "ObligingPosts$Slot", name := "number", desc := "(I)J" } : Jvm.MethodName)) ∈ lw_all := lw_g (lw_at lw_m6 30 rfl) rfl
theorem q1374 : (Jvm.Cond.constantLong "ObligingPosts" (314 : Nat) (-1 : Int64)) ∈ lw_all := lw_g (lw_at lw_m6 34 rfl) rfl
theorem q1375 : (Jvm.Cond.methodLink "ObligingPosts" (322 : Nat) ({ cls := "ObligingPosts$Stood", name := "of", desc := "(LObligingPosts$Slot;I)LObligingPosts$Stood;" } : Jvm.MethodName)) ∈ lw_all := lw_g (lw_at lw_m6 35 rfl) rfl
theorem q1383 : (Jvm.Cond.privateMethod ({ cls := "ObligingPosts", name := "isSo", desc := "(LObligingPosts$Slot;)Z" } : Jvm.MethodName)) ∈ lw_tbl := lw_at lw_m6 43 rfl
theorem q1384 : (Jvm.Cond.instanceMethod ({ cls := "ObligingPosts", name := "isSo", desc := "(LObligingPosts$Slot;)Z" } : Jvm.MethodName)) ∈ lw_all := lw_g (lw_at lw_m6 44 rfl) rfl
theorem q1385 : (Jvm.Cond.code ({ cls := "ObligingPosts", name := "isSo", desc := "(LObligingPosts$Slot;)Z" } : Jvm.MethodName) prog_1_method_86_code (3 : Nat) (Option.some Jvm.ClassFile.FieldType.boolean)) ∈ lw_all := lw_g (lw_at lw_m6 45 rfl) rfl
theorem q1400 : (Jvm.Cond.instanceMethod ({ cls := "ObligingPosts", name := "ask", desc := "(II)I" } : Jvm.MethodName)) ∈ lw_all := lw_g (lw_at lw_m6 60 rfl) rfl
theorem q1401 : (Jvm.Cond.selects "ObligingPosts" ({ cls := "ObligingPosts", name := "ask", desc := "(II)I" } : Jvm.MethodName) ({ cls := "ObligingPosts", name := "ask", desc := "(II)I" } : Jvm.MethodName)) ∈ lw_all := lw_g (lw_at lw_m6 61 rfl) rfl
theorem q1402 : (Jvm.Cond.code ({ cls := "ObligingPosts", name := "ask", desc := "(II)I" } : Jvm.MethodName) prog_1_method_88_code (4 : Nat) (Option.some Jvm.ClassFile.FieldType.int)) ∈ lw_all := lw_g (lw_at lw_m6 62 rfl) rfl
theorem q1404 : (Jvm.Cond.instanceMethod ({ cls := "ObligingPosts", name := "leaves", desc := "(II)I" } : Jvm.MethodName)) ∈ lw_all := lw_g (lw_at lw_m6 64 rfl) rfl
theorem q1405 : (Jvm.Cond.selects "ObligingPosts" ({ cls := "ObligingPosts", name := "leaves", desc := "(II)I" } : Jvm.MethodName) ({ cls := "ObligingPosts", name := "leaves", desc := "(II)I" } : Jvm.MethodName)) ∈ lw_all := lw_g (lw_at lw_m6 65 rfl) rfl
theorem q1406 : (Jvm.Cond.code ({ cls := "ObligingPosts", name := "leaves", desc := "(II)I" } : Jvm.MethodName) prog_1_method_89_code (4 : Nat) (Option.some Jvm.ClassFile.FieldType.int)) ∈ lw_all := lw_g (lw_at lw_m6 66 rfl) rfl
theorem q1408 : (Jvm.Cond.instanceMethod ({ cls := "ObligingPosts", name := "laws", desc := "(I)I" } : Jvm.MethodName)) ∈ lw_all := lw_g (lw_at lw_m6 68 rfl) rfl
theorem q1409 : (Jvm.Cond.selects "ObligingPosts" ({ cls := "ObligingPosts", name := "laws", desc := "(I)I" } : Jvm.MethodName) ({ cls := "ObligingPosts", name := "laws", desc := "(I)I" } : Jvm.MethodName)) ∈ lw_all := lw_g (lw_at lw_m6 69 rfl) rfl
theorem q1410 : (Jvm.Cond.code ({ cls := "ObligingPosts", name := "laws", desc := "(I)I" } : Jvm.MethodName) prog_1_method_91_code (5 : Nat) (Option.some Jvm.ClassFile.FieldType.int)) ∈ lw_all := lw_g (lw_at lw_m6 70 rfl) rfl
theorem q1411 : (Jvm.Cond.methodLink "ObligingPosts" (338 : Nat) ({ cls := "ObligingPosts", name := "byLaw", desc := "(I)I" } : Jvm.MethodName)) ∈ lw_all := lw_g (lw_at lw_m6 71 rfl) rfl
theorem q1412 : (Jvm.Cond.privateMethod ({ cls := "ObligingPosts", name := "byLaw", desc := "(I)I" } : Jvm.MethodName)) ∈ lw_tbl := lw_at lw_m6 72 rfl
theorem q1413 : (Jvm.Cond.instanceMethod ({ cls := "ObligingPosts", name := "byLaw", desc := "(I)I" } : Jvm.MethodName)) ∈ lw_all := lw_g (lw_at lw_m6 73 rfl) rfl
theorem q1414 : (Jvm.Cond.code ({ cls := "ObligingPosts", name := "byLaw", desc := "(I)I" } : Jvm.MethodName) prog_1_method_90_code (2 : Nat) (Option.some Jvm.ClassFile.FieldType.int)) ∈ lw_all := lw_g (lw_at lw_m6 74 rfl) rfl
theorem q1415 : (Jvm.Cond.methodLink "ObligingPosts" (341 : Nat) ({ cls := "ObligingPosts", name := "isSo", desc := "(LObligingPosts$Slot;)Z" } : Jvm.MethodName)) ∈ lw_all := lw_g (lw_at lw_m6 75 rfl) rfl
theorem q1417 : (Jvm.Cond.instanceMethod ({ cls := "ObligingPosts", name := "by", desc := "(I)I" } : Jvm.MethodName)) ∈ lw_all := lw_g (lw_at lw_m6 77 rfl) rfl
theorem q1418 : (Jvm.Cond.selects "ObligingPosts" ({ cls := "ObligingPosts", name := "by", desc := "(I)I" } : Jvm.MethodName) ({ cls := "ObligingPosts", name := "by", desc := "(I)I" } : Jvm.MethodName)) ∈ lw_all := lw_g (lw_at lw_m6 78 rfl) rfl
theorem q1419 : (Jvm.Cond.code ({ cls := "ObligingPosts", name := "by", desc := "(I)I" } : Jvm.MethodName) prog_1_method_92_code (2 : Nat) (Option.some Jvm.ClassFile.FieldType.int)) ∈ lw_all := lw_g (lw_at lw_m6 79 rfl) rfl
theorem q1420 : (Jvm.Cond.methodLink "ObligingPosts" (345 : Nat) ({ cls := "ObligingPosts", name := "isLaw", desc := "(I)Z" } : Jvm.MethodName)) ∈ lw_all := lw_g (lw_at lw_m6 80 rfl) rfl
theorem q1421 : (Jvm.Cond.static ({ cls := "ObligingPosts", name := "isLaw", desc := "(I)Z" } : Jvm.MethodName)) ∈ lw_all := lw_g (lw_at lw_m6 81 rfl) rfl
theorem q1422 : (Jvm.Cond.code ({ cls := "ObligingPosts", name := "isLaw", desc := "(I)Z" } : Jvm.MethodName) prog_1_method_25_code (1 : Nat) (Option.some Jvm.ClassFile.FieldType.boolean)) ∈ lw_all := lw_g (lw_at lw_m6 82 rfl) rfl
theorem q1424 : (Jvm.Cond.instanceMethod ({ cls := "ObligingPosts", name := "law", desc := "()I" } : Jvm.MethodName)) ∈ lw_all := lw_g (lw_at lw_m6 84 rfl) rfl
theorem q1425 : (Jvm.Cond.selects "ObligingPosts" ({ cls := "ObligingPosts", name := "law", desc := "()I" } : Jvm.MethodName) ({ cls := "ObligingPosts", name := "law", desc := "()I" } : Jvm.MethodName)) ∈ lw_all := lw_g (lw_at lw_m6 85 rfl) rfl
theorem q1426 : (Jvm.Cond.code ({ cls := "ObligingPosts", name := "law", desc := "()I" } : Jvm.MethodName) prog_1_method_93_code (3 : Nat) (Option.some Jvm.ClassFile.FieldType.int)) ∈ lw_all := lw_g (lw_at lw_m6 86 rfl) rfl
theorem q1428 : (Jvm.Cond.instanceMethod ({ cls := "ObligingPosts", name := "worth", desc := "(I)I" } : Jvm.MethodName)) ∈ lw_all := lw_g (lw_at lw_m6 88 rfl) rfl
theorem q1429 : (Jvm.Cond.selects "ObligingPosts" ({ cls := "ObligingPosts", name := "worth", desc := "(I)I" } : Jvm.MethodName) ({ cls := "ObligingPosts", name := "worth", desc := "(I)I" } : Jvm.MethodName)) ∈ lw_all := lw_g (lw_at lw_m6 89 rfl) rfl
theorem q1430 : (Jvm.Cond.code ({ cls := "ObligingPosts", name := "worth", desc := "(I)I" } : Jvm.MethodName) prog_1_method_95_code (2 : Nat) (Option.some Jvm.ClassFile.FieldType.int)) ∈ lw_all := lw_g (lw_at lw_m6 90 rfl) rfl
theorem q1431 : (Jvm.Cond.methodLink "ObligingPosts" (351 : Nat) ({ cls := "ObligingPosts", name := "worthOf", desc := "(I)I" } : Jvm.MethodName)) ∈ lw_all := lw_g (lw_at lw_m6 91 rfl) rfl
theorem q1432 : (Jvm.Cond.privateMethod ({ cls := "ObligingPosts", name := "worthOf", desc := "(I)I" } : Jvm.MethodName)) ∈ lw_tbl := lw_at lw_m6 92 rfl
theorem q1433 : (Jvm.Cond.instanceMethod ({ cls := "ObligingPosts", name := "worthOf", desc := "(I)I" } : Jvm.MethodName)) ∈ lw_all := lw_g (lw_at lw_m6 93 rfl) rfl
theorem q1434 : (Jvm.Cond.code ({ cls := "ObligingPosts", name := "worthOf", desc := "(I)I" } : Jvm.MethodName) prog_1_method_94_code (2 : Nat) (Option.some Jvm.ClassFile.FieldType.int)) ∈ lw_all := lw_g (lw_at lw_m6 94 rfl) rfl
theorem q1436 : (Jvm.Cond.instanceMethod ({ cls := "ObligingPosts", name := "share", desc := "(II)I" } : Jvm.MethodName)) ∈ lw_all := lw_g (lw_at lw_m6 96 rfl) rfl
theorem q1437 : (Jvm.Cond.selects "ObligingPosts" ({ cls := "ObligingPosts", name := "share", desc := "(II)I" } : Jvm.MethodName) ({ cls := "ObligingPosts", name := "share", desc := "(II)I" } : Jvm.MethodName)) ∈ lw_all := lw_g (lw_at lw_m6 97 rfl) rfl
theorem q1438 : (Jvm.Cond.code ({ cls := "ObligingPosts", name := "share", desc := "(II)I" } : Jvm.MethodName) prog_1_method_99_code (7 : Nat) (Option.some Jvm.ClassFile.FieldType.int)) ∈ lw_all := lw_g (lw_at lw_m6 98 rfl) rfl
theorem q1439 : (Jvm.Cond.methodLink "ObligingPosts" (354 : Nat) ({ cls := "ObligingPosts", name := "factorial", desc := "(I)J" } : Jvm.MethodName)) ∈ lw_all := lw_g (lw_at lw_m6 99 rfl) rfl
theorem q1440 : (Jvm.Cond.static ({ cls := "ObligingPosts", name := "factorial", desc := "(I)J" } : Jvm.MethodName)) ∈ lw_all := lw_g (lw_at lw_m6 100 rfl) rfl
theorem q1441 : (Jvm.Cond.code ({ cls := "ObligingPosts", name := "factorial", desc := "(I)J" } : Jvm.MethodName) prog_1_method_96_code (1 : Nat) (Option.some Jvm.ClassFile.FieldType.long)) ∈ lw_all := lw_g (lw_at lw_m6 101 rfl) rfl
theorem q1442 : (Jvm.Cond.methodLink "ObligingPosts" (365 : Nat) ({ cls := "ObligingPosts", name := "part", desc := "(JJI)J" } : Jvm.MethodName)) ∈ lw_all := lw_g (lw_at lw_m6 102 rfl) rfl
theorem q1443 : (Jvm.Cond.static ({ cls := "ObligingPosts", name := "part", desc := "(JJI)J" } : Jvm.MethodName)) ∈ lw_all := lw_g (lw_at lw_m6 103 rfl) rfl
theorem q1444 : (Jvm.Cond.code ({ cls := "ObligingPosts", name := "part", desc := "(JJI)J" } : Jvm.MethodName) prog_1_method_98_code (5 : Nat) (Option.some Jvm.ClassFile.FieldType.long)) ∈ lw_all := lw_g (lw_at lw_m6 104 rfl) rfl
theorem q1445 : (Jvm.Cond.methodLink "ObligingPosts" (361 : Nat) ({ cls := "ObligingPosts", name := "common", desc := "(JJ)J" } : Jvm.MethodName)) ∈ lw_all := lw_g (lw_at lw_m6 105 rfl) rfl
theorem q1446 : (Jvm.Cond.static ({ cls := "ObligingPosts", name := "common", desc := "(JJ)J" } : Jvm.MethodName)) ∈ lw_all := lw_g (lw_at lw_m6 106 rfl) rfl
theorem q1447 : (Jvm.Cond.code ({ cls := "ObligingPosts", name := "common", desc := "(JJ)J" } : Jvm.MethodName) prog_1_method_97_code (4 : Nat) (Option.some Jvm.ClassFile.FieldType.long)) ∈ lw_all := lw_g (lw_at lw_m6 107 rfl) rfl
theorem q1448 : (Jvm.Cond.methodLink "ObligingPosts" (357 : Nat) ({ cls := "java/lang/Math", name := "abs", desc := "(J)J" } : Jvm.MethodName)) ∈ lw_all := lw_g (lw_at lw_m6 108 rfl) rfl
theorem q1452 : (Jvm.Cond.instanceMethod ({ cls := "ObligingPosts", name := "rests", desc := "(II)I" } : Jvm.MethodName)) ∈ lw_all := lw_g (lw_at lw_m6 112 rfl) rfl
theorem q1453 : (Jvm.Cond.selects "ObligingPosts" ({ cls := "ObligingPosts", name := "rests", desc := "(II)I" } : Jvm.MethodName) ({ cls := "ObligingPosts", name := "rests", desc := "(II)I" } : Jvm.MethodName)) ∈ lw_all := lw_g (lw_at lw_m6 113 rfl) rfl
theorem q1454 : (Jvm.Cond.code ({ cls := "ObligingPosts", name := "rests", desc := "(II)I" } : Jvm.MethodName) prog_1_method_102_code (5 : Nat) (Option.some Jvm.ClassFile.FieldType.int)) ∈ lw_all := lw_g (lw_at lw_m6 114 rfl) rfl
theorem q1455 : (Jvm.Cond.methodLink "ObligingPosts" (376 : Nat) ({ cls := "ObligingPosts", name := "isRest", desc := "(IIII)Z" } : Jvm.MethodName)) ∈ lw_all := lw_g (lw_at lw_m6 115 rfl) rfl
theorem q1456 : (Jvm.Cond.privateMethod ({ cls := "ObligingPosts", name := "isRest", desc := "(IIII)Z" } : Jvm.MethodName)) ∈ lw_tbl := lw_at lw_m6 116 rfl
theorem q1457 : (Jvm.Cond.instanceMethod ({ cls := "ObligingPosts", name := "isRest", desc := "(IIII)Z" } : Jvm.MethodName)) ∈ lw_all := lw_g (lw_at lw_m6 117 rfl) rfl
theorem q1458 : (Jvm.Cond.code ({ cls := "ObligingPosts", name := "isRest", desc := "(IIII)Z" } : Jvm.MethodName) prog_1_method_101_code (5 : Nat) (Option.some Jvm.ClassFile.FieldType.boolean)) ∈ lw_all := lw_g (lw_at lw_m6 118 rfl) rfl
theorem q1459 : (Jvm.Cond.methodLink "ObligingPosts" (372 : Nat) ({ cls := "ObligingPosts", name := "getsOf", desc := "(IIIII)I" } : Jvm.MethodName)) ∈ lw_all := lw_g (lw_at lw_m6 119 rfl) rfl
theorem q1460 : (Jvm.Cond.privateMethod ({ cls := "ObligingPosts", name := "getsOf", desc := "(IIIII)I" } : Jvm.MethodName)) ∈ lw_tbl := lw_at lw_m6 120 rfl
theorem q1461 : (Jvm.Cond.instanceMethod ({ cls := "ObligingPosts", name := "getsOf", desc := "(IIIII)I" } : Jvm.MethodName)) ∈ lw_all := lw_g (lw_at lw_m6 121 rfl) rfl
theorem q1462 : (Jvm.Cond.code ({ cls := "ObligingPosts", name := "getsOf", desc := "(IIIII)I" } : Jvm.MethodName) prog_1_method_100_code (7 : Nat) (Option.some Jvm.ClassFile.FieldType.int)) ∈ lw_all := lw_g (lw_at lw_m6 122 rfl) rfl
theorem q1464 : (Jvm.Cond.instanceMethod ({ cls := "ObligingPosts", name := "gets", desc := "(IIII)I" } : Jvm.MethodName)) ∈ lw_all := lw_g (lw_at lw_m6 124 rfl) rfl
theorem q1465 : (Jvm.Cond.selects "ObligingPosts" ({ cls := "ObligingPosts", name := "gets", desc := "(IIII)I" } : Jvm.MethodName) ({ cls := "ObligingPosts", name := "gets", desc := "(IIII)I" } : Jvm.MethodName)) ∈ lw_all := lw_g (lw_at lw_m6 125 rfl) rfl
theorem q1466 : (Jvm.Cond.code ({ cls := "ObligingPosts", name := "gets", desc := "(IIII)I" } : Jvm.MethodName) prog_1_method_103_code (5 : Nat) (Option.some Jvm.ClassFile.FieldType.int)) ∈ lw_all := lw_g (lw_at lw_m6 126 rfl) rfl
theorem q1468 : (Jvm.Cond.instanceMethod ({ cls := "ObligingPosts", name := "chance", desc := "(III)J" } : Jvm.MethodName)) ∈ lw_all := lw_g (lw_at lw_m6 128 rfl) rfl
theorem q1469 : (Jvm.Cond.selects "ObligingPosts" ({ cls := "ObligingPosts", name := "chance", desc := "(III)J" } : Jvm.MethodName) ({ cls := "ObligingPosts", name := "chance", desc := "(III)J" } : Jvm.MethodName)) ∈ lw_all := lw_g (lw_at lw_m6 129 rfl) rfl
theorem q1470 : (Jvm.Cond.code ({ cls := "ObligingPosts", name := "chance", desc := "(III)J" } : Jvm.MethodName) prog_1_method_107_code (4 : Nat) (Option.some Jvm.ClassFile.FieldType.long)) ∈ lw_all := lw_g (lw_at lw_m6 130 rfl) rfl
theorem q1471 : (Jvm.Cond.methodLink "ObligingPosts" (390 : Nat) ({ cls := "ObligingPosts", name := "isSoon", desc := "(I)Z" } : Jvm.MethodName)) ∈ lw_all := lw_g (lw_at lw_m6 131 rfl) rfl
theorem q1472 : (Jvm.Cond.privateMethod ({ cls := "ObligingPosts", name := "isSoon", desc := "(I)Z" } : Jvm.MethodName)) ∈ lw_tbl := lw_at lw_m6 132 rfl
theorem q1473 : (Jvm.Cond.instanceMethod ({ cls := "ObligingPosts", name := "isSoon", desc := "(I)Z" } : Jvm.MethodName)) ∈ lw_all := lw_g (lw_at lw_m6 133 rfl) rfl
theorem q1474 : (Jvm.Cond.code ({ cls := "ObligingPosts", name := "isSoon", desc := "(I)Z" } : Jvm.MethodName) prog_1_method_105_code (2 : Nat) (Option.some Jvm.ClassFile.FieldType.boolean)) ∈ lw_all := lw_g (lw_at lw_m6 134 rfl) rfl
theorem q1475 : (Jvm.Cond.methodLink "ObligingPosts" (393 : Nat) ({ cls := "ObligingPosts", name := "sum", desc := "(II)J" } : Jvm.MethodName)) ∈ lw_all := lw_g (lw_at lw_m6 135 rfl) rfl
theorem q1476 : (Jvm.Cond.privateMethod ({ cls := "ObligingPosts", name := "sum", desc := "(II)J" } : Jvm.MethodName)) ∈ lw_tbl := lw_at lw_m6 136 rfl
theorem q1477 : (Jvm.Cond.instanceMethod ({ cls := "ObligingPosts", name := "sum", desc := "(II)J" } : Jvm.MethodName)) ∈ lw_all := lw_g (lw_at lw_m6 137 rfl) rfl
theorem q1478 : (Jvm.Cond.code ({ cls := "ObligingPosts", name := "sum", desc := "(II)J" } : Jvm.MethodName) prog_1_method_106_code (7 : Nat) (Option.some Jvm.ClassFile.FieldType.long)) ∈ lw_all := lw_g (lw_at lw_m6 138 rfl) rfl
theorem q1479 : (Jvm.Cond.methodLink "ObligingPosts" (380 : Nat) ({ cls := "ObligingPosts", name := "power", desc := "(JI)J" } : Jvm.MethodName)) ∈ lw_all := lw_g (lw_at lw_m6 139 rfl) rfl
theorem q1480 : (Jvm.Cond.static ({ cls := "ObligingPosts", name := "power", desc := "(JI)J" } : Jvm.MethodName)) ∈ lw_all := lw_g (lw_at lw_m6 140 rfl) rfl
theorem q1481 : (Jvm.Cond.code ({ cls := "ObligingPosts", name := "power", desc := "(JI)J" } : Jvm.MethodName) prog_1_method_104_code (3 : Nat) (Option.some Jvm.ClassFile.FieldType.long)) ∈ lw_all := lw_g (lw_at lw_m6 141 rfl) rfl
theorem q1482 : (Jvm.Cond.constantLong "ObligingPosts" (397 : Nat) (-2 : Int64)) ∈ lw_all := lw_g (lw_at lw_m6 142 rfl) rfl
theorem q1484 : (Jvm.Cond.instanceMethod ({ cls := "ObligingPosts", name := "mean", desc := "(II)J" } : Jvm.MethodName)) ∈ lw_all := lw_g (lw_at lw_m6 144 rfl) rfl
theorem q1485 : (Jvm.Cond.selects "ObligingPosts" ({ cls := "ObligingPosts", name := "mean", desc := "(II)J" } : Jvm.MethodName) ({ cls := "ObligingPosts", name := "mean", desc := "(II)J" } : Jvm.MethodName)) ∈ lw_all := lw_g (lw_at lw_m6 145 rfl) rfl
theorem q1486 : (Jvm.Cond.code ({ cls := "ObligingPosts", name := "mean", desc := "(II)J" } : Jvm.MethodName) prog_1_method_108_code (3 : Nat) (Option.some Jvm.ClassFile.FieldType.long)) ∈ lw_all := lw_g (lw_at lw_m6 146 rfl) rfl
theorem q1488 : (Jvm.Cond.instanceMethod ({ cls := "ObligingPosts", name := "drawn", desc := "(II)I" } : Jvm.MethodName)) ∈ lw_all := lw_g (lw_at lw_m6 148 rfl) rfl
theorem q1489 : (Jvm.Cond.selects "ObligingPosts" ({ cls := "ObligingPosts", name := "drawn", desc := "(II)I" } : Jvm.MethodName) ({ cls := "ObligingPosts", name := "drawn", desc := "(II)I" } : Jvm.MethodName)) ∈ lw_all := lw_g (lw_at lw_m6 149 rfl) rfl
theorem q1490 : (Jvm.Cond.code ({ cls := "ObligingPosts", name := "drawn", desc := "(II)I" } : Jvm.MethodName) prog_1_method_111_code (3 : Nat) (Option.some Jvm.ClassFile.FieldType.int)) ∈ lw_all := lw_g (lw_at lw_m6 150 rfl) rfl
theorem q1491 : (Jvm.Cond.methodLink "ObligingPosts" (409 : Nat) ({ cls := "ObligingPosts", name := "isSeed", desc := "(I)Z" } : Jvm.MethodName)) ∈ lw_all := lw_g (lw_at lw_m6 151 rfl) rfl
theorem q1492 : (Jvm.Cond.static ({ cls := "ObligingPosts", name := "isSeed", desc := "(I)Z" } : Jvm.MethodName)) ∈ lw_all := lw_g (lw_at lw_m6 152 rfl) rfl
theorem q1493 : (Jvm.Cond.code ({ cls := "ObligingPosts", name := "isSeed", desc := "(I)Z" } : Jvm.MethodName) prog_1_method_110_code (1 : Nat) (Option.some Jvm.ClassFile.FieldType.boolean)) ∈ lw_all := lw_g (lw_at lw_m6 153 rfl) rfl
theorem q1494 : (Jvm.Cond.constantLong "ObligingPosts" (407 : Nat) (2000000000 : Int64)) ∈ lw_all := lw_g (lw_at lw_m6 154 rfl) rfl
theorem q1495 : (Jvm.Cond.methodLink "ObligingPosts" (412 : Nat) ({ cls := "ObligingPosts", name := "draws", desc := "(J)LObligingPosts$Hours;" } : Jvm.MethodName)) ∈ lw_all := lw_g (lw_at lw_m6 155 rfl) rfl
theorem q1496 : (Jvm.Cond.privateMethod ({ cls := "ObligingPosts", name := "draws", desc := "(J)LObligingPosts$Hours;" } : Jvm.MethodName)) ∈ lw_tbl := lw_at lw_m6 156 rfl
theorem q1497 : (Jvm.Cond.instanceMethod ({ cls := "ObligingPosts", name := "draws", desc := "(J)LObligingPosts$Hours;" } : Jvm.MethodName)) ∈ lw_all := lw_g (lw_at lw_m6 157 rfl) rfl
theorem q1498 : (Jvm.Cond.code ({ cls := "ObligingPosts", name := "draws", desc := "(J)LObligingPosts$Hours;" } : Jvm.MethodName) prog_1_method_109_code (6 : Nat) (Option.some (Jvm.ClassFile.FieldType.object "ObligingPosts$Hours"))) ∈ lw_all := lw_g (lw_at lw_m6 158 rfl) rfl
theorem q1499 : (Jvm.Cond.constantLong "ObligingPosts" (399 : Nat) (1103515245 : Int64)) ∈ lw_all := lw_g (lw_at lw_m6 159 rfl) rfl
theorem q1500 : (Jvm.Cond.constantLong "ObligingPosts" (401 : Nat) (12345 : Int64)) ∈ lw_all := lw_g (lw_at lw_m6 160 rfl) rfl
theorem q1501 : (Jvm.Cond.constantLong "ObligingPosts" (403 : Nat) (2147483648 : Int64)) ∈ lw_all := lw_g (lw_at lw_m6 161 rfl) rfl
theorem q1502 : (Jvm.Cond.constantLong "ObligingPosts" (405 : Nat) (65536 : Int64)) ∈ lw_all := lw_g (lw_at lw_m6 162 rfl) rfl
theorem q1504 : (Jvm.Cond.instanceMethod ({ cls := "ObligingPosts", name := "luck", desc := "(III)I" } : Jvm.MethodName)) ∈ lw_all := lw_g (lw_at lw_m6 164 rfl) rfl
theorem q1505 : (Jvm.Cond.selects "ObligingPosts" ({ cls := "ObligingPosts", name := "luck", desc := "(III)I" } : Jvm.MethodName) ({ cls := "ObligingPosts", name := "luck", desc := "(III)I" } : Jvm.MethodName)) ∈ lw_all := lw_g (lw_at lw_m6 165 rfl) rfl
theorem q1506 : (Jvm.Cond.code ({ cls := "ObligingPosts", name := "luck", desc := "(III)I" } : Jvm.MethodName) prog_1_method_112_code (6 : Nat) (Option.some Jvm.ClassFile.FieldType.int)) ∈ lw_all := lw_g (lw_at lw_m6 166 rfl) rfl
theorem q1508 : (Jvm.Cond.instanceMethod ({ cls := "ObligingPosts", name := "twists", desc := "(II)I" } : Jvm.MethodName)) ∈ lw_all := lw_g (lw_at lw_m6 168 rfl) rfl
theorem q1509 : (Jvm.Cond.selects "ObligingPosts" ({ cls := "ObligingPosts", name := "twists", desc := "(II)I" } : Jvm.MethodName) ({ cls := "ObligingPosts", name := "twists", desc := "(II)I" } : Jvm.MethodName)) ∈ lw_all := lw_g (lw_at lw_m6 169 rfl) rfl
theorem q1510 : (Jvm.Cond.code ({ cls := "ObligingPosts", name := "twists", desc := "(II)I" } : Jvm.MethodName) prog_1_method_114_code (3 : Nat) (Option.some Jvm.ClassFile.FieldType.int)) ∈ lw_all := lw_g (lw_at lw_m6 170 rfl) rfl
theorem q1511 : (Jvm.Cond.classLink "ObligingPosts" (423 : Nat) "ObligingPosts$Deed") ∈ lw_all := lw_g (lw_at lw_m6 171 rfl) rfl
theorem q1513 : (Jvm.Cond.methodLink "ObligingPosts" (425 : Nat) ({ cls := "ObligingPosts$Deed", name := "<init>", desc := "(ZII)V" } : Jvm.MethodName)) ∈ lw_all := lw_g (lw_at lw_m6 173 rfl) rfl
theorem q1530 : (Jvm.Cond.methodLink "ObligingPosts" (428 : Nat) ({ cls := "ObligingPosts", name := "adds", desc := "(LObligingPosts$Deed;)Z" } : Jvm.MethodName)) ∈ lw_all := lw_g (lw_at lw_m6 190 rfl) rfl
theorem q1531 : (Jvm.Cond.privateMethod ({ cls := "ObligingPosts", name := "adds", desc := "(LObligingPosts$Deed;)Z" } : Jvm.MethodName)) ∈ lw_tbl := lw_at lw_m6 191 rfl
theorem q1532 : (Jvm.Cond.instanceMethod ({ cls := "ObligingPosts", name := "adds", desc := "(LObligingPosts$Deed;)Z" } : Jvm.MethodName)) ∈ lw_all := lw_g (lw_at lw_m6 192 rfl) rfl
theorem q1533 : (Jvm.Cond.code ({ cls := "ObligingPosts", name := "adds", desc := "(LObligingPosts$Deed;)Z" } : Jvm.MethodName) prog_1_method_113_code (2 : Nat) (Option.some Jvm.ClassFile.FieldType.boolean)) ∈ lw_all := lw_g (lw_at lw_m6 193 rfl) rfl
theorem q1534 : (Jvm.Cond.interfaceEntry "ObligingPosts" (419 : Nat)) ∈ lw_tbl := lw_at lw_m6 194 rfl
theorem q1535 : (Jvm.Cond.methodLink "ObligingPosts" (419 : Nat) ({ cls := "java/util/List", name := "add", desc := "(Ljava/lang/Object;)Z" } : Jvm.MethodName)) ∈ lw_all := lw_g (lw_at lw_m6 195 rfl) rfl
theorem q1537 : (Jvm.Cond.instanceMethod ({ cls := "ObligingPosts", name := "holds", desc := "(II)I" } : Jvm.MethodName)) ∈ lw_all := lw_g (lw_at lw_m6 197 rfl) rfl
theorem q1538 : (Jvm.Cond.selects "ObligingPosts" ({ cls := "ObligingPosts", name := "holds", desc := "(II)I" } : Jvm.MethodName) ({ cls := "ObligingPosts", name := "holds", desc := "(II)I" } : Jvm.MethodName)) ∈ lw_all := lw_g (lw_at lw_m6 198 rfl) rfl
theorem q1539 : (Jvm.Cond.code ({ cls := "ObligingPosts", name := "holds", desc := "(II)I" } : Jvm.MethodName) prog_1_method_115_code (3 : Nat) (Option.some Jvm.ClassFile.FieldType.int)) ∈ lw_all := lw_g (lw_at lw_m6 199 rfl) rfl
theorem q1541 : (Jvm.Cond.instanceMethod ({ cls := "ObligingPosts", name := "undo", desc := "()I" } : Jvm.MethodName)) ∈ lw_all := lw_g (lw_at lw_m6 201 rfl) rfl
theorem q1542 : (Jvm.Cond.selects "ObligingPosts" ({ cls := "ObligingPosts", name := "undo", desc := "()I" } : Jvm.MethodName) ({ cls := "ObligingPosts", name := "undo", desc := "()I" } : Jvm.MethodName)) ∈ lw_all := lw_g (lw_at lw_m6 202 rfl) rfl
theorem q1543 : (Jvm.Cond.code ({ cls := "ObligingPosts", name := "undo", desc := "()I" } : Jvm.MethodName) prog_1_method_116_code (1 : Nat) (Option.some Jvm.ClassFile.FieldType.int)) ∈ lw_all := lw_g (lw_at lw_m6 203 rfl) rfl
theorem q1544 : (Jvm.Cond.interfaceEntry "ObligingPosts" (432 : Nat)) ∈ lw_tbl := lw_at lw_m6 204 rfl
theorem q1545 : (Jvm.Cond.methodLink "ObligingPosts" (432 : Nat) ({ cls := "java/util/List", name := "isEmpty", desc := "()Z" } : Jvm.MethodName)) ∈ lw_all := lw_g (lw_at lw_m6 205 rfl) rfl
theorem q1553 : (Jvm.Cond.interfaceEntry "ObligingPosts" (435 : Nat)) ∈ lw_tbl := lw_at lw_m6 213 rfl
theorem q1554 : (Jvm.Cond.methodLink "ObligingPosts" (435 : Nat) ({ cls := "java/util/List", name := "remove", desc := "(I)Ljava/lang/Object;" } : Jvm.MethodName)) ∈ lw_all := lw_g (lw_at lw_m6 214 rfl) rfl
theorem q1568 : (Jvm.Cond.instanceMethod ({ cls := "ObligingPosts", name := "anew", desc := "()I" } : Jvm.MethodName)) ∈ lw_all := lw_g (lw_at lw_m6 228 rfl) rfl
theorem q1569 : (Jvm.Cond.selects "ObligingPosts" ({ cls := "ObligingPosts", name := "anew", desc := "()I" } : Jvm.MethodName) ({ cls := "ObligingPosts", name := "anew", desc := "()I" } : Jvm.MethodName)) ∈ lw_all := lw_g (lw_at lw_m6 229 rfl) rfl
theorem q1570 : (Jvm.Cond.code ({ cls := "ObligingPosts", name := "anew", desc := "()I" } : Jvm.MethodName) prog_1_method_117_code (2 : Nat) (Option.some Jvm.ClassFile.FieldType.int)) ∈ lw_all := lw_g (lw_at lw_m6 230 rfl) rfl
theorem q1571 : (Jvm.Cond.interfaceEntry "ObligingPosts" (438 : Nat)) ∈ lw_tbl := lw_at lw_m6 231 rfl
theorem q1572 : (Jvm.Cond.methodLink "ObligingPosts" (438 : Nat) ({ cls := "java/util/List", name := "clear", desc := "()V" } : Jvm.MethodName)) ∈ lw_all := lw_g (lw_at lw_m6 232 rfl) rfl
theorem q1581 : (Jvm.Cond.instanceMethod ({ cls := "ObligingPosts", name := "rate", desc := "(II)I" } : Jvm.MethodName)) ∈ lw_all := lw_g (lw_at lw_m7 1 rfl) rfl
theorem q1582 : (Jvm.Cond.selects "ObligingPosts" ({ cls := "ObligingPosts", name := "rate", desc := "(II)I" } : Jvm.MethodName) ({ cls := "ObligingPosts", name := "rate", desc := "(II)I" } : Jvm.MethodName)) ∈ lw_all := lw_g (lw_at lw_m7 2 rfl) rfl
theorem q1583 : (Jvm.Cond.code ({ cls := "ObligingPosts", name := "rate", desc := "(II)I" } : Jvm.MethodName) prog_1_method_118_code (4 : Nat) (Option.some Jvm.ClassFile.FieldType.int)) ∈ lw_all := lw_g (lw_at lw_m7 3 rfl) rfl
theorem q1585 : (Jvm.Cond.instanceMethod ({ cls := "ObligingPosts", name := "count", desc := "(I)I" } : Jvm.MethodName)) ∈ lw_all := lw_g (lw_at lw_m7 5 rfl) rfl
theorem q1586 : (Jvm.Cond.selects "ObligingPosts" ({ cls := "ObligingPosts", name := "count", desc := "(I)I" } : Jvm.MethodName) ({ cls := "ObligingPosts", name := "count", desc := "(I)I" } : Jvm.MethodName)) ∈ lw_all := lw_g (lw_at lw_m7 6 rfl) rfl
theorem q1587 : (Jvm.Cond.code ({ cls := "ObligingPosts", name := "count", desc := "(I)I" } : Jvm.MethodName) prog_1_method_119_code (7 : Nat) (Option.some Jvm.ClassFile.FieldType.int)) ∈ lw_all := lw_g (lw_at lw_m7 7 rfl) rfl
theorem q1589 : (Jvm.Cond.instanceMethod ({ cls := "ObligingPosts", name := "image", desc := "(I)I" } : Jvm.MethodName)) ∈ lw_all := lw_g (lw_at lw_m7 9 rfl) rfl
theorem q1590 : (Jvm.Cond.selects "ObligingPosts" ({ cls := "ObligingPosts", name := "image", desc := "(I)I" } : Jvm.MethodName) ({ cls := "ObligingPosts", name := "image", desc := "(I)I" } : Jvm.MethodName)) ∈ lw_all := lw_g (lw_at lw_m7 10 rfl) rfl
theorem q1591 : (Jvm.Cond.code ({ cls := "ObligingPosts", name := "image", desc := "(I)I" } : Jvm.MethodName) prog_1_method_120_code (2 : Nat) (Option.some Jvm.ClassFile.FieldType.int)) ∈ lw_all := lw_g (lw_at lw_m7 11 rfl) rfl
theorem q1592 : (Jvm.Cond.constantLong "ObligingPosts" (447 : Nat) (2 : Int64)) ∈ lw_all := lw_g (lw_at lw_m7 12 rfl) rfl
theorem q1593 : (Jvm.Cond.methodLink "ObligingPosts" (449 : Nat) ({ cls := "ObligingPosts$Heath", name := "same", desc := "()LObligingPosts$Heath;" } : Jvm.MethodName)) ∈ lw_all := lw_g (lw_at lw_m7 13 rfl) rfl
theorem q1681 : (Jvm.Cond.instanceMethod ({ cls := "ObligingPosts", name := "back", desc := "(I)I" } : Jvm.MethodName)) ∈ lw_all := lw_g (lw_at lw_m7 101 rfl) rfl
theorem q1682 : (Jvm.Cond.selects "ObligingPosts" ({ cls := "ObligingPosts", name := "back", desc := "(I)I" } : Jvm.MethodName) ({ cls := "ObligingPosts", name := "back", desc := "(I)I" } : Jvm.MethodName)) ∈ lw_all := lw_g (lw_at lw_m7 102 rfl) rfl
theorem q1683 : (Jvm.Cond.code ({ cls := "ObligingPosts", name := "back", desc := "(I)I" } : Jvm.MethodName) prog_1_method_121_code (2 : Nat) (Option.some Jvm.ClassFile.FieldType.int)) ∈ lw_all := lw_g (lw_at lw_m7 103 rfl) rfl
theorem q2499 : (Jvm.Cond.castable "ObligingPosts" "java/lang/Object") ∈ lw_tbl := lw_at lw_m10 199 rfl
theorem q142 : (Jvm.Cond.initialized "ObligingPosts$Slot") ∈ lw_all := lw_g (lw_at lw_m1 2 rfl) rfl
theorem q187 : (Jvm.Cond.instanceMethod ({ cls := "ObligingPosts$Slot", name := "begins", desc := "(II)Z" } : Jvm.MethodName)) ∈ lw_all := lw_g (lw_at lw_m1 47 rfl) rfl
theorem q188 : (Jvm.Cond.selects "ObligingPosts$Slot" ({ cls := "ObligingPosts$Slot", name := "begins", desc := "(II)Z" } : Jvm.MethodName) ({ cls := "ObligingPosts$Slot", name := "begins", desc := "(II)Z" } : Jvm.MethodName)) ∈ lw_all := lw_g (lw_at lw_m1 48 rfl) rfl
theorem q189 : (Jvm.Cond.codeWith ({ cls := "ObligingPosts$Slot", name := "begins", desc := "(II)Z" } : Jvm.MethodName) prog_9_method_2_code (4 : Nat) (Option.some Jvm.ClassFile.FieldType.boolean) [((0 : Nat), (65 : Nat), (68 : Nat), (15 : Nat))]) ∈ lw_all := lw_g (lw_at lw_m1 49 rfl) rfl
theorem q190 : (Jvm.Cond.classLink "ObligingPosts$Slot" (15 : Nat) "java/lang/NegativeArraySizeException") ∈ lw_all := lw_g (lw_at lw_m1 50 rfl) rfl
theorem q286 : (Jvm.Cond.instanceMethod ({ cls := "ObligingPosts$Slot", name := "puts", desc := "(IJ)I" } : Jvm.MethodName)) ∈ lw_all := lw_g (lw_at lw_m1 146 rfl) rfl
theorem q287 : (Jvm.Cond.selects "ObligingPosts$Slot" ({ cls := "ObligingPosts$Slot", name := "puts", desc := "(IJ)I" } : Jvm.MethodName) ({ cls := "ObligingPosts$Slot", name := "puts", desc := "(IJ)I" } : Jvm.MethodName)) ∈ lw_all := lw_g (lw_at lw_m1 147 rfl) rfl
theorem q288 : (Jvm.Cond.codeWith ({ cls := "ObligingPosts$Slot", name := "puts", desc := "(IJ)I" } : Jvm.MethodName) prog_9_method_5_code (5 : Nat) (Option.some Jvm.ClassFile.FieldType.int) [((0 : Nat), (6 : Nat), (9 : Nat), (29 : Nat)), ((0 : Nat), (6 : Nat), (14 : Nat), (31 : Nat))]) ∈ lw_all := lw_g (lw_at lw_m1 148 rfl) rfl
theorem q289 : (Jvm.Cond.classLink "ObligingPosts$Slot" (29 : Nat) "java/lang/NullPointerException") ∈ lw_all := lw_g (lw_at lw_m1 149 rfl) rfl
theorem q314 : (Jvm.Cond.classLink "ObligingPosts$Slot" (31 : Nat) "java/lang/ArrayIndexOutOfBoundsException") ∈ lw_all := lw_g (lw_at lw_m1 174 rfl) rfl
theorem q333 : (Jvm.Cond.methodLink "ObligingPosts$Slot" (25 : Nat) ({ cls := "ObligingPosts$Slot", name := "put", desc := "(IJ)V" } : Jvm.MethodName)) ∈ lw_all := lw_g (lw_at lw_m1 193 rfl) rfl
theorem q334 : (Jvm.Cond.privateMethod ({ cls := "ObligingPosts$Slot", name := "put", desc := "(IJ)V" } : Jvm.MethodName)) ∈ lw_tbl := lw_at lw_m1 194 rfl
theorem q335 : (Jvm.Cond.instanceMethod ({ cls := "ObligingPosts$Slot", name := "put", desc := "(IJ)V" } : Jvm.MethodName)) ∈ lw_all := lw_g (lw_at lw_m1 195 rfl) rfl
theorem q336 : (Jvm.Cond.instantiable "ObligingPosts$Slot" (1 : Nat)) ∈ lw_all := lw_g (lw_at lw_m1 196 rfl) rfl
theorem q337 : (Jvm.Cond.code ({ cls := "ObligingPosts$Slot", name := "put", desc := "(IJ)V" } : Jvm.MethodName) prog_9_method_6_code (5 : Nat) (Option.none : Option Jvm.ClassFile.FieldType)) ∈ lw_all := lw_g (lw_at lw_m1 197 rfl) rfl
theorem q338 : (Jvm.Cond.classLink "ObligingPosts$Slot" (17 : Nat) "[B") ∈ lw_all := lw_g (lw_at lw_m1 198 rfl) rfl
theorem q339 : (Jvm.Cond.classLink "ObligingPosts$Slot" (19 : Nat) "[S") ∈ lw_all := lw_g (lw_at lw_m1 199 rfl) rfl
theorem q340 : (Jvm.Cond.methodLink "ObligingPosts$Slot" (33 : Nat) ({ cls := "ObligingPosts$Slot", name := "putWider", desc := "(IJ)V" } : Jvm.MethodName)) ∈ lw_all := lw_g (lw_at lw_m1 200 rfl) rfl
theorem q341 : (Jvm.Cond.privateMethod ({ cls := "ObligingPosts$Slot", name := "putWider", desc := "(IJ)V" } : Jvm.MethodName)) ∈ lw_tbl := lw_at lw_m1 201 rfl
theorem q342 : (Jvm.Cond.instanceMethod ({ cls := "ObligingPosts$Slot", name := "putWider", desc := "(IJ)V" } : Jvm.MethodName)) ∈ lw_all := lw_g (lw_at lw_m1 202 rfl) rfl
theorem q343 : (Jvm.Cond.codeWith ({ cls := "ObligingPosts$Slot", name := "putWider", desc := "(IJ)V" } : Jvm.MethodName) prog_9_method_7_code (6 : Nat) (Option.none : Option Jvm.ClassFile.FieldType) [((0 : Nat), (15 : Nat), (18 : Nat), (36 : Nat))]) ∈ lw_all := lw_g (lw_at lw_m1 203 rfl) rfl
theorem q344 : (Jvm.Cond.classLink "ObligingPosts$Slot" (36 : Nat) "java/lang/ClassCastException") ∈ lw_all := lw_g (lw_at lw_m1 204 rfl) rfl
theorem q358 : (Jvm.Cond.classLink "ObligingPosts$Slot" (21 : Nat) "[I") ∈ lw_all := lw_g (lw_at lw_m1 218 rfl) rfl
theorem q359 : (Jvm.Cond.classLink "ObligingPosts$Slot" (23 : Nat) "[J") ∈ lw_all := lw_g (lw_at lw_m1 219 rfl) rfl
theorem q365 : (Jvm.Cond.instanceMethod ({ cls := "ObligingPosts$Slot", name := "pastes", desc := "(ILObligingPosts$Slot;II)I" } : Jvm.MethodName)) ∈ lw_all := lw_g (lw_at lw_m1 225 rfl) rfl
theorem q366 : (Jvm.Cond.selects "ObligingPosts$Slot" ({ cls := "ObligingPosts$Slot", name := "pastes", desc := "(ILObligingPosts$Slot;II)I" } : Jvm.MethodName) ({ cls := "ObligingPosts$Slot", name := "pastes", desc := "(ILObligingPosts$Slot;II)I" } : Jvm.MethodName)) ∈ lw_all := lw_g (lw_at lw_m1 226 rfl) rfl
theorem q367 : (Jvm.Cond.codeWith ({ cls := "ObligingPosts$Slot", name := "pastes", desc := "(ILObligingPosts$Slot;II)I" } : Jvm.MethodName) prog_9_method_9_code (6 : Nat) (Option.some Jvm.ClassFile.FieldType.int) [((31 : Nat), (46 : Nat), (49 : Nat), (48 : Nat))]) ∈ lw_all := lw_g (lw_at lw_m1 227 rfl) rfl
theorem q368 : (Jvm.Cond.classLink "ObligingPosts$Slot" (48 : Nat) "java/lang/IndexOutOfBoundsException") ∈ lw_all := lw_g (lw_at lw_m1 228 rfl) rfl
theorem q369 : (Jvm.Cond.methodLink "ObligingPosts$Slot" (38 : Nat) ({ cls := "ObligingPosts$Slot", name := "width", desc := "()I" } : Jvm.MethodName)) ∈ lw_all := lw_g (lw_at lw_m1 229 rfl) rfl
theorem q370 : (Jvm.Cond.privateMethod ({ cls := "ObligingPosts$Slot", name := "width", desc := "()I" } : Jvm.MethodName)) ∈ lw_tbl := lw_at lw_m1 230 rfl
theorem q371 : (Jvm.Cond.instanceMethod ({ cls := "ObligingPosts$Slot", name := "width", desc := "()I" } : Jvm.MethodName)) ∈ lw_all := lw_g (lw_at lw_m1 231 rfl) rfl
theorem q372 : (Jvm.Cond.code ({ cls := "ObligingPosts$Slot", name := "width", desc := "()I" } : Jvm.MethodName) prog_9_method_8_code (1 : Nat) (Option.some Jvm.ClassFile.FieldType.int)) ∈ lw_all := lw_g (lw_at lw_m1 232 rfl) rfl
theorem q373 : (Jvm.Cond.methodLink "ObligingPosts$Slot" (42 : Nat) ({ cls := "java/lang/System", name := "arraycopy", desc := "(Ljava/lang/Object;ILjava/lang/Object;II)V" } : Jvm.MethodName)) ∈ lw_all := lw_g (lw_at lw_m1 233 rfl) rfl
theorem q385 : (Jvm.Cond.instanceMethod ({ cls := "ObligingPosts$Slot", name := "<init>", desc := "()V" } : Jvm.MethodName)) ∈ lw_all := lw_g (lw_at lw_m2 5 rfl) rfl
theorem q386 : (Jvm.Cond.code ({ cls := "ObligingPosts$Slot", name := "<init>", desc := "()V" } : Jvm.MethodName) prog_9_method_1_code (1 : Nat) (Option.none : Option Jvm.ClassFile.FieldType)) ∈ lw_all := lw_g (lw_at lw_m2 6 rfl) rfl
theorem q387 : (Jvm.Cond.methodLink "ObligingPosts$Slot" (3 : Nat) ({ cls := "java/lang/Object", name := "<init>", desc := "()V" } : Jvm.MethodName)) ∈ lw_all := lw_g (lw_at lw_m2 7 rfl) rfl
theorem q388 : (Jvm.Cond.fieldLink "ObligingPosts$Slot" (9 : Nat) "ObligingPosts$Slot" "held" "Ljava/lang/Object;") ∈ lw_all := lw_g (lw_at lw_m2 8 rfl) rfl
theorem q390 : (Jvm.Cond.lays "ObligingPosts$Slot" "ObligingPosts$Slot" "held" "Ljava/lang/Object;") ∈ lw_all := lw_g (lw_at lw_m2 10 rfl) rfl
theorem q391 : (Jvm.Cond.soleField "ObligingPosts$Slot" "held") ∈ lw_all := lw_g (lw_at lw_m2 11 rfl) rfl
theorem q392 : (Jvm.Cond.superclass "ObligingPosts$Slot" "java/lang/Object") ∈ lw_all := lw_g (lw_at lw_m2 12 rfl) rfl
theorem q897 : (Jvm.Cond.selects "ObligingPosts$Slot" ({ cls := "java/lang/Object", name := "getClass", desc := "()Ljava/lang/Class;" } : Jvm.MethodName) ({ cls := "java/lang/Object", name := "getClass", desc := "()Ljava/lang/Class;" } : Jvm.MethodName)) ∈ lw_all := lw_g (lw_at lw_m4 37 rfl) rfl
theorem q1367 : (Jvm.Cond.instanceMethod ({ cls := "ObligingPosts$Slot", name := "many", desc := "()I" } : Jvm.MethodName)) ∈ lw_all := lw_g (lw_at lw_m6 27 rfl) rfl
theorem q1368 : (Jvm.Cond.selects "ObligingPosts$Slot" ({ cls := "ObligingPosts$Slot", name := "many", desc := "()I" } : Jvm.MethodName) ({ cls := "ObligingPosts$Slot", name := "many", desc := "()I" } : Jvm.MethodName)) ∈ lw_all := lw_g (lw_at lw_m6 28 rfl) rfl
theorem q1369 : (Jvm.Cond.code ({ cls := "ObligingPosts$Slot", name := "many", desc := "()I" } : Jvm.MethodName) prog_9_method_3_code (1 : Nat) (Option.some Jvm.ClassFile.FieldType.int)) ∈ lw_all := lw_g (lw_at lw_m6 29 rfl) rfl
theorem q1371 : (Jvm.Cond.instanceMethod ({ cls := "ObligingPosts$Slot", name := "number", desc := "(I)J" } : Jvm.MethodName)) ∈ lw_all := lw_g (lw_at lw_m6 31 rfl) rfl
theorem q1372 : (Jvm.Cond.selects "ObligingPosts$Slot" ({ cls := "ObligingPosts$Slot", name := "number", desc := "(I)J" } : Jvm.MethodName) ({ cls := "ObligingPosts$Slot", name := "number", desc := "(I)J" } : Jvm.MethodName)) ∈ lw_all := lw_g (lw_at lw_m6 32 rfl) rfl
theorem q1373 : (Jvm.Cond.code ({ cls := "ObligingPosts$Slot", name := "number", desc := "(I)J" } : Jvm.MethodName) prog_9_method_4_code (2 : Nat) (Option.some Jvm.ClassFile.FieldType.long)) ∈ lw_all := lw_g (lw_at lw_m6 33 rfl) rfl
theorem q2497 : (Jvm.Cond.castable "ObligingPosts$Slot" "java/lang/Object") ∈ lw_tbl := lw_at lw_m10 197 rfl
theorem q143 : (Jvm.Cond.initialized "ObligingPosts$Heath") ∈ lw_all := lw_g (lw_at lw_m1 3 rfl) rfl
theorem q394 : (Jvm.Cond.instantiable "ObligingPosts$Heath" (11 : Nat)) ∈ lw_all := lw_g (lw_at lw_m2 14 rfl) rfl
theorem q396 : (Jvm.Cond.instanceMethod ({ cls := "ObligingPosts$Heath", name := "<init>", desc := "()V" } : Jvm.MethodName)) ∈ lw_all := lw_g (lw_at lw_m2 16 rfl) rfl
theorem q397 : (Jvm.Cond.code ({ cls := "ObligingPosts$Heath", name := "<init>", desc := "()V" } : Jvm.MethodName) prog_5_method_1_code (1 : Nat) (Option.none : Option Jvm.ClassFile.FieldType)) ∈ lw_all := lw_g (lw_at lw_m2 17 rfl) rfl
theorem q398 : (Jvm.Cond.methodLink "ObligingPosts$Heath" (3 : Nat) ({ cls := "java/lang/Object", name := "<init>", desc := "()V" } : Jvm.MethodName)) ∈ lw_all := lw_g (lw_at lw_m2 18 rfl) rfl
theorem q399 : (Jvm.Cond.classLink "ObligingPosts$Heath" (15 : Nat) "java/util/ArrayList") ∈ lw_all := lw_g (lw_at lw_m2 19 rfl) rfl
theorem q401 : (Jvm.Cond.methodLink "ObligingPosts$Heath" (17 : Nat) ({ cls := "java/util/ArrayList", name := "<init>", desc := "(I)V" } : Jvm.MethodName)) ∈ lw_all := lw_g (lw_at lw_m2 21 rfl) rfl
theorem q430 : (Jvm.Cond.methodLink "ObligingPosts$Heath" (27 : Nat) ({ cls := "java/util/ArrayList", name := "<init>", desc := "()V" } : Jvm.MethodName)) ∈ lw_all := lw_g (lw_at lw_m2 50 rfl) rfl
theorem q435 : (Jvm.Cond.fieldLink "ObligingPosts$Heath" (9 : Nat) "ObligingPosts$Heath" "room" "[I") ∈ lw_all := lw_g (lw_at lw_m2 55 rfl) rfl
theorem q439 : (Jvm.Cond.fieldLink "ObligingPosts$Heath" (20 : Nat) "ObligingPosts$Heath" "posts" "Ljava/util/List;") ∈ lw_all := lw_g (lw_at lw_m2 59 rfl) rfl
theorem q442 : (Jvm.Cond.fieldLink "ObligingPosts$Heath" (24 : Nat) "ObligingPosts$Heath" "walkers" "Ljava/util/List;") ∈ lw_all := lw_g (lw_at lw_m2 62 rfl) rfl
theorem q445 : (Jvm.Cond.fieldLink "ObligingPosts$Heath" (28 : Nat) "ObligingPosts$Heath" "acts" "Ljava/util/List;") ∈ lw_all := lw_g (lw_at lw_m2 65 rfl) rfl
theorem q448 : (Jvm.Cond.fieldLink "ObligingPosts$Heath" (72 : Nat) "ObligingPosts$Heath" "hours" "I") ∈ lw_all := lw_g (lw_at lw_m2 68 rfl) rfl
theorem q454 : (Jvm.Cond.fieldLink "ObligingPosts$Heath" (75 : Nat) "ObligingPosts$Heath" "law" "I") ∈ lw_all := lw_g (lw_at lw_m2 74 rfl) rfl
theorem q457 : (Jvm.Cond.fieldLink "ObligingPosts$Heath" (78 : Nat) "ObligingPosts$Heath" "odds" "I") ∈ lw_all := lw_g (lw_at lw_m2 77 rfl) rfl
theorem q460 : (Jvm.Cond.fieldLink "ObligingPosts$Heath" (81 : Nat) "ObligingPosts$Heath" "inns" "I") ∈ lw_all := lw_g (lw_at lw_m2 80 rfl) rfl
theorem q463 : (Jvm.Cond.fieldLink "ObligingPosts$Heath" (84 : Nat) "ObligingPosts$Heath" "roads" "I") ∈ lw_all := lw_g (lw_at lw_m2 83 rfl) rfl
theorem q466 : (Jvm.Cond.fieldLink "ObligingPosts$Heath" (87 : Nat) "ObligingPosts$Heath" "arms" "I") ∈ lw_all := lw_g (lw_at lw_m2 86 rfl) rfl
theorem q469 : (Jvm.Cond.fieldLink "ObligingPosts$Heath" (31 : Nat) "ObligingPosts$Heath" "lines" "I") ∈ lw_all := lw_g (lw_at lw_m2 89 rfl) rfl
theorem q472 : (Jvm.Cond.laysFinal "ObligingPosts$Heath" "ObligingPosts$Heath" "room" "[I") ∈ lw_all := lw_g (lw_at lw_m2 92 rfl) rfl
theorem q473 : (Jvm.Cond.soleField "ObligingPosts$Heath" "room") ∈ lw_all := lw_g (lw_at lw_m2 93 rfl) rfl
theorem q474 : (Jvm.Cond.laysFinal "ObligingPosts$Heath" "ObligingPosts$Heath" "posts" "Ljava/util/List;") ∈ lw_all := lw_g (lw_at lw_m2 94 rfl) rfl
theorem q475 : (Jvm.Cond.soleField "ObligingPosts$Heath" "posts") ∈ lw_all := lw_g (lw_at lw_m2 95 rfl) rfl
theorem q476 : (Jvm.Cond.laysFinal "ObligingPosts$Heath" "ObligingPosts$Heath" "walkers" "Ljava/util/List;") ∈ lw_all := lw_g (lw_at lw_m2 96 rfl) rfl
theorem q477 : (Jvm.Cond.soleField "ObligingPosts$Heath" "walkers") ∈ lw_all := lw_g (lw_at lw_m2 97 rfl) rfl
theorem q478 : (Jvm.Cond.laysFinal "ObligingPosts$Heath" "ObligingPosts$Heath" "acts" "Ljava/util/List;") ∈ lw_all := lw_g (lw_at lw_m2 98 rfl) rfl
theorem q479 : (Jvm.Cond.soleField "ObligingPosts$Heath" "acts") ∈ lw_all := lw_g (lw_at lw_m2 99 rfl) rfl
theorem q480 : (Jvm.Cond.lays "ObligingPosts$Heath" "ObligingPosts$Heath" "hours" "I") ∈ lw_all := lw_g (lw_at lw_m2 100 rfl) rfl
theorem q481 : (Jvm.Cond.soleField "ObligingPosts$Heath" "hours") ∈ lw_all := lw_g (lw_at lw_m2 101 rfl) rfl
theorem q482 : (Jvm.Cond.lays "ObligingPosts$Heath" "ObligingPosts$Heath" "law" "I") ∈ lw_all := lw_g (lw_at lw_m2 102 rfl) rfl
theorem q483 : (Jvm.Cond.soleField "ObligingPosts$Heath" "law") ∈ lw_all := lw_g (lw_at lw_m2 103 rfl) rfl
theorem q484 : (Jvm.Cond.lays "ObligingPosts$Heath" "ObligingPosts$Heath" "odds" "I") ∈ lw_all := lw_g (lw_at lw_m2 104 rfl) rfl
theorem q485 : (Jvm.Cond.soleField "ObligingPosts$Heath" "odds") ∈ lw_all := lw_g (lw_at lw_m2 105 rfl) rfl
theorem q486 : (Jvm.Cond.lays "ObligingPosts$Heath" "ObligingPosts$Heath" "inns" "I") ∈ lw_all := lw_g (lw_at lw_m2 106 rfl) rfl
theorem q487 : (Jvm.Cond.soleField "ObligingPosts$Heath" "inns") ∈ lw_all := lw_g (lw_at lw_m2 107 rfl) rfl
theorem q488 : (Jvm.Cond.lays "ObligingPosts$Heath" "ObligingPosts$Heath" "roads" "I") ∈ lw_all := lw_g (lw_at lw_m2 108 rfl) rfl
theorem q489 : (Jvm.Cond.soleField "ObligingPosts$Heath" "roads") ∈ lw_all := lw_g (lw_at lw_m2 109 rfl) rfl
theorem q490 : (Jvm.Cond.lays "ObligingPosts$Heath" "ObligingPosts$Heath" "arms" "I") ∈ lw_all := lw_g (lw_at lw_m2 110 rfl) rfl
theorem q491 : (Jvm.Cond.soleField "ObligingPosts$Heath" "arms") ∈ lw_all := lw_g (lw_at lw_m2 111 rfl) rfl
theorem q492 : (Jvm.Cond.lays "ObligingPosts$Heath" "ObligingPosts$Heath" "lines" "I") ∈ lw_all := lw_g (lw_at lw_m2 112 rfl) rfl
theorem q493 : (Jvm.Cond.soleField "ObligingPosts$Heath" "lines") ∈ lw_all := lw_g (lw_at lw_m2 113 rfl) rfl
theorem q494 : (Jvm.Cond.superclass "ObligingPosts$Heath" "java/lang/Object") ∈ lw_all := lw_g (lw_at lw_m2 114 rfl) rfl
theorem q893 : (Jvm.Cond.selects "ObligingPosts$Heath" ({ cls := "java/lang/Object", name := "getClass", desc := "()Ljava/lang/Class;" } : Jvm.MethodName) ({ cls := "java/lang/Object", name := "getClass", desc := "()Ljava/lang/Class;" } : Jvm.MethodName)) ∈ lw_all := lw_g (lw_at lw_m4 33 rfl) rfl
theorem q965 : (Jvm.Cond.instanceMethod ({ cls := "ObligingPosts$Heath", name := "is", desc := "()Z" } : Jvm.MethodName)) ∈ lw_all := lw_g (lw_at lw_m4 105 rfl) rfl
theorem q966 : (Jvm.Cond.selects "ObligingPosts$Heath" ({ cls := "ObligingPosts$Heath", name := "is", desc := "()Z" } : Jvm.MethodName) ({ cls := "ObligingPosts$Heath", name := "is", desc := "()Z" } : Jvm.MethodName)) ∈ lw_all := lw_g (lw_at lw_m4 106 rfl) rfl
theorem q967 : (Jvm.Cond.code ({ cls := "ObligingPosts$Heath", name := "is", desc := "()Z" } : Jvm.MethodName) prog_5_method_2_code (1 : Nat) (Option.some Jvm.ClassFile.FieldType.boolean)) ∈ lw_all := lw_g (lw_at lw_m4 107 rfl) rfl
theorem q1594 : (Jvm.Cond.instanceMethod ({ cls := "ObligingPosts$Heath", name := "same", desc := "()LObligingPosts$Heath;" } : Jvm.MethodName)) ∈ lw_all := lw_g (lw_at lw_m7 14 rfl) rfl
theorem q1595 : (Jvm.Cond.selects "ObligingPosts$Heath" ({ cls := "ObligingPosts$Heath", name := "same", desc := "()LObligingPosts$Heath;" } : Jvm.MethodName) ({ cls := "ObligingPosts$Heath", name := "same", desc := "()LObligingPosts$Heath;" } : Jvm.MethodName)) ∈ lw_all := lw_g (lw_at lw_m7 15 rfl) rfl
theorem q1596 : (Jvm.Cond.code ({ cls := "ObligingPosts$Heath", name := "same", desc := "()LObligingPosts$Heath;" } : Jvm.MethodName) prog_5_method_3_code (4 : Nat) (Option.some (Jvm.ClassFile.FieldType.object "ObligingPosts$Heath"))) ∈ lw_all := lw_g (lw_at lw_m7 16 rfl) rfl
theorem q1597 : (Jvm.Cond.classLink "ObligingPosts$Heath" (10 : Nat) "ObligingPosts$Heath") ∈ lw_all := lw_g (lw_at lw_m7 17 rfl) rfl
theorem q1598 : (Jvm.Cond.methodLink "ObligingPosts$Heath" (35 : Nat) ({ cls := "ObligingPosts$Heath", name := "<init>", desc := "()V" } : Jvm.MethodName)) ∈ lw_all := lw_g (lw_at lw_m7 18 rfl) rfl
theorem q1599 : (Jvm.Cond.methodLink "ObligingPosts$Heath" (36 : Nat) ({ cls := "java/lang/System", name := "arraycopy", desc := "(Ljava/lang/Object;ILjava/lang/Object;II)V" } : Jvm.MethodName)) ∈ lw_all := lw_g (lw_at lw_m7 19 rfl) rfl
theorem q1600 : (Jvm.Cond.interfaceEntry "ObligingPosts$Heath" (42 : Nat)) ∈ lw_tbl := lw_at lw_m7 20 rfl
theorem q1601 : (Jvm.Cond.methodLink "ObligingPosts$Heath" (42 : Nat) ({ cls := "java/util/List", name := "iterator", desc := "()Ljava/util/Iterator;" } : Jvm.MethodName)) ∈ lw_all := lw_g (lw_at lw_m7 21 rfl) rfl
theorem q1628 : (Jvm.Cond.interfaceEntry "ObligingPosts$Heath" (48 : Nat)) ∈ lw_tbl := lw_at lw_m7 48 rfl
theorem q1629 : (Jvm.Cond.methodLink "ObligingPosts$Heath" (48 : Nat) ({ cls := "java/util/Iterator", name := "hasNext", desc := "()Z" } : Jvm.MethodName)) ∈ lw_all := lw_g (lw_at lw_m7 49 rfl) rfl
theorem q1638 : (Jvm.Cond.interfaceEntry "ObligingPosts$Heath" (54 : Nat)) ∈ lw_tbl := lw_at lw_m7 58 rfl
theorem q1639 : (Jvm.Cond.methodLink "ObligingPosts$Heath" (54 : Nat) ({ cls := "java/util/Iterator", name := "next", desc := "()Ljava/lang/Object;" } : Jvm.MethodName)) ∈ lw_all := lw_g (lw_at lw_m7 59 rfl) rfl
theorem q1651 : (Jvm.Cond.classLink "ObligingPosts$Heath" (58 : Nat) "ObligingPosts$Post") ∈ lw_all := lw_g (lw_at lw_m7 71 rfl) rfl
theorem q1652 : (Jvm.Cond.methodLink "ObligingPosts$Heath" (60 : Nat) ({ cls := "ObligingPosts$Post", name := "same", desc := "()LObligingPosts$Post;" } : Jvm.MethodName)) ∈ lw_all := lw_g (lw_at lw_m7 72 rfl) rfl
theorem q1659 : (Jvm.Cond.interfaceEntry "ObligingPosts$Heath" (64 : Nat)) ∈ lw_tbl := lw_at lw_m7 79 rfl
theorem q1660 : (Jvm.Cond.methodLink "ObligingPosts$Heath" (64 : Nat) ({ cls := "java/util/List", name := "add", desc := "(Ljava/lang/Object;)Z" } : Jvm.MethodName)) ∈ lw_all := lw_g (lw_at lw_m7 80 rfl) rfl
theorem q1661 : (Jvm.Cond.interfaceEntry "ObligingPosts$Heath" (68 : Nat)) ∈ lw_tbl := lw_at lw_m7 81 rfl
theorem q1662 : (Jvm.Cond.methodLink "ObligingPosts$Heath" (68 : Nat) ({ cls := "java/util/List", name := "addAll", desc := "(Ljava/util/Collection;)Z" } : Jvm.MethodName)) ∈ lw_all := lw_g (lw_at lw_m7 82 rfl) rfl
theorem q2498 : (Jvm.Cond.castable "ObligingPosts$Heath" "java/lang/Object") ∈ lw_tbl := lw_at lw_m10 198 rfl
theorem q147 : (Jvm.Cond.initialized "ObligingPosts$Hours") ∈ lw_all := lw_g (lw_at lw_m1 7 rfl) rfl
theorem q436 : (Jvm.Cond.fieldLinkNest "ObligingPosts$Hours" (156 : Nat) "ObligingPosts$Heath" "room" "[I" "ObligingPosts") ∈ lw_tbl := lw_at lw_m2 56 rfl
theorem q446 : (Jvm.Cond.fieldLinkNest "ObligingPosts$Hours" (116 : Nat) "ObligingPosts$Heath" "acts" "Ljava/util/List;" "ObligingPosts") ∈ lw_tbl := lw_at lw_m2 66 rfl
theorem q450 : (Jvm.Cond.fieldLinkNest "ObligingPosts$Hours" (106 : Nat) "ObligingPosts$Heath" "hours" "I" "ObligingPosts") ∈ lw_tbl := lw_at lw_m2 70 rfl
theorem q453 : (Jvm.Cond.fieldLinkNest "ObligingPosts$Hours" (47 : Nat) "ObligingPosts$Heath" "law" "I" "ObligingPosts") ∈ lw_tbl := lw_at lw_m2 73 rfl
theorem q497 : (Jvm.Cond.instantiable "ObligingPosts$Hours" (14 : Nat)) ∈ lw_all := lw_g (lw_at lw_m2 117 rfl) rfl
theorem q499 : (Jvm.Cond.instanceMethod ({ cls := "ObligingPosts$Hours", name := "<init>", desc := "(LObligingPosts;)V" } : Jvm.MethodName)) ∈ lw_all := lw_g (lw_at lw_m2 119 rfl) rfl
theorem q500 : (Jvm.Cond.code ({ cls := "ObligingPosts$Hours", name := "<init>", desc := "(LObligingPosts;)V" } : Jvm.MethodName) prog_6_method_1_code (2 : Nat) (Option.none : Option Jvm.ClassFile.FieldType)) ∈ lw_all := lw_g (lw_at lw_m2 120 rfl) rfl
theorem q501 : (Jvm.Cond.methodLink "ObligingPosts$Hours" (9 : Nat) ({ cls := "java/lang/Object", name := "<init>", desc := "()V" } : Jvm.MethodName)) ∈ lw_all := lw_g (lw_at lw_m2 121 rfl) rfl
theorem q502 : (Jvm.Cond.fieldLink "ObligingPosts$Hours" (15 : Nat) "ObligingPosts$Hours" "arm" "[I") ∈ lw_all := lw_g (lw_at lw_m2 122 rfl) rfl
theorem q505 : (Jvm.Cond.fieldLink "ObligingPosts$Hours" (19 : Nat) "ObligingPosts$Hours" "at" "[I") ∈ lw_all := lw_g (lw_at lw_m2 125 rfl) rfl
theorem q507 : (Jvm.Cond.fieldLink "ObligingPosts$Hours" (22 : Nat) "ObligingPosts$Hours" "arms" "[I") ∈ lw_all := lw_g (lw_at lw_m2 127 rfl) rfl
theorem q509 : (Jvm.Cond.fieldLink "ObligingPosts$Hours" (25 : Nat) "ObligingPosts$Hours" "used" "[I") ∈ lw_all := lw_g (lw_at lw_m2 129 rfl) rfl
theorem q511 : (Jvm.Cond.fieldLink "ObligingPosts$Hours" (28 : Nat) "ObligingPosts$Hours" "sent" "[I") ∈ lw_all := lw_g (lw_at lw_m2 131 rfl) rfl
theorem q513 : (Jvm.Cond.fieldLink "ObligingPosts$Hours" (31 : Nat) "ObligingPosts$Hours" "walks" "[I") ∈ lw_all := lw_g (lw_at lw_m2 133 rfl) rfl
theorem q515 : (Jvm.Cond.fieldLink "ObligingPosts$Hours" (34 : Nat) "ObligingPosts$Hours" "comes" "[I") ∈ lw_all := lw_g (lw_at lw_m2 135 rfl) rfl
theorem q517 : (Jvm.Cond.fieldLink "ObligingPosts$Hours" (37 : Nat) "ObligingPosts$Hours" "guests" "[I") ∈ lw_all := lw_g (lw_at lw_m2 137 rfl) rfl
theorem q518 : (Jvm.Cond.fieldLink "ObligingPosts$Hours" (40 : Nat) "ObligingPosts$Hours" "refused" "[I") ∈ lw_all := lw_g (lw_at lw_m2 138 rfl) rfl
theorem q520 : (Jvm.Cond.fieldLink "ObligingPosts$Hours" (53 : Nat) "ObligingPosts$Hours" "law" "I") ∈ lw_all := lw_g (lw_at lw_m2 140 rfl) rfl
theorem q522 : (Jvm.Cond.fieldLink "ObligingPosts$Hours" (54 : Nat) "ObligingPosts$Hours" "fog" "I") ∈ lw_all := lw_g (lw_at lw_m2 142 rfl) rfl
theorem q524 : (Jvm.Cond.fieldLink "ObligingPosts$Hours" (57 : Nat) "ObligingPosts$Hours" "stiff" "I") ∈ lw_all := lw_g (lw_at lw_m2 144 rfl) rfl
theorem q526 : (Jvm.Cond.fieldLink "ObligingPosts$Hours" (60 : Nat) "ObligingPosts$Hours" "without" "I") ∈ lw_all := lw_g (lw_at lw_m2 146 rfl) rfl
theorem q528 : (Jvm.Cond.fieldLink "ObligingPosts$Hours" (3 : Nat) "ObligingPosts$Hours" "this$0" "LObligingPosts;") ∈ lw_all := lw_g (lw_at lw_m2 148 rfl) rfl
theorem q529 : (Jvm.Cond.laysFinal "ObligingPosts$Hours" "ObligingPosts$Hours" "arm" "[I") ∈ lw_all := lw_g (lw_at lw_m2 149 rfl) rfl
theorem q530 : (Jvm.Cond.soleField "ObligingPosts$Hours" "arm") ∈ lw_all := lw_g (lw_at lw_m2 150 rfl) rfl
theorem q531 : (Jvm.Cond.laysFinal "ObligingPosts$Hours" "ObligingPosts$Hours" "at" "[I") ∈ lw_all := lw_g (lw_at lw_m2 151 rfl) rfl
theorem q532 : (Jvm.Cond.soleField "ObligingPosts$Hours" "at") ∈ lw_all := lw_g (lw_at lw_m2 152 rfl) rfl
theorem q533 : (Jvm.Cond.laysFinal "ObligingPosts$Hours" "ObligingPosts$Hours" "arms" "[I") ∈ lw_all := lw_g (lw_at lw_m2 153 rfl) rfl
theorem q534 : (Jvm.Cond.soleField "ObligingPosts$Hours" "arms") ∈ lw_all := lw_g (lw_at lw_m2 154 rfl) rfl
theorem q535 : (Jvm.Cond.laysFinal "ObligingPosts$Hours" "ObligingPosts$Hours" "used" "[I") ∈ lw_all := lw_g (lw_at lw_m2 155 rfl) rfl
theorem q536 : (Jvm.Cond.soleField "ObligingPosts$Hours" "used") ∈ lw_all := lw_g (lw_at lw_m2 156 rfl) rfl
theorem q537 : (Jvm.Cond.laysFinal "ObligingPosts$Hours" "ObligingPosts$Hours" "sent" "[I") ∈ lw_all := lw_g (lw_at lw_m2 157 rfl) rfl
theorem q538 : (Jvm.Cond.soleField "ObligingPosts$Hours" "sent") ∈ lw_all := lw_g (lw_at lw_m2 158 rfl) rfl
theorem q539 : (Jvm.Cond.laysFinal "ObligingPosts$Hours" "ObligingPosts$Hours" "walks" "[I") ∈ lw_all := lw_g (lw_at lw_m2 159 rfl) rfl
theorem q540 : (Jvm.Cond.soleField "ObligingPosts$Hours" "walks") ∈ lw_all := lw_g (lw_at lw_m2 160 rfl) rfl
theorem q541 : (Jvm.Cond.laysFinal "ObligingPosts$Hours" "ObligingPosts$Hours" "comes" "[I") ∈ lw_all := lw_g (lw_at lw_m2 161 rfl) rfl
theorem q542 : (Jvm.Cond.soleField "ObligingPosts$Hours" "comes") ∈ lw_all := lw_g (lw_at lw_m2 162 rfl) rfl
theorem q543 : (Jvm.Cond.laysFinal "ObligingPosts$Hours" "ObligingPosts$Hours" "guests" "[I") ∈ lw_all := lw_g (lw_at lw_m2 163 rfl) rfl
theorem q544 : (Jvm.Cond.soleField "ObligingPosts$Hours" "guests") ∈ lw_all := lw_g (lw_at lw_m2 164 rfl) rfl
theorem q545 : (Jvm.Cond.laysFinal "ObligingPosts$Hours" "ObligingPosts$Hours" "refused" "[I") ∈ lw_all := lw_g (lw_at lw_m2 165 rfl) rfl
theorem q546 : (Jvm.Cond.soleField "ObligingPosts$Hours" "refused") ∈ lw_all := lw_g (lw_at lw_m2 166 rfl) rfl
theorem q547 : (Jvm.Cond.lays "ObligingPosts$Hours" "ObligingPosts$Hours" "law" "I") ∈ lw_all := lw_g (lw_at lw_m2 167 rfl) rfl
theorem q548 : (Jvm.Cond.soleField "ObligingPosts$Hours" "law") ∈ lw_all := lw_g (lw_at lw_m2 168 rfl) rfl
theorem q549 : (Jvm.Cond.lays "ObligingPosts$Hours" "ObligingPosts$Hours" "fog" "I") ∈ lw_all := lw_g (lw_at lw_m2 169 rfl) rfl
theorem q550 : (Jvm.Cond.soleField "ObligingPosts$Hours" "fog") ∈ lw_all := lw_g (lw_at lw_m2 170 rfl) rfl
theorem q551 : (Jvm.Cond.lays "ObligingPosts$Hours" "ObligingPosts$Hours" "stiff" "I") ∈ lw_all := lw_g (lw_at lw_m2 171 rfl) rfl
theorem q552 : (Jvm.Cond.soleField "ObligingPosts$Hours" "stiff") ∈ lw_all := lw_g (lw_at lw_m2 172 rfl) rfl
theorem q553 : (Jvm.Cond.lays "ObligingPosts$Hours" "ObligingPosts$Hours" "without" "I") ∈ lw_all := lw_g (lw_at lw_m2 173 rfl) rfl
theorem q554 : (Jvm.Cond.soleField "ObligingPosts$Hours" "without") ∈ lw_all := lw_g (lw_at lw_m2 174 rfl) rfl
theorem q555 : (Jvm.Cond.laysFinal "ObligingPosts$Hours" "ObligingPosts$Hours" "this$0" "LObligingPosts;") ∈ lw_all := lw_g (lw_at lw_m2 175 rfl) rfl
theorem q556 : (Jvm.Cond.soleField "ObligingPosts$Hours" "this$0") ∈ lw_all := lw_g (lw_at lw_m2 176 rfl) rfl
theorem q557 : (Jvm.Cond.superclass "ObligingPosts$Hours" "java/lang/Object") ∈ lw_all := lw_g (lw_at lw_m2 177 rfl) rfl
theorem q602 : (Jvm.Cond.fieldLinkNest "ObligingPosts$Hours" (43 : Nat) "ObligingPosts" "now" "LObligingPosts$Heath;" "ObligingPosts") ∈ lw_tbl := lw_at lw_m2 222 rfl
theorem q832 : (Jvm.Cond.fieldLinkNest "ObligingPosts$Hours" (97 : Nat) "ObligingPosts$Post" "to" "[I" "ObligingPosts") ∈ lw_tbl := lw_at lw_m3 212 rfl
theorem q838 : (Jvm.Cond.fieldLinkNest "ObligingPosts$Hours" (87 : Nat) "ObligingPosts$Post" "many" "I" "ObligingPosts") ∈ lw_tbl := lw_at lw_m3 218 rfl
theorem q842 : (Jvm.Cond.fieldLinkNest "ObligingPosts$Hours" (71 : Nat) "ObligingPosts$Post" "arm" "I" "ObligingPosts") ∈ lw_tbl := lw_at lw_m3 222 rfl
theorem q894 : (Jvm.Cond.selects "ObligingPosts$Hours" ({ cls := "java/lang/Object", name := "getClass", desc := "()Ljava/lang/Class;" } : Jvm.MethodName) ({ cls := "java/lang/Object", name := "getClass", desc := "()Ljava/lang/Class;" } : Jvm.MethodName)) ∈ lw_all := lw_g (lw_at lw_m4 34 rfl) rfl
theorem q954 : (Jvm.Cond.fieldLinkNest "ObligingPosts$Hours" (109 : Nat) "ObligingPosts$Walker" "post" "I" "ObligingPosts") ∈ lw_tbl := lw_at lw_m4 94 rfl
theorem q957 : (Jvm.Cond.fieldLinkNest "ObligingPosts$Hours" (82 : Nat) "ObligingPosts$Walker" "hour" "I" "ObligingPosts") ∈ lw_tbl := lw_at lw_m4 97 rfl
theorem q1042 : (Jvm.Cond.instanceMethod ({ cls := "ObligingPosts$Hours", name := "is", desc := "()LObligingPosts$Hours;" } : Jvm.MethodName)) ∈ lw_all := lw_g (lw_at lw_m4 182 rfl) rfl
theorem q1043 : (Jvm.Cond.selects "ObligingPosts$Hours" ({ cls := "ObligingPosts$Hours", name := "is", desc := "()LObligingPosts$Hours;" } : Jvm.MethodName) ({ cls := "ObligingPosts$Hours", name := "is", desc := "()LObligingPosts$Hours;" } : Jvm.MethodName)) ∈ lw_all := lw_g (lw_at lw_m4 183 rfl) rfl
theorem q1044 : (Jvm.Cond.code ({ cls := "ObligingPosts$Hours", name := "is", desc := "()LObligingPosts$Hours;" } : Jvm.MethodName) prog_6_method_2_code (2 : Nat) (Option.some (Jvm.ClassFile.FieldType.object "ObligingPosts$Hours"))) ∈ lw_all := lw_g (lw_at lw_m4 184 rfl) rfl
theorem q1045 : (Jvm.Cond.methodLinkNest "ObligingPosts$Hours" (63 : Nat) ({ cls := "ObligingPosts", name := "posts", desc := "()I" } : Jvm.MethodName) "ObligingPosts") ∈ lw_tbl := lw_at lw_m4 185 rfl
theorem q1046 : (Jvm.Cond.methodLinkNest "ObligingPosts$Hours" (67 : Nat) ({ cls := "ObligingPosts", name := "postOf", desc := "(I)LObligingPosts$Post;" } : Jvm.MethodName) "ObligingPosts") ∈ lw_tbl := lw_at lw_m4 186 rfl
theorem q1047 : (Jvm.Cond.methodLinkNest "ObligingPosts$Hours" (75 : Nat) ({ cls := "ObligingPosts", name := "many", desc := "()I" } : Jvm.MethodName) "ObligingPosts") ∈ lw_tbl := lw_at lw_m4 187 rfl
theorem q1048 : (Jvm.Cond.methodLinkNest "ObligingPosts$Hours" (78 : Nat) ({ cls := "ObligingPosts", name := "walkerOf", desc := "(I)LObligingPosts$Walker;" } : Jvm.MethodName) "ObligingPosts") ∈ lw_tbl := lw_at lw_m4 188 rfl
theorem q1050 : (Jvm.Cond.instanceMethod ({ cls := "ObligingPosts$Hours", name := "goes", desc := "()LObligingPosts$Hours;" } : Jvm.MethodName)) ∈ lw_all := lw_g (lw_at lw_m4 190 rfl) rfl
theorem q1051 : (Jvm.Cond.selects "ObligingPosts$Hours" ({ cls := "ObligingPosts$Hours", name := "goes", desc := "()LObligingPosts$Hours;" } : Jvm.MethodName) ({ cls := "ObligingPosts$Hours", name := "goes", desc := "()LObligingPosts$Hours;" } : Jvm.MethodName)) ∈ lw_all := lw_g (lw_at lw_m4 191 rfl) rfl
theorem q1052 : (Jvm.Cond.code ({ cls := "ObligingPosts$Hours", name := "goes", desc := "()LObligingPosts$Hours;" } : Jvm.MethodName) prog_6_method_5_code (3 : Nat) (Option.some (Jvm.ClassFile.FieldType.object "ObligingPosts$Hours"))) ∈ lw_all := lw_g (lw_at lw_m4 192 rfl) rfl
theorem q1053 : (Jvm.Cond.methodLink "ObligingPosts$Hours" (100 : Nat) ({ cls := "java/util/Arrays", name := "fill", desc := "([II)V" } : Jvm.MethodName)) ∈ lw_all := lw_g (lw_at lw_m4 193 rfl) rfl
theorem q1056 : (Jvm.Cond.methodLink "ObligingPosts$Hours" (112 : Nat) ({ cls := "ObligingPosts$Hours", name := "passes", desc := "(I)V" } : Jvm.MethodName)) ∈ lw_all := lw_g (lw_at lw_m4 196 rfl) rfl
theorem q1057 : (Jvm.Cond.privateMethod ({ cls := "ObligingPosts$Hours", name := "passes", desc := "(I)V" } : Jvm.MethodName)) ∈ lw_tbl := lw_at lw_m4 197 rfl
theorem q1058 : (Jvm.Cond.instanceMethod ({ cls := "ObligingPosts$Hours", name := "passes", desc := "(I)V" } : Jvm.MethodName)) ∈ lw_all := lw_g (lw_at lw_m4 198 rfl) rfl
theorem q1059 : (Jvm.Cond.code ({ cls := "ObligingPosts$Hours", name := "passes", desc := "(I)V" } : Jvm.MethodName) prog_6_method_6_code (4 : Nat) (Option.none : Option Jvm.ClassFile.FieldType)) ∈ lw_all := lw_g (lw_at lw_m4 199 rfl) rfl
theorem q1060 : (Jvm.Cond.interfaceEntry "ObligingPosts$Hours" (120 : Nat)) ∈ lw_tbl := lw_at lw_m4 200 rfl
theorem q1061 : (Jvm.Cond.methodLink "ObligingPosts$Hours" (120 : Nat) ({ cls := "java/util/List", name := "size", desc := "()I" } : Jvm.MethodName)) ∈ lw_all := lw_g (lw_at lw_m4 201 rfl) rfl
theorem q1062 : (Jvm.Cond.interfaceEntry "ObligingPosts$Hours" (125 : Nat)) ∈ lw_tbl := lw_at lw_m4 202 rfl
theorem q1063 : (Jvm.Cond.methodLink "ObligingPosts$Hours" (125 : Nat) ({ cls := "java/util/List", name := "get", desc := "(I)Ljava/lang/Object;" } : Jvm.MethodName)) ∈ lw_all := lw_g (lw_at lw_m4 203 rfl) rfl
theorem q1064 : (Jvm.Cond.classLink "ObligingPosts$Hours" (129 : Nat) "ObligingPosts$Deed") ∈ lw_all := lw_g (lw_at lw_m4 204 rfl) rfl
theorem q1065 : (Jvm.Cond.methodLink "ObligingPosts$Hours" (93 : Nat) ({ cls := "ObligingPosts$Hours", name := "turns", desc := "(II)V" } : Jvm.MethodName)) ∈ lw_all := lw_g (lw_at lw_m4 205 rfl) rfl
theorem q1066 : (Jvm.Cond.privateMethod ({ cls := "ObligingPosts$Hours", name := "turns", desc := "(II)V" } : Jvm.MethodName)) ∈ lw_tbl := lw_at lw_m4 206 rfl
theorem q1067 : (Jvm.Cond.instanceMethod ({ cls := "ObligingPosts$Hours", name := "turns", desc := "(II)V" } : Jvm.MethodName)) ∈ lw_all := lw_g (lw_at lw_m4 207 rfl) rfl
theorem q1068 : (Jvm.Cond.code ({ cls := "ObligingPosts$Hours", name := "turns", desc := "(II)V" } : Jvm.MethodName) prog_6_method_3_code (3 : Nat) (Option.none : Option Jvm.ClassFile.FieldType)) ∈ lw_all := lw_g (lw_at lw_m4 208 rfl) rfl
theorem q1069 : (Jvm.Cond.constantLong "ObligingPosts$Hours" (139 : Nat) (9 : Int64)) ∈ lw_all := lw_g (lw_at lw_m4 209 rfl) rfl
theorem q1070 : (Jvm.Cond.methodLinkNest "ObligingPosts$Hours" (141 : Nat) ({ cls := "ObligingPosts", name := "in", desc := "(JJJ)Z" } : Jvm.MethodName) "ObligingPosts") ∈ lw_tbl := lw_at lw_m4 210 rfl
theorem q1071 : (Jvm.Cond.methodLinkNest "ObligingPosts$Hours" (89 : Nat) ({ cls := "ObligingPosts", name := "isOn", desc := "(II)Z" } : Jvm.MethodName) "ObligingPosts") ∈ lw_tbl := lw_at lw_m4 211 rfl
theorem q1074 : (Jvm.Cond.methodLink "ObligingPosts$Hours" (145 : Nat) ({ cls := "ObligingPosts$Hours", name := "isHeld", desc := "(II)Z" } : Jvm.MethodName)) ∈ lw_all := lw_g (lw_at lw_m4 214 rfl) rfl
theorem q1075 : (Jvm.Cond.privateMethod ({ cls := "ObligingPosts$Hours", name := "isHeld", desc := "(II)Z" } : Jvm.MethodName)) ∈ lw_tbl := lw_at lw_m4 215 rfl
theorem q1076 : (Jvm.Cond.instanceMethod ({ cls := "ObligingPosts$Hours", name := "isHeld", desc := "(II)Z" } : Jvm.MethodName)) ∈ lw_all := lw_g (lw_at lw_m4 216 rfl) rfl
theorem q1077 : (Jvm.Cond.code ({ cls := "ObligingPosts$Hours", name := "isHeld", desc := "(II)Z" } : Jvm.MethodName) prog_6_method_8_code (4 : Nat) (Option.some Jvm.ClassFile.FieldType.boolean)) ∈ lw_all := lw_g (lw_at lw_m4 217 rfl) rfl
theorem q1078 : (Jvm.Cond.methodLink "ObligingPosts$Hours" (148 : Nat) ({ cls := "ObligingPosts$Hours", name := "sends", desc := "(I)I" } : Jvm.MethodName)) ∈ lw_all := lw_g (lw_at lw_m4 218 rfl) rfl
theorem q1079 : (Jvm.Cond.privateMethod ({ cls := "ObligingPosts$Hours", name := "sends", desc := "(I)I" } : Jvm.MethodName)) ∈ lw_tbl := lw_at lw_m4 219 rfl
theorem q1080 : (Jvm.Cond.instanceMethod ({ cls := "ObligingPosts$Hours", name := "sends", desc := "(I)I" } : Jvm.MethodName)) ∈ lw_all := lw_g (lw_at lw_m4 220 rfl) rfl
theorem q1081 : (Jvm.Cond.code ({ cls := "ObligingPosts$Hours", name := "sends", desc := "(I)I" } : Jvm.MethodName) prog_6_method_4_code (4 : Nat) (Option.some Jvm.ClassFile.FieldType.int)) ∈ lw_all := lw_g (lw_at lw_m4 221 rfl) rfl
theorem q1082 : (Jvm.Cond.methodLink "ObligingPosts$Hours" (152 : Nat) ({ cls := "ObligingPosts$Hours", name := "comesTo", desc := "(II)I" } : Jvm.MethodName)) ∈ lw_all := lw_g (lw_at lw_m4 222 rfl) rfl
theorem q1083 : (Jvm.Cond.privateMethod ({ cls := "ObligingPosts$Hours", name := "comesTo", desc := "(II)I" } : Jvm.MethodName)) ∈ lw_tbl := lw_at lw_m4 223 rfl
theorem q1084 : (Jvm.Cond.instanceMethod ({ cls := "ObligingPosts$Hours", name := "comesTo", desc := "(II)I" } : Jvm.MethodName)) ∈ lw_all := lw_g (lw_at lw_m4 224 rfl) rfl
theorem q1085 : (Jvm.Cond.code ({ cls := "ObligingPosts$Hours", name := "comesTo", desc := "(II)I" } : Jvm.MethodName) prog_6_method_7_code (3 : Nat) (Option.some Jvm.ClassFile.FieldType.int)) ∈ lw_all := lw_g (lw_at lw_m4 225 rfl) rfl
theorem q1087 : (Jvm.Cond.instanceMethod ({ cls := "ObligingPosts$Hours", name := "at", desc := "(II)I" } : Jvm.MethodName)) ∈ lw_all := lw_g (lw_at lw_m4 227 rfl) rfl
theorem q1088 : (Jvm.Cond.selects "ObligingPosts$Hours" ({ cls := "ObligingPosts$Hours", name := "at", desc := "(II)I" } : Jvm.MethodName) ({ cls := "ObligingPosts$Hours", name := "at", desc := "(II)I" } : Jvm.MethodName)) ∈ lw_all := lw_g (lw_at lw_m4 228 rfl) rfl
theorem q1089 : (Jvm.Cond.code ({ cls := "ObligingPosts$Hours", name := "at", desc := "(II)I" } : Jvm.MethodName) prog_6_method_9_code (3 : Nat) (Option.some Jvm.ClassFile.FieldType.int)) ∈ lw_all := lw_g (lw_at lw_m4 229 rfl) rfl
theorem q1157 : (Jvm.Cond.instanceMethod ({ cls := "ObligingPosts$Hours", name := "home", desc := "(II)I" } : Jvm.MethodName)) ∈ lw_all := lw_g (lw_at lw_m5 57 rfl) rfl
theorem q1158 : (Jvm.Cond.selects "ObligingPosts$Hours" ({ cls := "ObligingPosts$Hours", name := "home", desc := "(II)I" } : Jvm.MethodName) ({ cls := "ObligingPosts$Hours", name := "home", desc := "(II)I" } : Jvm.MethodName)) ∈ lw_all := lw_g (lw_at lw_m5 58 rfl) rfl
theorem q1159 : (Jvm.Cond.code ({ cls := "ObligingPosts$Hours", name := "home", desc := "(II)I" } : Jvm.MethodName) prog_6_method_12_code (4 : Nat) (Option.some Jvm.ClassFile.FieldType.int)) ∈ lw_all := lw_g (lw_at lw_m5 59 rfl) rfl
theorem q1160 : (Jvm.Cond.methodLink "ObligingPosts$Hours" (159 : Nat) ({ cls := "ObligingPosts$Hours", name := "at", desc := "(II)I" } : Jvm.MethodName)) ∈ lw_all := lw_g (lw_at lw_m5 60 rfl) rfl
theorem q1204 : (Jvm.Cond.instanceMethod ({ cls := "ObligingPosts$Hours", name := "inside", desc := "(I)I" } : Jvm.MethodName)) ∈ lw_all := lw_g (lw_at lw_m5 104 rfl) rfl
theorem q1205 : (Jvm.Cond.selects "ObligingPosts$Hours" ({ cls := "ObligingPosts$Hours", name := "inside", desc := "(I)I" } : Jvm.MethodName) ({ cls := "ObligingPosts$Hours", name := "inside", desc := "(I)I" } : Jvm.MethodName)) ∈ lw_all := lw_g (lw_at lw_m5 105 rfl) rfl
theorem q1206 : (Jvm.Cond.code ({ cls := "ObligingPosts$Hours", name := "inside", desc := "(I)I" } : Jvm.MethodName) prog_6_method_10_code (4 : Nat) (Option.some Jvm.ClassFile.FieldType.int)) ∈ lw_all := lw_g (lw_at lw_m5 106 rfl) rfl
theorem q1253 : (Jvm.Cond.instanceMethod ({ cls := "ObligingPosts$Hours", name := "setting", desc := "(I)I" } : Jvm.MethodName)) ∈ lw_all := lw_g (lw_at lw_m5 153 rfl) rfl
theorem q1254 : (Jvm.Cond.selects "ObligingPosts$Hours" ({ cls := "ObligingPosts$Hours", name := "setting", desc := "(I)I" } : Jvm.MethodName) ({ cls := "ObligingPosts$Hours", name := "setting", desc := "(I)I" } : Jvm.MethodName)) ∈ lw_all := lw_g (lw_at lw_m5 154 rfl) rfl
theorem q1255 : (Jvm.Cond.code ({ cls := "ObligingPosts$Hours", name := "setting", desc := "(I)I" } : Jvm.MethodName) prog_6_method_13_code (5 : Nat) (Option.some Jvm.ClassFile.FieldType.int)) ∈ lw_all := lw_g (lw_at lw_m5 155 rfl) rfl
theorem q1295 : (Jvm.Cond.instanceMethod ({ cls := "ObligingPosts$Hours", name := "settingNow", desc := "()I" } : Jvm.MethodName)) ∈ lw_all := lw_g (lw_at lw_m5 195 rfl) rfl
theorem q1296 : (Jvm.Cond.selects "ObligingPosts$Hours" ({ cls := "ObligingPosts$Hours", name := "settingNow", desc := "()I" } : Jvm.MethodName) ({ cls := "ObligingPosts$Hours", name := "settingNow", desc := "()I" } : Jvm.MethodName)) ∈ lw_all := lw_g (lw_at lw_m5 196 rfl) rfl
theorem q1297 : (Jvm.Cond.code ({ cls := "ObligingPosts$Hours", name := "settingNow", desc := "()I" } : Jvm.MethodName) prog_6_method_14_code (2 : Nat) (Option.some Jvm.ClassFile.FieldType.int)) ∈ lw_all := lw_g (lw_at lw_m5 197 rfl) rfl
theorem q1298 : (Jvm.Cond.methodLink "ObligingPosts$Hours" (164 : Nat) ({ cls := "ObligingPosts$Hours", name := "setting", desc := "(I)I" } : Jvm.MethodName)) ∈ lw_all := lw_g (lw_at lw_m5 198 rfl) rfl
theorem q1346 : (Jvm.Cond.instanceMethod ({ cls := "ObligingPosts$Hours", name := "last", desc := "()I" } : Jvm.MethodName)) ∈ lw_all := lw_g (lw_at lw_m6 6 rfl) rfl
theorem q1347 : (Jvm.Cond.selects "ObligingPosts$Hours" ({ cls := "ObligingPosts$Hours", name := "last", desc := "()I" } : Jvm.MethodName) ({ cls := "ObligingPosts$Hours", name := "last", desc := "()I" } : Jvm.MethodName)) ∈ lw_all := lw_g (lw_at lw_m6 7 rfl) rfl
theorem q1348 : (Jvm.Cond.code ({ cls := "ObligingPosts$Hours", name := "last", desc := "()I" } : Jvm.MethodName) prog_6_method_11_code (1 : Nat) (Option.some Jvm.ClassFile.FieldType.int)) ∈ lw_all := lw_g (lw_at lw_m6 8 rfl) rfl
theorem q1349 : (Jvm.Cond.methodLink "ObligingPosts$Hours" (161 : Nat) ({ cls := "ObligingPosts$Hours", name := "inside", desc := "(I)I" } : Jvm.MethodName)) ∈ lw_all := lw_g (lw_at lw_m6 9 rfl) rfl
theorem q1518 : (Jvm.Cond.fieldLinkNest "ObligingPosts$Hours" (131 : Nat) "ObligingPosts$Deed" "isTurn" "Z" "ObligingPosts") ∈ lw_tbl := lw_at lw_m6 178 rfl
theorem q1520 : (Jvm.Cond.fieldLinkNest "ObligingPosts$Hours" (136 : Nat) "ObligingPosts$Deed" "who" "I" "ObligingPosts") ∈ lw_tbl := lw_at lw_m6 180 rfl
theorem q1522 : (Jvm.Cond.fieldLinkNest "ObligingPosts$Hours" (135 : Nat) "ObligingPosts$Deed" "hour" "I" "ObligingPosts") ∈ lw_tbl := lw_at lw_m6 182 rfl
theorem q2501 : (Jvm.Cond.castable "ObligingPosts$Hours" "java/lang/Object") ∈ lw_tbl := lw_at lw_m10 201 rfl
theorem q148 : (Jvm.Cond.initialized "ObligingPosts$Alone") ∈ lw_all := lw_g (lw_at lw_m1 8 rfl) rfl
theorem q559 : (Jvm.Cond.instantiable "ObligingPosts$Alone" (3 : Nat)) ∈ lw_all := lw_g (lw_at lw_m2 179 rfl) rfl
theorem q561 : (Jvm.Cond.instanceMethod ({ cls := "ObligingPosts$Alone", name := "<init>", desc := "(LObligingPosts;)V" } : Jvm.MethodName)) ∈ lw_all := lw_g (lw_at lw_m2 181 rfl) rfl
theorem q562 : (Jvm.Cond.code ({ cls := "ObligingPosts$Alone", name := "<init>", desc := "(LObligingPosts;)V" } : Jvm.MethodName) prog_2_method_1_code (2 : Nat) (Option.none : Option Jvm.ClassFile.FieldType)) ∈ lw_all := lw_g (lw_at lw_m2 182 rfl) rfl
theorem q563 : (Jvm.Cond.methodLink "ObligingPosts$Alone" (9 : Nat) ({ cls := "java/lang/Object", name := "<init>", desc := "()V" } : Jvm.MethodName)) ∈ lw_all := lw_g (lw_at lw_m2 183 rfl) rfl
theorem q564 : (Jvm.Cond.fieldLink "ObligingPosts$Alone" (15 : Nat) "ObligingPosts$Alone" "place" "I") ∈ lw_all := lw_g (lw_at lw_m2 184 rfl) rfl
theorem q566 : (Jvm.Cond.fieldLink "ObligingPosts$Alone" (19 : Nat) "ObligingPosts$Alone" "steps" "I") ∈ lw_all := lw_g (lw_at lw_m2 186 rfl) rfl
theorem q568 : (Jvm.Cond.fieldLink "ObligingPosts$Alone" (3 : Nat) "ObligingPosts$Alone" "this$0" "LObligingPosts;") ∈ lw_all := lw_g (lw_at lw_m2 188 rfl) rfl
theorem q569 : (Jvm.Cond.lays "ObligingPosts$Alone" "ObligingPosts$Alone" "place" "I") ∈ lw_all := lw_g (lw_at lw_m2 189 rfl) rfl
theorem q570 : (Jvm.Cond.soleField "ObligingPosts$Alone" "place") ∈ lw_all := lw_g (lw_at lw_m2 190 rfl) rfl
theorem q571 : (Jvm.Cond.lays "ObligingPosts$Alone" "ObligingPosts$Alone" "steps" "I") ∈ lw_all := lw_g (lw_at lw_m2 191 rfl) rfl
theorem q572 : (Jvm.Cond.soleField "ObligingPosts$Alone" "steps") ∈ lw_all := lw_g (lw_at lw_m2 192 rfl) rfl
theorem q573 : (Jvm.Cond.laysFinal "ObligingPosts$Alone" "ObligingPosts$Alone" "this$0" "LObligingPosts;") ∈ lw_all := lw_g (lw_at lw_m2 193 rfl) rfl
theorem q574 : (Jvm.Cond.soleField "ObligingPosts$Alone" "this$0") ∈ lw_all := lw_g (lw_at lw_m2 194 rfl) rfl
theorem q575 : (Jvm.Cond.superclass "ObligingPosts$Alone" "java/lang/Object") ∈ lw_all := lw_g (lw_at lw_m2 195 rfl) rfl
theorem q611 : (Jvm.Cond.fieldLinkNest "ObligingPosts$Alone" (35 : Nat) "ObligingPosts" "hours" "LObligingPosts$Hours;" "ObligingPosts") ∈ lw_tbl := lw_at lw_m2 231 rfl
theorem q831 : (Jvm.Cond.fieldLinkNest "ObligingPosts$Alone" (31 : Nat) "ObligingPosts$Post" "to" "[I" "ObligingPosts") ∈ lw_tbl := lw_at lw_m3 211 rfl
theorem q837 : (Jvm.Cond.fieldLinkNest "ObligingPosts$Alone" (26 : Nat) "ObligingPosts$Post" "many" "I" "ObligingPosts") ∈ lw_tbl := lw_at lw_m3 217 rfl
theorem q890 : (Jvm.Cond.selects "ObligingPosts$Alone" ({ cls := "java/lang/Object", name := "getClass", desc := "()Ljava/lang/Class;" } : Jvm.MethodName) ({ cls := "java/lang/Object", name := "getClass", desc := "()Ljava/lang/Class;" } : Jvm.MethodName)) ∈ lw_all := lw_g (lw_at lw_m4 30 rfl) rfl
theorem q1277 : (Jvm.Cond.instanceMethod ({ cls := "ObligingPosts$Alone", name := "goes", desc := "(I)LObligingPosts$Alone;" } : Jvm.MethodName)) ∈ lw_all := lw_g (lw_at lw_m5 177 rfl) rfl
theorem q1278 : (Jvm.Cond.selects "ObligingPosts$Alone" ({ cls := "ObligingPosts$Alone", name := "goes", desc := "(I)LObligingPosts$Alone;" } : Jvm.MethodName) ({ cls := "ObligingPosts$Alone", name := "goes", desc := "(I)LObligingPosts$Alone;" } : Jvm.MethodName)) ∈ lw_all := lw_g (lw_at lw_m5 178 rfl) rfl
theorem q1279 : (Jvm.Cond.code ({ cls := "ObligingPosts$Alone", name := "goes", desc := "(I)LObligingPosts$Alone;" } : Jvm.MethodName) prog_2_method_2_code (2 : Nat) (Option.some (Jvm.ClassFile.FieldType.object "ObligingPosts$Alone"))) ∈ lw_all := lw_g (lw_at lw_m5 179 rfl) rfl
theorem q1280 : (Jvm.Cond.methodLinkNest "ObligingPosts$Alone" (22 : Nat) ({ cls := "ObligingPosts", name := "postOf", desc := "(I)LObligingPosts$Post;" } : Jvm.MethodName) "ObligingPosts") ∈ lw_tbl := lw_at lw_m5 180 rfl
theorem q1281 : (Jvm.Cond.methodLinkNest "ObligingPosts$Alone" (39 : Nat) ({ cls := "ObligingPosts$Hours", name := "sends", desc := "(I)I" } : Jvm.MethodName) "ObligingPosts") ∈ lw_tbl := lw_at lw_m5 181 rfl
theorem q1283 : (Jvm.Cond.instanceMethod ({ cls := "ObligingPosts$Alone", name := "isIn", desc := "()Z" } : Jvm.MethodName)) ∈ lw_all := lw_g (lw_at lw_m5 183 rfl) rfl
theorem q1284 : (Jvm.Cond.selects "ObligingPosts$Alone" ({ cls := "ObligingPosts$Alone", name := "isIn", desc := "()Z" } : Jvm.MethodName) ({ cls := "ObligingPosts$Alone", name := "isIn", desc := "()Z" } : Jvm.MethodName)) ∈ lw_all := lw_g (lw_at lw_m5 184 rfl) rfl
theorem q1285 : (Jvm.Cond.code ({ cls := "ObligingPosts$Alone", name := "isIn", desc := "()Z" } : Jvm.MethodName) prog_2_method_3_code (1 : Nat) (Option.some Jvm.ClassFile.FieldType.boolean)) ∈ lw_all := lw_g (lw_at lw_m5 185 rfl) rfl
theorem q2502 : (Jvm.Cond.castable "ObligingPosts$Alone" "java/lang/Object") ∈ lw_tbl := lw_at lw_m10 202 rfl
theorem q149 : (Jvm.Cond.initialized "ObligingPosts$Stood") ∈ lw_all := lw_g (lw_at lw_m1 9 rfl) rfl
theorem q449 : (Jvm.Cond.fieldLinkNest "ObligingPosts$Stood" (91 : Nat) "ObligingPosts$Heath" "hours" "I" "ObligingPosts") ∈ lw_tbl := lw_at lw_m2 69 rfl
theorem q503 : (Jvm.Cond.fieldLinkNest "ObligingPosts$Stood" (42 : Nat) "ObligingPosts$Hours" "arm" "[I" "ObligingPosts") ∈ lw_tbl := lw_at lw_m2 123 rfl
theorem q506 : (Jvm.Cond.fieldLinkNest "ObligingPosts$Stood" (52 : Nat) "ObligingPosts$Hours" "at" "[I" "ObligingPosts") ∈ lw_tbl := lw_at lw_m2 126 rfl
theorem q577 : (Jvm.Cond.instantiable "ObligingPosts$Stood" (5 : Nat)) ∈ lw_all := lw_g (lw_at lw_m2 197 rfl) rfl
theorem q579 : (Jvm.Cond.instanceMethod ({ cls := "ObligingPosts$Stood", name := "<init>", desc := "(LObligingPosts;)V" } : Jvm.MethodName)) ∈ lw_all := lw_g (lw_at lw_m2 199 rfl) rfl
theorem q580 : (Jvm.Cond.code ({ cls := "ObligingPosts$Stood", name := "<init>", desc := "(LObligingPosts;)V" } : Jvm.MethodName) prog_10_method_1_code (2 : Nat) (Option.none : Option Jvm.ClassFile.FieldType)) ∈ lw_all := lw_g (lw_at lw_m2 200 rfl) rfl
theorem q581 : (Jvm.Cond.methodLink "ObligingPosts$Stood" (9 : Nat) ({ cls := "java/lang/Object", name := "<init>", desc := "()V" } : Jvm.MethodName)) ∈ lw_all := lw_g (lw_at lw_m2 201 rfl) rfl
theorem q582 : (Jvm.Cond.fieldLink "ObligingPosts$Stood" (15 : Nat) "ObligingPosts$Stood" "places" "[I") ∈ lw_all := lw_g (lw_at lw_m2 202 rfl) rfl
theorem q583 : (Jvm.Cond.fieldLink "ObligingPosts$Stood" (19 : Nat) "ObligingPosts$Stood" "bits" "I") ∈ lw_all := lw_g (lw_at lw_m2 203 rfl) rfl
theorem q585 : (Jvm.Cond.fieldLink "ObligingPosts$Stood" (74 : Nat) "ObligingPosts$Stood" "best" "I") ∈ lw_all := lw_g (lw_at lw_m2 205 rfl) rfl
theorem q587 : (Jvm.Cond.fieldLink "ObligingPosts$Stood" (81 : Nat) "ObligingPosts$Stood" "leaves" "I") ∈ lw_all := lw_g (lw_at lw_m2 207 rfl) rfl
theorem q589 : (Jvm.Cond.fieldLink "ObligingPosts$Stood" (3 : Nat) "ObligingPosts$Stood" "this$0" "LObligingPosts;") ∈ lw_all := lw_g (lw_at lw_m2 209 rfl) rfl
theorem q590 : (Jvm.Cond.laysFinal "ObligingPosts$Stood" "ObligingPosts$Stood" "places" "[I") ∈ lw_all := lw_g (lw_at lw_m2 210 rfl) rfl
theorem q591 : (Jvm.Cond.soleField "ObligingPosts$Stood" "places") ∈ lw_all := lw_g (lw_at lw_m2 211 rfl) rfl
theorem q592 : (Jvm.Cond.lays "ObligingPosts$Stood" "ObligingPosts$Stood" "bits" "I") ∈ lw_all := lw_g (lw_at lw_m2 212 rfl) rfl
theorem q593 : (Jvm.Cond.soleField "ObligingPosts$Stood" "bits") ∈ lw_all := lw_g (lw_at lw_m2 213 rfl) rfl
theorem q594 : (Jvm.Cond.lays "ObligingPosts$Stood" "ObligingPosts$Stood" "best" "I") ∈ lw_all := lw_g (lw_at lw_m2 214 rfl) rfl
theorem q595 : (Jvm.Cond.soleField "ObligingPosts$Stood" "best") ∈ lw_all := lw_g (lw_at lw_m2 215 rfl) rfl
theorem q596 : (Jvm.Cond.lays "ObligingPosts$Stood" "ObligingPosts$Stood" "leaves" "I") ∈ lw_all := lw_g (lw_at lw_m2 216 rfl) rfl
theorem q597 : (Jvm.Cond.soleField "ObligingPosts$Stood" "leaves") ∈ lw_all := lw_g (lw_at lw_m2 217 rfl) rfl
theorem q598 : (Jvm.Cond.laysFinal "ObligingPosts$Stood" "ObligingPosts$Stood" "this$0" "LObligingPosts;") ∈ lw_all := lw_g (lw_at lw_m2 218 rfl) rfl
theorem q599 : (Jvm.Cond.soleField "ObligingPosts$Stood" "this$0") ∈ lw_all := lw_g (lw_at lw_m2 219 rfl) rfl
theorem q600 : (Jvm.Cond.superclass "ObligingPosts$Stood" "java/lang/Object") ∈ lw_all := lw_g (lw_at lw_m2 220 rfl) rfl
theorem q603 : (Jvm.Cond.fieldLinkNest "ObligingPosts$Stood" (87 : Nat) "ObligingPosts" "now" "LObligingPosts$Heath;" "ObligingPosts") ∈ lw_tbl := lw_at lw_m2 223 rfl
theorem q610 : (Jvm.Cond.fieldLinkNest "ObligingPosts$Stood" (32 : Nat) "ObligingPosts" "hours" "LObligingPosts$Hours;" "ObligingPosts") ∈ lw_tbl := lw_at lw_m2 230 rfl
theorem q835 : (Jvm.Cond.fieldLinkNest "ObligingPosts$Stood" (27 : Nat) "ObligingPosts$Post" "many" "I" "ObligingPosts") ∈ lw_tbl := lw_at lw_m3 215 rfl
theorem q898 : (Jvm.Cond.selects "ObligingPosts$Stood" ({ cls := "java/lang/Object", name := "getClass", desc := "()Ljava/lang/Class;" } : Jvm.MethodName) ({ cls := "java/lang/Object", name := "getClass", desc := "()Ljava/lang/Class;" } : Jvm.MethodName)) ∈ lw_all := lw_g (lw_at lw_m4 38 rfl) rfl
theorem q1376 : (Jvm.Cond.instanceMethod ({ cls := "ObligingPosts$Stood", name := "of", desc := "(LObligingPosts$Slot;I)LObligingPosts$Stood;" } : Jvm.MethodName)) ∈ lw_all := lw_g (lw_at lw_m6 36 rfl) rfl
theorem q1377 : (Jvm.Cond.selects "ObligingPosts$Stood" ({ cls := "ObligingPosts$Stood", name := "of", desc := "(LObligingPosts$Slot;I)LObligingPosts$Stood;" } : Jvm.MethodName) ({ cls := "ObligingPosts$Stood", name := "of", desc := "(LObligingPosts$Slot;I)LObligingPosts$Stood;" } : Jvm.MethodName)) ∈ lw_all := lw_g (lw_at lw_m6 37 rfl) rfl
theorem q1378 : (Jvm.Cond.code ({ cls := "ObligingPosts$Stood", name := "of", desc := "(LObligingPosts$Slot;I)LObligingPosts$Stood;" } : Jvm.MethodName) prog_10_method_2_code (4 : Nat) (Option.some (Jvm.ClassFile.FieldType.object "ObligingPosts$Stood"))) ∈ lw_all := lw_g (lw_at lw_m6 38 rfl) rfl
theorem q1379 : (Jvm.Cond.methodLinkNest "ObligingPosts$Stood" (23 : Nat) ({ cls := "ObligingPosts", name := "postOf", desc := "(I)LObligingPosts$Post;" } : Jvm.MethodName) "ObligingPosts") ∈ lw_tbl := lw_at lw_m6 39 rfl
theorem q1380 : (Jvm.Cond.methodLink "ObligingPosts$Stood" (36 : Nat) ({ cls := "ObligingPosts$Hours", name := "is", desc := "()LObligingPosts$Hours;" } : Jvm.MethodName)) ∈ lw_all := lw_g (lw_at lw_m6 40 rfl) rfl
theorem q1381 : (Jvm.Cond.methodLink "ObligingPosts$Stood" (45 : Nat) ({ cls := "ObligingPosts$Hours", name := "goes", desc := "()LObligingPosts$Hours;" } : Jvm.MethodName)) ∈ lw_all := lw_g (lw_at lw_m6 41 rfl) rfl
theorem q1382 : (Jvm.Cond.methodLinkNest "ObligingPosts$Stood" (48 : Nat) ({ cls := "ObligingPosts", name := "isSo", desc := "(LObligingPosts$Slot;)Z" } : Jvm.MethodName) "ObligingPosts") ∈ lw_tbl := lw_at lw_m6 42 rfl
theorem q1386 : (Jvm.Cond.methodLink "ObligingPosts$Stood" (55 : Nat) ({ cls := "java/lang/System", name := "arraycopy", desc := "(Ljava/lang/Object;ILjava/lang/Object;II)V" } : Jvm.MethodName)) ∈ lw_all := lw_g (lw_at lw_m6 46 rfl) rfl
theorem q1387 : (Jvm.Cond.methodLink "ObligingPosts$Stood" (61 : Nat) ({ cls := "ObligingPosts$Stood", name := "asks", desc := "()V" } : Jvm.MethodName)) ∈ lw_all := lw_g (lw_at lw_m6 47 rfl) rfl
theorem q1388 : (Jvm.Cond.privateMethod ({ cls := "ObligingPosts$Stood", name := "asks", desc := "()V" } : Jvm.MethodName)) ∈ lw_tbl := lw_at lw_m6 48 rfl
theorem q1389 : (Jvm.Cond.instanceMethod ({ cls := "ObligingPosts$Stood", name := "asks", desc := "()V" } : Jvm.MethodName)) ∈ lw_all := lw_g (lw_at lw_m6 49 rfl) rfl
theorem q1390 : (Jvm.Cond.code ({ cls := "ObligingPosts$Stood", name := "asks", desc := "()V" } : Jvm.MethodName) prog_10_method_4_code (4 : Nat) (Option.none : Option Jvm.ClassFile.FieldType)) ∈ lw_all := lw_g (lw_at lw_m6 50 rfl) rfl
theorem q1391 : (Jvm.Cond.methodLinkNest "ObligingPosts$Stood" (77 : Nat) ({ cls := "ObligingPosts", name := "size", desc := "(I)I" } : Jvm.MethodName) "ObligingPosts") ∈ lw_tbl := lw_at lw_m6 51 rfl
theorem q1392 : (Jvm.Cond.methodLinkNest "ObligingPosts$Stood" (84 : Nat) ({ cls := "ObligingPosts", name := "many", desc := "()I" } : Jvm.MethodName) "ObligingPosts") ∈ lw_tbl := lw_at lw_m6 52 rfl
theorem q1393 : (Jvm.Cond.methodLink "ObligingPosts$Stood" (95 : Nat) ({ cls := "ObligingPosts$Stood", name := "worstAt", desc := "(I)I" } : Jvm.MethodName)) ∈ lw_all := lw_g (lw_at lw_m6 53 rfl) rfl
theorem q1394 : (Jvm.Cond.privateMethod ({ cls := "ObligingPosts$Stood", name := "worstAt", desc := "(I)I" } : Jvm.MethodName)) ∈ lw_tbl := lw_at lw_m6 54 rfl
theorem q1395 : (Jvm.Cond.instanceMethod ({ cls := "ObligingPosts$Stood", name := "worstAt", desc := "(I)I" } : Jvm.MethodName)) ∈ lw_all := lw_g (lw_at lw_m6 55 rfl) rfl
theorem q1396 : (Jvm.Cond.code ({ cls := "ObligingPosts$Stood", name := "worstAt", desc := "(I)I" } : Jvm.MethodName) prog_10_method_3_code (6 : Nat) (Option.some Jvm.ClassFile.FieldType.int)) ∈ lw_all := lw_g (lw_at lw_m6 56 rfl) rfl
theorem q1397 : (Jvm.Cond.methodLinkNest "ObligingPosts$Stood" (64 : Nat) ({ cls := "ObligingPosts", name := "isOn", desc := "(II)Z" } : Jvm.MethodName) "ObligingPosts") ∈ lw_tbl := lw_at lw_m6 57 rfl
theorem q1398 : (Jvm.Cond.methodLink "ObligingPosts$Stood" (68 : Nat) ({ cls := "java/lang/Math", name := "max", desc := "(II)I" } : Jvm.MethodName)) ∈ lw_all := lw_g (lw_at lw_m6 58 rfl) rfl
theorem q2503 : (Jvm.Cond.castable "ObligingPosts$Stood" "java/lang/Object") ∈ lw_tbl := lw_at lw_m10 203 rfl
theorem q150 : (Jvm.Cond.initialized "ObligingPostsModel") ∈ lw_all := lw_g (lw_at lw_m1 10 rfl) rfl
theorem q900 : (Jvm.Cond.selects "ObligingPostsModel" ({ cls := "java/lang/Object", name := "getClass", desc := "()Ljava/lang/Class;" } : Jvm.MethodName) ({ cls := "java/lang/Object", name := "getClass", desc := "()Ljava/lang/Class;" } : Jvm.MethodName)) ∈ lw_all := lw_g (lw_at lw_m4 40 rfl) rfl
theorem q1685 : (Jvm.Cond.instantiable "ObligingPostsModel" (41 : Nat)) ∈ lw_all := lw_g (lw_at lw_m7 105 rfl) rfl
theorem q1687 : (Jvm.Cond.instanceMethod ({ cls := "ObligingPostsModel", name := "<init>", desc := "()V" } : Jvm.MethodName)) ∈ lw_all := lw_g (lw_at lw_m7 107 rfl) rfl
theorem q1688 : (Jvm.Cond.code ({ cls := "ObligingPostsModel", name := "<init>", desc := "()V" } : Jvm.MethodName) prog_13_method_1_code (1 : Nat) (Option.none : Option Jvm.ClassFile.FieldType)) ∈ lw_all := lw_g (lw_at lw_m7 108 rfl) rfl
theorem q1689 : (Jvm.Cond.methodLink "ObligingPostsModel" (3 : Nat) ({ cls := "java/lang/Object", name := "<init>", desc := "()V" } : Jvm.MethodName)) ∈ lw_all := lw_g (lw_at lw_m7 109 rfl) rfl
theorem q1690 : (Jvm.Cond.fieldLink "ObligingPostsModel" (9 : Nat) "ObligingPostsModel" "world" "[I") ∈ lw_all := lw_g (lw_at lw_m7 110 rfl) rfl
theorem q1691 : (Jvm.Cond.fieldLink "ObligingPostsModel" (13 : Nat) "ObligingPostsModel" "images" "[I") ∈ lw_all := lw_g (lw_at lw_m7 111 rfl) rfl
theorem q1692 : (Jvm.Cond.fieldLink "ObligingPostsModel" (16 : Nat) "ObligingPostsModel" "hasImage" "[Z") ∈ lw_all := lw_g (lw_at lw_m7 112 rfl) rfl
theorem q1693 : (Jvm.Cond.fieldLink "ObligingPostsModel" (20 : Nat) "ObligingPostsModel" "tape" "[B") ∈ lw_all := lw_g (lw_at lw_m7 113 rfl) rfl
theorem q1694 : (Jvm.Cond.fieldLink "ObligingPostsModel" (121 : Nat) "ObligingPostsModel" "taped" "I") ∈ lw_all := lw_g (lw_at lw_m7 114 rfl) rfl
theorem q1695 : (Jvm.Cond.fieldLink "ObligingPostsModel" (24 : Nat) "ObligingPostsModel" "five" "[I") ∈ lw_all := lw_g (lw_at lw_m7 115 rfl) rfl
theorem q1696 : (Jvm.Cond.fieldLink "ObligingPostsModel" (124 : Nat) "ObligingPostsModel" "size" "I") ∈ lw_all := lw_g (lw_at lw_m7 116 rfl) rfl
theorem q1697 : (Jvm.Cond.fieldLink "ObligingPostsModel" (127 : Nat) "ObligingPostsModel" "at" "I") ∈ lw_all := lw_g (lw_at lw_m7 117 rfl) rfl
theorem q1698 : (Jvm.Cond.fieldLink "ObligingPostsModel" (134 : Nat) "ObligingPostsModel" "from" "I") ∈ lw_all := lw_g (lw_at lw_m7 118 rfl) rfl
theorem q1699 : (Jvm.Cond.fieldLink "ObligingPostsModel" (137 : Nat) "ObligingPostsModel" "token" "I") ∈ lw_all := lw_g (lw_at lw_m7 119 rfl) rfl
theorem q1700 : (Jvm.Cond.fieldLink "ObligingPostsModel" (148 : Nat) "ObligingPostsModel" "value" "I") ∈ lw_all := lw_g (lw_at lw_m7 120 rfl) rfl
theorem q1701 : (Jvm.Cond.fieldLink "ObligingPostsModel" (158 : Nat) "ObligingPostsModel" "faultKind" "I") ∈ lw_all := lw_g (lw_at lw_m7 121 rfl) rfl
theorem q1702 : (Jvm.Cond.fieldLink "ObligingPostsModel" (27 : Nat) "ObligingPostsModel" "faultPlace" "I") ∈ lw_all := lw_g (lw_at lw_m7 122 rfl) rfl
theorem q1703 : (Jvm.Cond.fieldLink "ObligingPostsModel" (31 : Nat) "ObligingPostsModel" "fresh" "[I") ∈ lw_all := lw_g (lw_at lw_m7 123 rfl) rfl
theorem q1704 : (Jvm.Cond.fieldLink "ObligingPostsModel" (34 : Nat) "ObligingPostsModel" "armFirst" "[I") ∈ lw_all := lw_g (lw_at lw_m7 124 rfl) rfl
theorem q1705 : (Jvm.Cond.fieldLink "ObligingPostsModel" (37 : Nat) "ObligingPostsModel" "hourNow" "[I") ∈ lw_all := lw_g (lw_at lw_m7 125 rfl) rfl
theorem q1706 : (Jvm.Cond.fieldLink "ObligingPostsModel" (257 : Nat) "ObligingPostsModel" "lawNow" "I") ∈ lw_all := lw_g (lw_at lw_m7 126 rfl) rfl
theorem q1707 : (Jvm.Cond.fieldLink "ObligingPostsModel" (260 : Nat) "ObligingPostsModel" "fogSet" "I") ∈ lw_all := lw_g (lw_at lw_m7 127 rfl) rfl
theorem q1708 : (Jvm.Cond.fieldLink "ObligingPostsModel" (263 : Nat) "ObligingPostsModel" "turnSet" "I") ∈ lw_all := lw_g (lw_at lw_m7 128 rfl) rfl
theorem q1709 : (Jvm.Cond.fieldLink "ObligingPostsModel" (40 : Nat) "ObligingPostsModel" "armNow" "[I") ∈ lw_all := lw_g (lw_at lw_m7 129 rfl) rfl
theorem q1710 : (Jvm.Cond.fieldLink "ObligingPostsModel" (43 : Nat) "ObligingPostsModel" "placeNow" "[I") ∈ lw_all := lw_g (lw_at lw_m7 130 rfl) rfl
theorem q1711 : (Jvm.Cond.fieldLink "ObligingPostsModel" (46 : Nat) "ObligingPostsModel" "placeAt" "[I") ∈ lw_all := lw_g (lw_at lw_m7 131 rfl) rfl
theorem q1712 : (Jvm.Cond.fieldLink "ObligingPostsModel" (49 : Nat) "ObligingPostsModel" "armAt" "[I") ∈ lw_all := lw_g (lw_at lw_m7 132 rfl) rfl
theorem q1713 : (Jvm.Cond.fieldLink "ObligingPostsModel" (52 : Nat) "ObligingPostsModel" "sentAt" "[I") ∈ lw_all := lw_g (lw_at lw_m7 133 rfl) rfl
theorem q1714 : (Jvm.Cond.fieldLink "ObligingPostsModel" (55 : Nat) "ObligingPostsModel" "sentBy" "[I") ∈ lw_all := lw_g (lw_at lw_m7 134 rfl) rfl
theorem q1715 : (Jvm.Cond.fieldLink "ObligingPostsModel" (58 : Nat) "ObligingPostsModel" "walked" "[I") ∈ lw_all := lw_g (lw_at lw_m7 135 rfl) rfl
theorem q1716 : (Jvm.Cond.fieldLink "ObligingPostsModel" (61 : Nat) "ObligingPostsModel" "guestNow" "[I") ∈ lw_all := lw_g (lw_at lw_m7 136 rfl) rfl
theorem q1717 : (Jvm.Cond.fieldLink "ObligingPostsModel" (64 : Nat) "ObligingPostsModel" "refused" "[I") ∈ lw_all := lw_g (lw_at lw_m7 137 rfl) rfl
theorem q1718 : (Jvm.Cond.fieldLink "ObligingPostsModel" (67 : Nat) "ObligingPostsModel" "some" "[I") ∈ lw_all := lw_g (lw_at lw_m7 138 rfl) rfl
theorem q1719 : (Jvm.Cond.fieldLink "ObligingPostsModel" (373 : Nat) "ObligingPostsModel" "soloSteps" "I") ∈ lw_all := lw_g (lw_at lw_m7 139 rfl) rfl
theorem q1720 : (Jvm.Cond.fieldLink "ObligingPostsModel" (70 : Nat) "ObligingPostsModel" "placeBy" "[I") ∈ lw_all := lw_g (lw_at lw_m7 140 rfl) rfl
theorem q1721 : (Jvm.Cond.fieldLink "ObligingPostsModel" (419 : Nat) "ObligingPostsModel" "askWorst" "I") ∈ lw_all := lw_g (lw_at lw_m7 141 rfl) rfl
theorem q1722 : (Jvm.Cond.fieldLink "ObligingPostsModel" (73 : Nat) "ObligingPostsModel" "worthBy" "[I") ∈ lw_all := lw_g (lw_at lw_m7 142 rfl) rfl
theorem q1723 : (Jvm.Cond.fieldLink "ObligingPostsModel" (458 : Nat) "ObligingPostsModel" "oftenAll" "J") ∈ lw_all := lw_g (lw_at lw_m7 143 rfl) rfl
theorem q1724 : (Jvm.Cond.fieldLink "ObligingPostsModel" (462 : Nat) "ObligingPostsModel" "oftenInside" "J") ∈ lw_all := lw_g (lw_at lw_m7 144 rfl) rfl
theorem q1725 : (Jvm.Cond.fieldLink "ObligingPostsModel" (465 : Nat) "ObligingPostsModel" "oftenMany" "J") ∈ lw_all := lw_g (lw_at lw_m7 145 rfl) rfl
theorem q1726 : (Jvm.Cond.fieldLink "ObligingPostsModel" (76 : Nat) "ObligingPostsModel" "many" "[I") ∈ lw_all := lw_g (lw_at lw_m7 146 rfl) rfl
theorem q1727 : (Jvm.Cond.fieldLink "ObligingPostsModel" (79 : Nat) "ObligingPostsModel" "width" "[I") ∈ lw_all := lw_g (lw_at lw_m7 147 rfl) rfl
theorem q1728 : (Jvm.Cond.fieldLink "ObligingPostsModel" (82 : Nat) "ObligingPostsModel" "numbers" "[J") ∈ lw_all := lw_g (lw_at lw_m7 148 rfl) rfl
theorem q1729 : (Jvm.Cond.fieldLink "ObligingPostsModel" (86 : Nat) "ObligingPostsModel" "moving" "[J") ∈ lw_all := lw_g (lw_at lw_m7 149 rfl) rfl
theorem q1730 : (Jvm.Cond.lays "ObligingPostsModel" "ObligingPostsModel" "thrown" "I") ∈ lw_all := lw_g (lw_at lw_m7 150 rfl) rfl
theorem q1731 : (Jvm.Cond.soleField "ObligingPostsModel" "thrown") ∈ lw_all := lw_g (lw_at lw_m7 151 rfl) rfl
theorem q1732 : (Jvm.Cond.laysFinal "ObligingPostsModel" "ObligingPostsModel" "world" "[I") ∈ lw_all := lw_g (lw_at lw_m7 152 rfl) rfl
theorem q1733 : (Jvm.Cond.soleField "ObligingPostsModel" "world") ∈ lw_all := lw_g (lw_at lw_m7 153 rfl) rfl
theorem q1734 : (Jvm.Cond.laysFinal "ObligingPostsModel" "ObligingPostsModel" "images" "[I") ∈ lw_all := lw_g (lw_at lw_m7 154 rfl) rfl
theorem q1735 : (Jvm.Cond.soleField "ObligingPostsModel" "images") ∈ lw_all := lw_g (lw_at lw_m7 155 rfl) rfl
theorem q1736 : (Jvm.Cond.laysFinal "ObligingPostsModel" "ObligingPostsModel" "hasImage" "[Z") ∈ lw_all := lw_g (lw_at lw_m7 156 rfl) rfl
theorem q1737 : (Jvm.Cond.soleField "ObligingPostsModel" "hasImage") ∈ lw_all := lw_g (lw_at lw_m7 157 rfl) rfl
theorem q1738 : (Jvm.Cond.laysFinal "ObligingPostsModel" "ObligingPostsModel" "tape" "[B") ∈ lw_all := lw_g (lw_at lw_m7 158 rfl) rfl
theorem q1739 : (Jvm.Cond.soleField "ObligingPostsModel" "tape") ∈ lw_all := lw_g (lw_at lw_m7 159 rfl) rfl
theorem q1740 : (Jvm.Cond.lays "ObligingPostsModel" "ObligingPostsModel" "taped" "I") ∈ lw_all := lw_g (lw_at lw_m7 160 rfl) rfl
theorem q1741 : (Jvm.Cond.soleField "ObligingPostsModel" "taped") ∈ lw_all := lw_g (lw_at lw_m7 161 rfl) rfl
theorem q1742 : (Jvm.Cond.laysFinal "ObligingPostsModel" "ObligingPostsModel" "five" "[I") ∈ lw_all := lw_g (lw_at lw_m7 162 rfl) rfl
theorem q1743 : (Jvm.Cond.soleField "ObligingPostsModel" "five") ∈ lw_all := lw_g (lw_at lw_m7 163 rfl) rfl
theorem q1744 : (Jvm.Cond.lays "ObligingPostsModel" "ObligingPostsModel" "size" "I") ∈ lw_all := lw_g (lw_at lw_m7 164 rfl) rfl
theorem q1745 : (Jvm.Cond.soleField "ObligingPostsModel" "size") ∈ lw_all := lw_g (lw_at lw_m7 165 rfl) rfl
theorem q1746 : (Jvm.Cond.lays "ObligingPostsModel" "ObligingPostsModel" "at" "I") ∈ lw_all := lw_g (lw_at lw_m7 166 rfl) rfl
theorem q1747 : (Jvm.Cond.soleField "ObligingPostsModel" "at") ∈ lw_all := lw_g (lw_at lw_m7 167 rfl) rfl
theorem q1748 : (Jvm.Cond.lays "ObligingPostsModel" "ObligingPostsModel" "from" "I") ∈ lw_all := lw_g (lw_at lw_m7 168 rfl) rfl
theorem q1749 : (Jvm.Cond.soleField "ObligingPostsModel" "from") ∈ lw_all := lw_g (lw_at lw_m7 169 rfl) rfl
theorem q1750 : (Jvm.Cond.lays "ObligingPostsModel" "ObligingPostsModel" "token" "I") ∈ lw_all := lw_g (lw_at lw_m7 170 rfl) rfl
theorem q1751 : (Jvm.Cond.soleField "ObligingPostsModel" "token") ∈ lw_all := lw_g (lw_at lw_m7 171 rfl) rfl
theorem q1752 : (Jvm.Cond.lays "ObligingPostsModel" "ObligingPostsModel" "value" "I") ∈ lw_all := lw_g (lw_at lw_m7 172 rfl) rfl
theorem q1753 : (Jvm.Cond.soleField "ObligingPostsModel" "value") ∈ lw_all := lw_g (lw_at lw_m7 173 rfl) rfl
theorem q1754 : (Jvm.Cond.lays "ObligingPostsModel" "ObligingPostsModel" "faultKind" "I") ∈ lw_all := lw_g (lw_at lw_m7 174 rfl) rfl
theorem q1755 : (Jvm.Cond.soleField "ObligingPostsModel" "faultKind") ∈ lw_all := lw_g (lw_at lw_m7 175 rfl) rfl
theorem q1756 : (Jvm.Cond.lays "ObligingPostsModel" "ObligingPostsModel" "faultPlace" "I") ∈ lw_all := lw_g (lw_at lw_m7 176 rfl) rfl
theorem q1757 : (Jvm.Cond.soleField "ObligingPostsModel" "faultPlace") ∈ lw_all := lw_g (lw_at lw_m7 177 rfl) rfl
theorem q1758 : (Jvm.Cond.laysFinal "ObligingPostsModel" "ObligingPostsModel" "fresh" "[I") ∈ lw_all := lw_g (lw_at lw_m7 178 rfl) rfl
theorem q1759 : (Jvm.Cond.soleField "ObligingPostsModel" "fresh") ∈ lw_all := lw_g (lw_at lw_m7 179 rfl) rfl
theorem q1760 : (Jvm.Cond.laysFinal "ObligingPostsModel" "ObligingPostsModel" "armFirst" "[I") ∈ lw_all := lw_g (lw_at lw_m7 180 rfl) rfl
theorem q1761 : (Jvm.Cond.soleField "ObligingPostsModel" "armFirst") ∈ lw_all := lw_g (lw_at lw_m7 181 rfl) rfl
theorem q1762 : (Jvm.Cond.laysFinal "ObligingPostsModel" "ObligingPostsModel" "hourNow" "[I") ∈ lw_all := lw_g (lw_at lw_m7 182 rfl) rfl
theorem q1763 : (Jvm.Cond.soleField "ObligingPostsModel" "hourNow") ∈ lw_all := lw_g (lw_at lw_m7 183 rfl) rfl
theorem q1764 : (Jvm.Cond.lays "ObligingPostsModel" "ObligingPostsModel" "lawNow" "I") ∈ lw_all := lw_g (lw_at lw_m7 184 rfl) rfl
theorem q1765 : (Jvm.Cond.soleField "ObligingPostsModel" "lawNow") ∈ lw_all := lw_g (lw_at lw_m7 185 rfl) rfl
theorem q1766 : (Jvm.Cond.lays "ObligingPostsModel" "ObligingPostsModel" "fogSet" "I") ∈ lw_all := lw_g (lw_at lw_m7 186 rfl) rfl
theorem q1767 : (Jvm.Cond.soleField "ObligingPostsModel" "fogSet") ∈ lw_all := lw_g (lw_at lw_m7 187 rfl) rfl
theorem q1768 : (Jvm.Cond.lays "ObligingPostsModel" "ObligingPostsModel" "turnSet" "I") ∈ lw_all := lw_g (lw_at lw_m7 188 rfl) rfl
theorem q1769 : (Jvm.Cond.soleField "ObligingPostsModel" "turnSet") ∈ lw_all := lw_g (lw_at lw_m7 189 rfl) rfl
theorem q1770 : (Jvm.Cond.laysFinal "ObligingPostsModel" "ObligingPostsModel" "armNow" "[I") ∈ lw_all := lw_g (lw_at lw_m7 190 rfl) rfl
theorem q1771 : (Jvm.Cond.soleField "ObligingPostsModel" "armNow") ∈ lw_all := lw_g (lw_at lw_m7 191 rfl) rfl
theorem q1772 : (Jvm.Cond.laysFinal "ObligingPostsModel" "ObligingPostsModel" "placeNow" "[I") ∈ lw_all := lw_g (lw_at lw_m7 192 rfl) rfl
theorem q1773 : (Jvm.Cond.soleField "ObligingPostsModel" "placeNow") ∈ lw_all := lw_g (lw_at lw_m7 193 rfl) rfl
theorem q1774 : (Jvm.Cond.laysFinal "ObligingPostsModel" "ObligingPostsModel" "placeAt" "[I") ∈ lw_all := lw_g (lw_at lw_m7 194 rfl) rfl
theorem q1775 : (Jvm.Cond.soleField "ObligingPostsModel" "placeAt") ∈ lw_all := lw_g (lw_at lw_m7 195 rfl) rfl
theorem q1776 : (Jvm.Cond.laysFinal "ObligingPostsModel" "ObligingPostsModel" "armAt" "[I") ∈ lw_all := lw_g (lw_at lw_m7 196 rfl) rfl
theorem q1777 : (Jvm.Cond.soleField "ObligingPostsModel" "armAt") ∈ lw_all := lw_g (lw_at lw_m7 197 rfl) rfl
theorem q1778 : (Jvm.Cond.laysFinal "ObligingPostsModel" "ObligingPostsModel" "sentAt" "[I") ∈ lw_all := lw_g (lw_at lw_m7 198 rfl) rfl
theorem q1779 : (Jvm.Cond.soleField "ObligingPostsModel" "sentAt") ∈ lw_all := lw_g (lw_at lw_m7 199 rfl) rfl
theorem q1780 : (Jvm.Cond.laysFinal "ObligingPostsModel" "ObligingPostsModel" "sentBy" "[I") ∈ lw_all := lw_g (lw_at lw_m7 200 rfl) rfl
theorem q1781 : (Jvm.Cond.soleField "ObligingPostsModel" "sentBy") ∈ lw_all := lw_g (lw_at lw_m7 201 rfl) rfl
theorem q1782 : (Jvm.Cond.laysFinal "ObligingPostsModel" "ObligingPostsModel" "walked" "[I") ∈ lw_all := lw_g (lw_at lw_m7 202 rfl) rfl
theorem q1783 : (Jvm.Cond.soleField "ObligingPostsModel" "walked") ∈ lw_all := lw_g (lw_at lw_m7 203 rfl) rfl
theorem q1784 : (Jvm.Cond.laysFinal "ObligingPostsModel" "ObligingPostsModel" "guestNow" "[I") ∈ lw_all := lw_g (lw_at lw_m7 204 rfl) rfl
theorem q1785 : (Jvm.Cond.soleField "ObligingPostsModel" "guestNow") ∈ lw_all := lw_g (lw_at lw_m7 205 rfl) rfl
theorem q1786 : (Jvm.Cond.laysFinal "ObligingPostsModel" "ObligingPostsModel" "refused" "[I") ∈ lw_all := lw_g (lw_at lw_m7 206 rfl) rfl
theorem q1787 : (Jvm.Cond.soleField "ObligingPostsModel" "refused") ∈ lw_all := lw_g (lw_at lw_m7 207 rfl) rfl
theorem q1788 : (Jvm.Cond.laysFinal "ObligingPostsModel" "ObligingPostsModel" "some" "[I") ∈ lw_all := lw_g (lw_at lw_m7 208 rfl) rfl
theorem q1789 : (Jvm.Cond.soleField "ObligingPostsModel" "some") ∈ lw_all := lw_g (lw_at lw_m7 209 rfl) rfl
theorem q1790 : (Jvm.Cond.lays "ObligingPostsModel" "ObligingPostsModel" "soloSteps" "I") ∈ lw_all := lw_g (lw_at lw_m7 210 rfl) rfl
theorem q1791 : (Jvm.Cond.soleField "ObligingPostsModel" "soloSteps") ∈ lw_all := lw_g (lw_at lw_m7 211 rfl) rfl
theorem q1792 : (Jvm.Cond.laysFinal "ObligingPostsModel" "ObligingPostsModel" "placeBy" "[I") ∈ lw_all := lw_g (lw_at lw_m7 212 rfl) rfl
theorem q1793 : (Jvm.Cond.soleField "ObligingPostsModel" "placeBy") ∈ lw_all := lw_g (lw_at lw_m7 213 rfl) rfl
theorem q1794 : (Jvm.Cond.lays "ObligingPostsModel" "ObligingPostsModel" "askWorst" "I") ∈ lw_all := lw_g (lw_at lw_m7 214 rfl) rfl
theorem q1795 : (Jvm.Cond.soleField "ObligingPostsModel" "askWorst") ∈ lw_all := lw_g (lw_at lw_m7 215 rfl) rfl
theorem q1796 : (Jvm.Cond.laysFinal "ObligingPostsModel" "ObligingPostsModel" "worthBy" "[I") ∈ lw_all := lw_g (lw_at lw_m7 216 rfl) rfl
theorem q1797 : (Jvm.Cond.soleField "ObligingPostsModel" "worthBy") ∈ lw_all := lw_g (lw_at lw_m7 217 rfl) rfl
theorem q1798 : (Jvm.Cond.lays "ObligingPostsModel" "ObligingPostsModel" "oftenAll" "J") ∈ lw_all := lw_g (lw_at lw_m7 218 rfl) rfl
theorem q1799 : (Jvm.Cond.soleField "ObligingPostsModel" "oftenAll") ∈ lw_all := lw_g (lw_at lw_m7 219 rfl) rfl
theorem q1800 : (Jvm.Cond.lays "ObligingPostsModel" "ObligingPostsModel" "oftenInside" "J") ∈ lw_all := lw_g (lw_at lw_m7 220 rfl) rfl
theorem q1801 : (Jvm.Cond.soleField "ObligingPostsModel" "oftenInside") ∈ lw_all := lw_g (lw_at lw_m7 221 rfl) rfl
theorem q1802 : (Jvm.Cond.lays "ObligingPostsModel" "ObligingPostsModel" "oftenMany" "J") ∈ lw_all := lw_g (lw_at lw_m7 222 rfl) rfl
theorem q1803 : (Jvm.Cond.soleField "ObligingPostsModel" "oftenMany") ∈ lw_all := lw_g (lw_at lw_m7 223 rfl) rfl
theorem q1804 : (Jvm.Cond.laysFinal "ObligingPostsModel" "ObligingPostsModel" "many" "[I") ∈ lw_all := lw_g (lw_at lw_m7 224 rfl) rfl
theorem q1805 : (Jvm.Cond.soleField "ObligingPostsModel" "many") ∈ lw_all := lw_g (lw_at lw_m7 225 rfl) rfl
theorem q1806 : (Jvm.Cond.laysFinal "ObligingPostsModel" "ObligingPostsModel" "width" "[I") ∈ lw_all := lw_g (lw_at lw_m7 226 rfl) rfl
theorem q1807 : (Jvm.Cond.soleField "ObligingPostsModel" "width") ∈ lw_all := lw_g (lw_at lw_m7 227 rfl) rfl
theorem q1808 : (Jvm.Cond.laysFinal "ObligingPostsModel" "ObligingPostsModel" "numbers" "[J") ∈ lw_all := lw_g (lw_at lw_m7 228 rfl) rfl
theorem q1809 : (Jvm.Cond.soleField "ObligingPostsModel" "numbers") ∈ lw_all := lw_g (lw_at lw_m7 229 rfl) rfl
theorem q1810 : (Jvm.Cond.laysFinal "ObligingPostsModel" "ObligingPostsModel" "moving" "[J") ∈ lw_all := lw_g (lw_at lw_m7 230 rfl) rfl
theorem q1811 : (Jvm.Cond.soleField "ObligingPostsModel" "moving") ∈ lw_all := lw_g (lw_at lw_m7 231 rfl) rfl
theorem q1812 : (Jvm.Cond.superclass "ObligingPostsModel" "java/lang/Object") ∈ lw_all := lw_g (lw_at lw_m7 232 rfl) rfl
theorem q1815 : (Jvm.Cond.instanceMethod ({ cls := "ObligingPostsModel", name := "image", desc := "(I)I" } : Jvm.MethodName)) ∈ lw_all := lw_g (lw_at lw_m7 235 rfl) rfl
theorem q1816 : (Jvm.Cond.selects "ObligingPostsModel" ({ cls := "ObligingPostsModel", name := "image", desc := "(I)I" } : Jvm.MethodName) ({ cls := "ObligingPostsModel", name := "image", desc := "(I)I" } : Jvm.MethodName)) ∈ lw_all := lw_g (lw_at lw_m7 236 rfl) rfl
theorem q1817 : (Jvm.Cond.code ({ cls := "ObligingPostsModel", name := "image", desc := "(I)I" } : Jvm.MethodName) prog_13_method_6_code (3 : Nat) (Option.some Jvm.ClassFile.FieldType.int)) ∈ lw_all := lw_g (lw_at lw_m7 237 rfl) rfl
theorem q1818 : (Jvm.Cond.constantLong "ObligingPostsModel" (92 : Nat) (2 : Int64)) ∈ lw_all := lw_g (lw_at lw_m7 238 rfl) rfl
theorem q1819 : (Jvm.Cond.methodLink "ObligingPostsModel" (94 : Nat) ({ cls := "ObligingPostsModel", name := "in", desc := "(JJJ)Z" } : Jvm.MethodName)) ∈ lw_all := lw_g (lw_at lw_m7 239 rfl) rfl
theorem q1820 : (Jvm.Cond.static ({ cls := "ObligingPostsModel", name := "in", desc := "(JJJ)Z" } : Jvm.MethodName)) ∈ lw_all := lw_g (lw_at lw_m8 0 rfl) rfl
theorem q1821 : (Jvm.Cond.code ({ cls := "ObligingPostsModel", name := "in", desc := "(JJJ)Z" } : Jvm.MethodName) prog_13_method_3_code (6 : Nat) (Option.some Jvm.ClassFile.FieldType.boolean)) ∈ lw_all := lw_g (lw_at lw_m8 1 rfl) rfl
theorem q1823 : (Jvm.Cond.instanceMethod ({ cls := "ObligingPostsModel", name := "back", desc := "(I)I" } : Jvm.MethodName)) ∈ lw_all := lw_g (lw_at lw_m8 3 rfl) rfl
theorem q1824 : (Jvm.Cond.selects "ObligingPostsModel" ({ cls := "ObligingPostsModel", name := "back", desc := "(I)I" } : Jvm.MethodName) ({ cls := "ObligingPostsModel", name := "back", desc := "(I)I" } : Jvm.MethodName)) ∈ lw_all := lw_g (lw_at lw_m8 4 rfl) rfl
theorem q1825 : (Jvm.Cond.code ({ cls := "ObligingPostsModel", name := "back", desc := "(I)I" } : Jvm.MethodName) prog_13_method_7_code (3 : Nat) (Option.some Jvm.ClassFile.FieldType.int)) ∈ lw_all := lw_g (lw_at lw_m8 5 rfl) rfl
theorem q1827 : (Jvm.Cond.instanceMethod ({ cls := "ObligingPostsModel", name := "feed", desc := "(IIIII)I" } : Jvm.MethodName)) ∈ lw_all := lw_g (lw_at lw_m8 7 rfl) rfl
theorem q1828 : (Jvm.Cond.selects "ObligingPostsModel" ({ cls := "ObligingPostsModel", name := "feed", desc := "(IIIII)I" } : Jvm.MethodName) ({ cls := "ObligingPostsModel", name := "feed", desc := "(IIIII)I" } : Jvm.MethodName)) ∈ lw_all := lw_g (lw_at lw_m8 8 rfl) rfl
theorem q1829 : (Jvm.Cond.code ({ cls := "ObligingPostsModel", name := "feed", desc := "(IIIII)I" } : Jvm.MethodName) prog_13_method_22_code (7 : Nat) (Option.some Jvm.ClassFile.FieldType.int)) ∈ lw_all := lw_g (lw_at lw_m8 9 rfl) rfl
theorem q1831 : (Jvm.Cond.instanceMethod ({ cls := "ObligingPostsModel", name := "end", desc := "(I)I" } : Jvm.MethodName)) ∈ lw_all := lw_g (lw_at lw_m8 11 rfl) rfl
theorem q1832 : (Jvm.Cond.selects "ObligingPostsModel" ({ cls := "ObligingPostsModel", name := "end", desc := "(I)I" } : Jvm.MethodName) ({ cls := "ObligingPostsModel", name := "end", desc := "(I)I" } : Jvm.MethodName)) ∈ lw_all := lw_g (lw_at lw_m8 12 rfl) rfl
theorem q1833 : (Jvm.Cond.code ({ cls := "ObligingPostsModel", name := "end", desc := "(I)I" } : Jvm.MethodName) prog_13_method_23_code (2 : Nat) (Option.some Jvm.ClassFile.FieldType.int)) ∈ lw_all := lw_g (lw_at lw_m8 13 rfl) rfl
theorem q1835 : (Jvm.Cond.instanceMethod ({ cls := "ObligingPostsModel", name := "fault", desc := "(I)I" } : Jvm.MethodName)) ∈ lw_all := lw_g (lw_at lw_m8 15 rfl) rfl
theorem q1836 : (Jvm.Cond.selects "ObligingPostsModel" ({ cls := "ObligingPostsModel", name := "fault", desc := "(I)I" } : Jvm.MethodName) ({ cls := "ObligingPostsModel", name := "fault", desc := "(I)I" } : Jvm.MethodName)) ∈ lw_all := lw_g (lw_at lw_m8 16 rfl) rfl
theorem q1837 : (Jvm.Cond.code ({ cls := "ObligingPostsModel", name := "fault", desc := "(I)I" } : Jvm.MethodName) prog_13_method_33_code (2 : Nat) (Option.some Jvm.ClassFile.FieldType.int)) ∈ lw_all := lw_g (lw_at lw_m8 17 rfl) rfl
theorem q1839 : (Jvm.Cond.instanceMethod ({ cls := "ObligingPostsModel", name := "heath", desc := "()I" } : Jvm.MethodName)) ∈ lw_all := lw_g (lw_at lw_m8 19 rfl) rfl
theorem q1840 : (Jvm.Cond.selects "ObligingPostsModel" ({ cls := "ObligingPostsModel", name := "heath", desc := "()I" } : Jvm.MethodName) ({ cls := "ObligingPostsModel", name := "heath", desc := "()I" } : Jvm.MethodName)) ∈ lw_all := lw_g (lw_at lw_m8 20 rfl) rfl
theorem q1841 : (Jvm.Cond.code ({ cls := "ObligingPostsModel", name := "heath", desc := "()I" } : Jvm.MethodName) prog_13_method_42_code (2 : Nat) (Option.some Jvm.ClassFile.FieldType.int)) ∈ lw_all := lw_g (lw_at lw_m8 21 rfl) rfl
theorem q1842 : (Jvm.Cond.methodLink "ObligingPostsModel" (177 : Nat) ({ cls := "ObligingPostsModel", name := "advance", desc := "()V" } : Jvm.MethodName)) ∈ lw_all := lw_g (lw_at lw_m8 22 rfl) rfl
theorem q1843 : (Jvm.Cond.privateMethod ({ cls := "ObligingPostsModel", name := "advance", desc := "()V" } : Jvm.MethodName)) ∈ lw_tbl := lw_at lw_m8 23 rfl
theorem q1844 : (Jvm.Cond.instanceMethod ({ cls := "ObligingPostsModel", name := "advance", desc := "()V" } : Jvm.MethodName)) ∈ lw_all := lw_g (lw_at lw_m8 24 rfl) rfl
theorem q1845 : (Jvm.Cond.code ({ cls := "ObligingPostsModel", name := "advance", desc := "()V" } : Jvm.MethodName) prog_13_method_25_code (2 : Nat) (Option.none : Option Jvm.ClassFile.FieldType)) ∈ lw_all := lw_g (lw_at lw_m8 25 rfl) rfl
theorem q1846 : (Jvm.Cond.methodLink "ObligingPostsModel" (130 : Nat) ({ cls := "ObligingPostsModel", name := "see", desc := "(I)I" } : Jvm.MethodName)) ∈ lw_all := lw_g (lw_at lw_m8 26 rfl) rfl
theorem q1847 : (Jvm.Cond.privateMethod ({ cls := "ObligingPostsModel", name := "see", desc := "(I)I" } : Jvm.MethodName)) ∈ lw_tbl := lw_at lw_m8 27 rfl
theorem q1848 : (Jvm.Cond.instanceMethod ({ cls := "ObligingPostsModel", name := "see", desc := "(I)I" } : Jvm.MethodName)) ∈ lw_all := lw_g (lw_at lw_m8 28 rfl) rfl
theorem q1849 : (Jvm.Cond.code ({ cls := "ObligingPostsModel", name := "see", desc := "(I)I" } : Jvm.MethodName) prog_13_method_24_code (2 : Nat) (Option.some Jvm.ClassFile.FieldType.int)) ∈ lw_all := lw_g (lw_at lw_m8 29 rfl) rfl
theorem q1850 : (Jvm.Cond.constantLong "ObligingPostsModel" (140 : Nat) (97 : Int64)) ∈ lw_all := lw_g (lw_at lw_m8 30 rfl) rfl
theorem q1851 : (Jvm.Cond.constantLong "ObligingPostsModel" (142 : Nat) (122 : Int64)) ∈ lw_all := lw_g (lw_at lw_m8 31 rfl) rfl
theorem q1852 : (Jvm.Cond.constantLong "ObligingPostsModel" (144 : Nat) (48 : Int64)) ∈ lw_all := lw_g (lw_at lw_m8 32 rfl) rfl
theorem q1853 : (Jvm.Cond.constantLong "ObligingPostsModel" (146 : Nat) (57 : Int64)) ∈ lw_all := lw_g (lw_at lw_m8 33 rfl) rfl
theorem q1854 : (Jvm.Cond.constant "ObligingPostsModel" (151 : Nat) (99999 : Int32)) ∈ lw_all := lw_g (lw_at lw_m8 34 rfl) rfl
theorem q1855 : (Jvm.Cond.methodLink "ObligingPostsModel" (152 : Nat) ({ cls := "java/lang/Math", name := "min", desc := "(II)I" } : Jvm.MethodName)) ∈ lw_all := lw_g (lw_at lw_m8 35 rfl) rfl
theorem q1856 : (Jvm.Cond.methodLink "ObligingPostsModel" (161 : Nat) ({ cls := "ObligingPostsModel", name := "good", desc := "()Z" } : Jvm.MethodName)) ∈ lw_all := lw_g (lw_at lw_m8 36 rfl) rfl
theorem q1857 : (Jvm.Cond.privateMethod ({ cls := "ObligingPostsModel", name := "good", desc := "()Z" } : Jvm.MethodName)) ∈ lw_tbl := lw_at lw_m8 37 rfl
theorem q1858 : (Jvm.Cond.instanceMethod ({ cls := "ObligingPostsModel", name := "good", desc := "()Z" } : Jvm.MethodName)) ∈ lw_all := lw_g (lw_at lw_m8 38 rfl) rfl
theorem q1859 : (Jvm.Cond.code ({ cls := "ObligingPostsModel", name := "good", desc := "()Z" } : Jvm.MethodName) prog_13_method_26_code (1 : Nat) (Option.some Jvm.ClassFile.FieldType.boolean)) ∈ lw_all := lw_g (lw_at lw_m8 39 rfl) rfl
theorem q1860 : (Jvm.Cond.methodLink "ObligingPostsModel" (242 : Nat) ({ cls := "ObligingPostsModel", name := "readLine", desc := "()V" } : Jvm.MethodName)) ∈ lw_all := lw_g (lw_at lw_m8 40 rfl) rfl
theorem q1861 : (Jvm.Cond.privateMethod ({ cls := "ObligingPostsModel", name := "readLine", desc := "()V" } : Jvm.MethodName)) ∈ lw_tbl := lw_at lw_m8 41 rfl
theorem q1862 : (Jvm.Cond.instanceMethod ({ cls := "ObligingPostsModel", name := "readLine", desc := "()V" } : Jvm.MethodName)) ∈ lw_all := lw_g (lw_at lw_m8 42 rfl) rfl
theorem q1863 : (Jvm.Cond.code ({ cls := "ObligingPostsModel", name := "readLine", desc := "()V" } : Jvm.MethodName) prog_13_method_41_code (1 : Nat) (Option.none : Option Jvm.ClassFile.FieldType)) ∈ lw_all := lw_g (lw_at lw_m8 43 rfl) rfl
theorem q1864 : (Jvm.Cond.methodLink "ObligingPostsModel" (236 : Nat) ({ cls := "ObligingPostsModel", name := "readFirst", desc := "()V" } : Jvm.MethodName)) ∈ lw_all := lw_g (lw_at lw_m8 44 rfl) rfl
theorem q1865 : (Jvm.Cond.privateMethod ({ cls := "ObligingPostsModel", name := "readFirst", desc := "()V" } : Jvm.MethodName)) ∈ lw_tbl := lw_at lw_m8 45 rfl
theorem q1866 : (Jvm.Cond.instanceMethod ({ cls := "ObligingPostsModel", name := "readFirst", desc := "()V" } : Jvm.MethodName)) ∈ lw_all := lw_g (lw_at lw_m8 46 rfl) rfl
theorem q1867 : (Jvm.Cond.code ({ cls := "ObligingPostsModel", name := "readFirst", desc := "()V" } : Jvm.MethodName) prog_13_method_34_code (1 : Nat) (Option.none : Option Jvm.ClassFile.FieldType)) ∈ lw_all := lw_g (lw_at lw_m8 47 rfl) rfl
theorem q1868 : (Jvm.Cond.stringRef "ObligingPostsModel" (194 : Nat) "heath") ∈ lw_tbl := lw_at lw_m8 48 rfl
theorem q1869 : (Jvm.Cond.methodLink "ObligingPostsModel" (187 : Nat) ({ cls := "ObligingPostsModel", name := "expects", desc := "(Ljava/lang/String;)V" } : Jvm.MethodName)) ∈ lw_all := lw_g (lw_at lw_m8 49 rfl) rfl
theorem q1870 : (Jvm.Cond.privateMethod ({ cls := "ObligingPostsModel", name := "expects", desc := "(Ljava/lang/String;)V" } : Jvm.MethodName)) ∈ lw_tbl := lw_at lw_m8 50 rfl
theorem q1871 : (Jvm.Cond.instanceMethod ({ cls := "ObligingPostsModel", name := "expects", desc := "(Ljava/lang/String;)V" } : Jvm.MethodName)) ∈ lw_all := lw_g (lw_at lw_m8 51 rfl) rfl
theorem q1872 : (Jvm.Cond.code ({ cls := "ObligingPostsModel", name := "expects", desc := "(Ljava/lang/String;)V" } : Jvm.MethodName) prog_13_method_30_code (2 : Nat) (Option.none : Option Jvm.ClassFile.FieldType)) ∈ lw_all := lw_g (lw_at lw_m8 52 rfl) rfl
theorem q1873 : (Jvm.Cond.methodLink "ObligingPostsModel" (180 : Nat) ({ cls := "ObligingPostsModel", name := "takes", desc := "(Ljava/lang/String;)Z" } : Jvm.MethodName)) ∈ lw_all := lw_g (lw_at lw_m8 53 rfl) rfl
theorem q1874 : (Jvm.Cond.privateMethod ({ cls := "ObligingPostsModel", name := "takes", desc := "(Ljava/lang/String;)Z" } : Jvm.MethodName)) ∈ lw_tbl := lw_at lw_m8 54 rfl
theorem q1875 : (Jvm.Cond.instanceMethod ({ cls := "ObligingPostsModel", name := "takes", desc := "(Ljava/lang/String;)Z" } : Jvm.MethodName)) ∈ lw_all := lw_g (lw_at lw_m8 55 rfl) rfl
theorem q1876 : (Jvm.Cond.code ({ cls := "ObligingPostsModel", name := "takes", desc := "(Ljava/lang/String;)Z" } : Jvm.MethodName) prog_13_method_29_code (3 : Nat) (Option.some Jvm.ClassFile.FieldType.boolean)) ∈ lw_all := lw_g (lw_at lw_m8 56 rfl) rfl
theorem q1877 : (Jvm.Cond.methodLink "ObligingPostsModel" (173 : Nat) ({ cls := "ObligingPostsModel", name := "is", desc := "(Ljava/lang/String;)Z" } : Jvm.MethodName)) ∈ lw_all := lw_g (lw_at lw_m8 57 rfl) rfl
theorem q1878 : (Jvm.Cond.privateMethod ({ cls := "ObligingPostsModel", name := "is", desc := "(Ljava/lang/String;)Z" } : Jvm.MethodName)) ∈ lw_tbl := lw_at lw_m8 58 rfl
theorem q1879 : (Jvm.Cond.instanceMethod ({ cls := "ObligingPostsModel", name := "is", desc := "(Ljava/lang/String;)Z" } : Jvm.MethodName)) ∈ lw_all := lw_g (lw_at lw_m8 59 rfl) rfl
theorem q1880 : (Jvm.Cond.code ({ cls := "ObligingPostsModel", name := "is", desc := "(Ljava/lang/String;)Z" } : Jvm.MethodName) prog_13_method_28_code (4 : Nat) (Option.some Jvm.ClassFile.FieldType.boolean)) ∈ lw_all := lw_g (lw_at lw_m8 60 rfl) rfl
theorem q1881 : (Jvm.Cond.methodLink "ObligingPostsModel" (164 : Nat) ({ cls := "java/lang/String", name := "length", desc := "()I" } : Jvm.MethodName)) ∈ lw_all := lw_g (lw_at lw_m8 61 rfl) rfl
theorem q1882 : (Jvm.Cond.methodLink "ObligingPostsModel" (169 : Nat) ({ cls := "java/lang/String", name := "charAt", desc := "(I)C" } : Jvm.MethodName)) ∈ lw_all := lw_g (lw_at lw_m8 62 rfl) rfl
theorem q1883 : (Jvm.Cond.methodLink "ObligingPostsModel" (183 : Nat) ({ cls := "ObligingPostsModel", name := "errs", desc := "(I)V" } : Jvm.MethodName)) ∈ lw_all := lw_g (lw_at lw_m8 63 rfl) rfl
theorem q1884 : (Jvm.Cond.privateMethod ({ cls := "ObligingPostsModel", name := "errs", desc := "(I)V" } : Jvm.MethodName)) ∈ lw_tbl := lw_at lw_m8 64 rfl
theorem q1885 : (Jvm.Cond.instanceMethod ({ cls := "ObligingPostsModel", name := "errs", desc := "(I)V" } : Jvm.MethodName)) ∈ lw_all := lw_g (lw_at lw_m8 65 rfl) rfl
theorem q1886 : (Jvm.Cond.code ({ cls := "ObligingPostsModel", name := "errs", desc := "(I)V" } : Jvm.MethodName) prog_13_method_27_code (2 : Nat) (Option.none : Option Jvm.ClassFile.FieldType)) ∈ lw_all := lw_g (lw_at lw_m8 66 rfl) rfl
theorem q1887 : (Jvm.Cond.stringRef "ObligingPostsModel" (196 : Nat) "hours") ∈ lw_tbl := lw_at lw_m8 67 rfl
theorem q1888 : (Jvm.Cond.methodLink "ObligingPostsModel" (197 : Nat) ({ cls := "ObligingPostsModel", name := "toldBy", desc := "(Ljava/lang/String;II)I" } : Jvm.MethodName)) ∈ lw_all := lw_g (lw_at lw_m8 68 rfl) rfl
theorem q1889 : (Jvm.Cond.privateMethod ({ cls := "ObligingPostsModel", name := "toldBy", desc := "(Ljava/lang/String;II)I" } : Jvm.MethodName)) ∈ lw_tbl := lw_at lw_m8 69 rfl
theorem q1890 : (Jvm.Cond.instanceMethod ({ cls := "ObligingPostsModel", name := "toldBy", desc := "(Ljava/lang/String;II)I" } : Jvm.MethodName)) ∈ lw_all := lw_g (lw_at lw_m8 70 rfl) rfl
theorem q1891 : (Jvm.Cond.code ({ cls := "ObligingPostsModel", name := "toldBy", desc := "(Ljava/lang/String;II)I" } : Jvm.MethodName) prog_13_method_32_code (4 : Nat) (Option.some Jvm.ClassFile.FieldType.int)) ∈ lw_all := lw_g (lw_at lw_m8 71 rfl) rfl
theorem q1892 : (Jvm.Cond.methodLink "ObligingPostsModel" (191 : Nat) ({ cls := "ObligingPostsModel", name := "number", desc := "(II)I" } : Jvm.MethodName)) ∈ lw_all := lw_g (lw_at lw_m8 72 rfl) rfl
theorem q1893 : (Jvm.Cond.privateMethod ({ cls := "ObligingPostsModel", name := "number", desc := "(II)I" } : Jvm.MethodName)) ∈ lw_tbl := lw_at lw_m8 73 rfl
theorem q1894 : (Jvm.Cond.instanceMethod ({ cls := "ObligingPostsModel", name := "number", desc := "(II)I" } : Jvm.MethodName)) ∈ lw_all := lw_g (lw_at lw_m8 74 rfl) rfl
theorem q1895 : (Jvm.Cond.code ({ cls := "ObligingPostsModel", name := "number", desc := "(II)I" } : Jvm.MethodName) prog_13_method_31_code (4 : Nat) (Option.some Jvm.ClassFile.FieldType.int)) ∈ lw_all := lw_g (lw_at lw_m8 75 rfl) rfl
theorem q1896 : (Jvm.Cond.stringRef "ObligingPostsModel" (201 : Nat) "law") ∈ lw_tbl := lw_at lw_m8 76 rfl
theorem q1897 : (Jvm.Cond.stringRef "ObligingPostsModel" (203 : Nat) "odds") ∈ lw_tbl := lw_at lw_m8 77 rfl
theorem q1898 : (Jvm.Cond.methodLink "ObligingPostsModel" (239 : Nat) ({ cls := "ObligingPostsModel", name := "readNext", desc := "()V" } : Jvm.MethodName)) ∈ lw_all := lw_g (lw_at lw_m8 78 rfl) rfl
theorem q1899 : (Jvm.Cond.privateMethod ({ cls := "ObligingPostsModel", name := "readNext", desc := "()V" } : Jvm.MethodName)) ∈ lw_tbl := lw_at lw_m8 79 rfl
theorem q1900 : (Jvm.Cond.instanceMethod ({ cls := "ObligingPostsModel", name := "readNext", desc := "()V" } : Jvm.MethodName)) ∈ lw_all := lw_g (lw_at lw_m8 80 rfl) rfl
theorem q1901 : (Jvm.Cond.code ({ cls := "ObligingPostsModel", name := "readNext", desc := "()V" } : Jvm.MethodName) prog_13_method_40_code (2 : Nat) (Option.none : Option Jvm.ClassFile.FieldType)) ∈ lw_all := lw_g (lw_at lw_m8 81 rfl) rfl
theorem q1902 : (Jvm.Cond.stringRef "ObligingPostsModel" (212 : Nat) "inn") ∈ lw_tbl := lw_at lw_m8 82 rfl
theorem q1903 : (Jvm.Cond.stringRef "ObligingPostsModel" (214 : Nat) "post") ∈ lw_tbl := lw_at lw_m8 83 rfl
theorem q1904 : (Jvm.Cond.stringRef "ObligingPostsModel" (216 : Nat) "road") ∈ lw_tbl := lw_at lw_m8 84 rfl
theorem q1905 : (Jvm.Cond.stringRef "ObligingPostsModel" (218 : Nat) "arm") ∈ lw_tbl := lw_at lw_m8 85 rfl
theorem q1906 : (Jvm.Cond.stringRef "ObligingPostsModel" (220 : Nat) "walker") ∈ lw_tbl := lw_at lw_m8 86 rfl
theorem q1907 : (Jvm.Cond.methodLink "ObligingPostsModel" (222 : Nat) ({ cls := "ObligingPostsModel", name := "isFull", desc := "()Z" } : Jvm.MethodName)) ∈ lw_all := lw_g (lw_at lw_m8 87 rfl) rfl
theorem q1908 : (Jvm.Cond.privateMethod ({ cls := "ObligingPostsModel", name := "isFull", desc := "()Z" } : Jvm.MethodName)) ∈ lw_tbl := lw_at lw_m8 88 rfl
theorem q1909 : (Jvm.Cond.instanceMethod ({ cls := "ObligingPostsModel", name := "isFull", desc := "()Z" } : Jvm.MethodName)) ∈ lw_all := lw_g (lw_at lw_m8 89 rfl) rfl
theorem q1910 : (Jvm.Cond.code ({ cls := "ObligingPostsModel", name := "isFull", desc := "()Z" } : Jvm.MethodName) prog_13_method_39_code (1 : Nat) (Option.some Jvm.ClassFile.FieldType.boolean)) ∈ lw_all := lw_g (lw_at lw_m8 90 rfl) rfl
theorem q1911 : (Jvm.Cond.stringRef "ObligingPostsModel" (225 : Nat) "room") ∈ lw_tbl := lw_at lw_m8 91 rfl
theorem q1912 : (Jvm.Cond.methodLink "ObligingPostsModel" (227 : Nat) ({ cls := "ObligingPostsModel", name := "readRoad", desc := "()V" } : Jvm.MethodName)) ∈ lw_all := lw_g (lw_at lw_m8 92 rfl) rfl
theorem q1913 : (Jvm.Cond.privateMethod ({ cls := "ObligingPostsModel", name := "readRoad", desc := "()V" } : Jvm.MethodName)) ∈ lw_tbl := lw_at lw_m8 93 rfl
theorem q1914 : (Jvm.Cond.instanceMethod ({ cls := "ObligingPostsModel", name := "readRoad", desc := "()V" } : Jvm.MethodName)) ∈ lw_all := lw_g (lw_at lw_m8 94 rfl) rfl
theorem q1915 : (Jvm.Cond.code ({ cls := "ObligingPostsModel", name := "readRoad", desc := "()V" } : Jvm.MethodName) prog_13_method_36_code (5 : Nat) (Option.none : Option Jvm.ClassFile.FieldType)) ∈ lw_all := lw_g (lw_at lw_m8 95 rfl) rfl
theorem q1916 : (Jvm.Cond.methodLink "ObligingPostsModel" (205 : Nat) ({ cls := "ObligingPostsModel", name := "readPost", desc := "()I" } : Jvm.MethodName)) ∈ lw_all := lw_g (lw_at lw_m8 96 rfl) rfl
theorem q1917 : (Jvm.Cond.privateMethod ({ cls := "ObligingPostsModel", name := "readPost", desc := "()I" } : Jvm.MethodName)) ∈ lw_tbl := lw_at lw_m8 97 rfl
theorem q1918 : (Jvm.Cond.instanceMethod ({ cls := "ObligingPostsModel", name := "readPost", desc := "()I" } : Jvm.MethodName)) ∈ lw_all := lw_g (lw_at lw_m8 98 rfl) rfl
theorem q1919 : (Jvm.Cond.code ({ cls := "ObligingPostsModel", name := "readPost", desc := "()I" } : Jvm.MethodName) prog_13_method_35_code (1 : Nat) (Option.some Jvm.ClassFile.FieldType.int)) ∈ lw_all := lw_g (lw_at lw_m8 99 rfl) rfl
theorem q1920 : (Jvm.Cond.stringRef "ObligingPostsModel" (208 : Nat) "to") ∈ lw_tbl := lw_at lw_m8 100 rfl
theorem q1921 : (Jvm.Cond.stringRef "ObligingPostsModel" (210 : Nat) "in") ∈ lw_tbl := lw_at lw_m8 101 rfl
theorem q1922 : (Jvm.Cond.methodLink "ObligingPostsModel" (230 : Nat) ({ cls := "ObligingPostsModel", name := "readArm", desc := "()V" } : Jvm.MethodName)) ∈ lw_all := lw_g (lw_at lw_m8 102 rfl) rfl
theorem q1923 : (Jvm.Cond.privateMethod ({ cls := "ObligingPostsModel", name := "readArm", desc := "()V" } : Jvm.MethodName)) ∈ lw_tbl := lw_at lw_m8 103 rfl
theorem q1924 : (Jvm.Cond.instanceMethod ({ cls := "ObligingPostsModel", name := "readArm", desc := "()V" } : Jvm.MethodName)) ∈ lw_all := lw_g (lw_at lw_m8 104 rfl) rfl
theorem q1925 : (Jvm.Cond.code ({ cls := "ObligingPostsModel", name := "readArm", desc := "()V" } : Jvm.MethodName) prog_13_method_37_code (3 : Nat) (Option.none : Option Jvm.ClassFile.FieldType)) ∈ lw_all := lw_g (lw_at lw_m8 105 rfl) rfl
theorem q1926 : (Jvm.Cond.methodLink "ObligingPostsModel" (233 : Nat) ({ cls := "ObligingPostsModel", name := "readWalker", desc := "()V" } : Jvm.MethodName)) ∈ lw_all := lw_g (lw_at lw_m8 106 rfl) rfl
theorem q1927 : (Jvm.Cond.privateMethod ({ cls := "ObligingPostsModel", name := "readWalker", desc := "()V" } : Jvm.MethodName)) ∈ lw_tbl := lw_at lw_m8 107 rfl
theorem q1928 : (Jvm.Cond.instanceMethod ({ cls := "ObligingPostsModel", name := "readWalker", desc := "()V" } : Jvm.MethodName)) ∈ lw_all := lw_g (lw_at lw_m8 108 rfl) rfl
theorem q1929 : (Jvm.Cond.code ({ cls := "ObligingPostsModel", name := "readWalker", desc := "()V" } : Jvm.MethodName) prog_13_method_38_code (2 : Nat) (Option.none : Option Jvm.ClassFile.FieldType)) ∈ lw_all := lw_g (lw_at lw_m8 109 rfl) rfl
theorem q1930 : (Jvm.Cond.stringRef "ObligingPostsModel" (211 : Nat) "at") ∈ lw_tbl := lw_at lw_m8 110 rfl
theorem q1932 : (Jvm.Cond.instanceMethod ({ cls := "ObligingPostsModel", name := "room", desc := "(I)I" } : Jvm.MethodName)) ∈ lw_all := lw_g (lw_at lw_m8 112 rfl) rfl
theorem q1933 : (Jvm.Cond.selects "ObligingPostsModel" ({ cls := "ObligingPostsModel", name := "room", desc := "(I)I" } : Jvm.MethodName) ({ cls := "ObligingPostsModel", name := "room", desc := "(I)I" } : Jvm.MethodName)) ∈ lw_all := lw_g (lw_at lw_m8 113 rfl) rfl
theorem q1934 : (Jvm.Cond.code ({ cls := "ObligingPostsModel", name := "room", desc := "(I)I" } : Jvm.MethodName) prog_13_method_43_code (2 : Nat) (Option.some Jvm.ClassFile.FieldType.int)) ∈ lw_all := lw_g (lw_at lw_m8 114 rfl) rfl
theorem q1935 : (Jvm.Cond.methodLink "ObligingPostsModel" (118 : Nat) ({ cls := "ObligingPostsModel", name := "isInn", desc := "(J)Z" } : Jvm.MethodName)) ∈ lw_all := lw_g (lw_at lw_m8 115 rfl) rfl
theorem q1936 : (Jvm.Cond.privateMethod ({ cls := "ObligingPostsModel", name := "isInn", desc := "(J)Z" } : Jvm.MethodName)) ∈ lw_tbl := lw_at lw_m8 116 rfl
theorem q1937 : (Jvm.Cond.instanceMethod ({ cls := "ObligingPostsModel", name := "isInn", desc := "(J)Z" } : Jvm.MethodName)) ∈ lw_all := lw_g (lw_at lw_m8 117 rfl) rfl
theorem q1938 : (Jvm.Cond.code ({ cls := "ObligingPostsModel", name := "isInn", desc := "(J)Z" } : Jvm.MethodName) prog_13_method_16_code (3 : Nat) (Option.some Jvm.ClassFile.FieldType.boolean)) ∈ lw_all := lw_g (lw_at lw_m8 118 rfl) rfl
theorem q1940 : (Jvm.Cond.instanceMethod ({ cls := "ObligingPostsModel", name := "roads", desc := "(I)I" } : Jvm.MethodName)) ∈ lw_all := lw_g (lw_at lw_m8 120 rfl) rfl
theorem q1941 : (Jvm.Cond.selects "ObligingPostsModel" ({ cls := "ObligingPostsModel", name := "roads", desc := "(I)I" } : Jvm.MethodName) ({ cls := "ObligingPostsModel", name := "roads", desc := "(I)I" } : Jvm.MethodName)) ∈ lw_all := lw_g (lw_at lw_m8 121 rfl) rfl
theorem q1942 : (Jvm.Cond.code ({ cls := "ObligingPostsModel", name := "roads", desc := "(I)I" } : Jvm.MethodName) prog_13_method_44_code (2 : Nat) (Option.some Jvm.ClassFile.FieldType.int)) ∈ lw_all := lw_g (lw_at lw_m8 122 rfl) rfl
theorem q1943 : (Jvm.Cond.methodLink "ObligingPostsModel" (112 : Nat) ({ cls := "ObligingPostsModel", name := "isPost", desc := "(J)Z" } : Jvm.MethodName)) ∈ lw_all := lw_g (lw_at lw_m8 123 rfl) rfl
theorem q1944 : (Jvm.Cond.privateMethod ({ cls := "ObligingPostsModel", name := "isPost", desc := "(J)Z" } : Jvm.MethodName)) ∈ lw_tbl := lw_at lw_m8 124 rfl
theorem q1945 : (Jvm.Cond.instanceMethod ({ cls := "ObligingPostsModel", name := "isPost", desc := "(J)Z" } : Jvm.MethodName)) ∈ lw_all := lw_g (lw_at lw_m8 125 rfl) rfl
theorem q1946 : (Jvm.Cond.code ({ cls := "ObligingPostsModel", name := "isPost", desc := "(J)Z" } : Jvm.MethodName) prog_13_method_15_code (3 : Nat) (Option.some Jvm.ClassFile.FieldType.boolean)) ∈ lw_all := lw_g (lw_at lw_m8 126 rfl) rfl
theorem q1947 : (Jvm.Cond.methodLink "ObligingPostsModel" (98 : Nat) ({ cls := "ObligingPostsModel", name := "posts", desc := "()I" } : Jvm.MethodName)) ∈ lw_all := lw_g (lw_at lw_m8 127 rfl) rfl
theorem q1948 : (Jvm.Cond.privateMethod ({ cls := "ObligingPostsModel", name := "posts", desc := "()I" } : Jvm.MethodName)) ∈ lw_tbl := lw_at lw_m8 128 rfl
theorem q1949 : (Jvm.Cond.instanceMethod ({ cls := "ObligingPostsModel", name := "posts", desc := "()I" } : Jvm.MethodName)) ∈ lw_all := lw_g (lw_at lw_m8 129 rfl) rfl
theorem q1950 : (Jvm.Cond.code ({ cls := "ObligingPostsModel", name := "posts", desc := "()I" } : Jvm.MethodName) prog_13_method_10_code (1 : Nat) (Option.some Jvm.ClassFile.FieldType.int)) ∈ lw_all := lw_g (lw_at lw_m8 130 rfl) rfl
theorem q1951 : (Jvm.Cond.methodLink "ObligingPostsModel" (245 : Nat) ({ cls := "ObligingPostsModel", name := "roadMany", desc := "(I)I" } : Jvm.MethodName)) ∈ lw_all := lw_g (lw_at lw_m8 131 rfl) rfl
theorem q1952 : (Jvm.Cond.privateMethod ({ cls := "ObligingPostsModel", name := "roadMany", desc := "(I)I" } : Jvm.MethodName)) ∈ lw_tbl := lw_at lw_m8 132 rfl
theorem q1953 : (Jvm.Cond.instanceMethod ({ cls := "ObligingPostsModel", name := "roadMany", desc := "(I)I" } : Jvm.MethodName)) ∈ lw_all := lw_g (lw_at lw_m8 133 rfl) rfl
theorem q1954 : (Jvm.Cond.code ({ cls := "ObligingPostsModel", name := "roadMany", desc := "(I)I" } : Jvm.MethodName) prog_13_method_19_code (2 : Nat) (Option.some Jvm.ClassFile.FieldType.int)) ∈ lw_all := lw_g (lw_at lw_m8 134 rfl) rfl
theorem q1956 : (Jvm.Cond.instanceMethod ({ cls := "ObligingPostsModel", name := "goes", desc := "(II)I" } : Jvm.MethodName)) ∈ lw_all := lw_g (lw_at lw_m8 136 rfl) rfl
theorem q1957 : (Jvm.Cond.selects "ObligingPostsModel" ({ cls := "ObligingPostsModel", name := "goes", desc := "(II)I" } : Jvm.MethodName) ({ cls := "ObligingPostsModel", name := "goes", desc := "(II)I" } : Jvm.MethodName)) ∈ lw_all := lw_g (lw_at lw_m8 137 rfl) rfl
theorem q1958 : (Jvm.Cond.code ({ cls := "ObligingPostsModel", name := "goes", desc := "(II)I" } : Jvm.MethodName) prog_13_method_45_code (3 : Nat) (Option.some Jvm.ClassFile.FieldType.int)) ∈ lw_all := lw_g (lw_at lw_m8 138 rfl) rfl
theorem q1959 : (Jvm.Cond.methodLink "ObligingPostsModel" (248 : Nat) ({ cls := "ObligingPostsModel", name := "roadTo", desc := "(II)I" } : Jvm.MethodName)) ∈ lw_all := lw_g (lw_at lw_m8 139 rfl) rfl
theorem q1960 : (Jvm.Cond.privateMethod ({ cls := "ObligingPostsModel", name := "roadTo", desc := "(II)I" } : Jvm.MethodName)) ∈ lw_tbl := lw_at lw_m8 140 rfl
theorem q1961 : (Jvm.Cond.instanceMethod ({ cls := "ObligingPostsModel", name := "roadTo", desc := "(II)I" } : Jvm.MethodName)) ∈ lw_all := lw_g (lw_at lw_m8 141 rfl) rfl
theorem q1962 : (Jvm.Cond.code ({ cls := "ObligingPostsModel", name := "roadTo", desc := "(II)I" } : Jvm.MethodName) prog_13_method_20_code (3 : Nat) (Option.some Jvm.ClassFile.FieldType.int)) ∈ lw_all := lw_g (lw_at lw_m8 142 rfl) rfl
theorem q1964 : (Jvm.Cond.instanceMethod ({ cls := "ObligingPostsModel", name := "told", desc := "(I)I" } : Jvm.MethodName)) ∈ lw_all := lw_g (lw_at lw_m8 144 rfl) rfl
theorem q1965 : (Jvm.Cond.selects "ObligingPostsModel" ({ cls := "ObligingPostsModel", name := "told", desc := "(I)I" } : Jvm.MethodName) ({ cls := "ObligingPostsModel", name := "told", desc := "(I)I" } : Jvm.MethodName)) ∈ lw_all := lw_g (lw_at lw_m8 145 rfl) rfl
theorem q1966 : (Jvm.Cond.code ({ cls := "ObligingPostsModel", name := "told", desc := "(I)I" } : Jvm.MethodName) prog_13_method_46_code (2 : Nat) (Option.some Jvm.ClassFile.FieldType.int)) ∈ lw_all := lw_g (lw_at lw_m8 146 rfl) rfl
theorem q1967 : (Jvm.Cond.methodLink "ObligingPostsModel" (251 : Nat) ({ cls := "ObligingPostsModel", name := "armOf", desc := "(I)I" } : Jvm.MethodName)) ∈ lw_all := lw_g (lw_at lw_m8 147 rfl) rfl
theorem q1968 : (Jvm.Cond.privateMethod ({ cls := "ObligingPostsModel", name := "armOf", desc := "(I)I" } : Jvm.MethodName)) ∈ lw_tbl := lw_at lw_m8 148 rfl
theorem q1969 : (Jvm.Cond.instanceMethod ({ cls := "ObligingPostsModel", name := "armOf", desc := "(I)I" } : Jvm.MethodName)) ∈ lw_all := lw_g (lw_at lw_m8 149 rfl) rfl
theorem q1970 : (Jvm.Cond.code ({ cls := "ObligingPostsModel", name := "armOf", desc := "(I)I" } : Jvm.MethodName) prog_13_method_21_code (2 : Nat) (Option.some Jvm.ClassFile.FieldType.int)) ∈ lw_all := lw_g (lw_at lw_m8 150 rfl) rfl
theorem q1972 : (Jvm.Cond.instanceMethod ({ cls := "ObligingPostsModel", name := "walker", desc := "(II)I" } : Jvm.MethodName)) ∈ lw_all := lw_g (lw_at lw_m8 152 rfl) rfl
theorem q1973 : (Jvm.Cond.selects "ObligingPostsModel" ({ cls := "ObligingPostsModel", name := "walker", desc := "(II)I" } : Jvm.MethodName) ({ cls := "ObligingPostsModel", name := "walker", desc := "(II)I" } : Jvm.MethodName)) ∈ lw_all := lw_g (lw_at lw_m8 153 rfl) rfl
theorem q1974 : (Jvm.Cond.code ({ cls := "ObligingPostsModel", name := "walker", desc := "(II)I" } : Jvm.MethodName) prog_13_method_47_code (3 : Nat) (Option.some Jvm.ClassFile.FieldType.int)) ∈ lw_all := lw_g (lw_at lw_m8 154 rfl) rfl
theorem q1975 : (Jvm.Cond.methodLink "ObligingPostsModel" (254 : Nat) ({ cls := "ObligingPostsModel", name := "isWalker", desc := "(J)Z" } : Jvm.MethodName)) ∈ lw_all := lw_g (lw_at lw_m8 155 rfl) rfl
theorem q1976 : (Jvm.Cond.privateMethod ({ cls := "ObligingPostsModel", name := "isWalker", desc := "(J)Z" } : Jvm.MethodName)) ∈ lw_tbl := lw_at lw_m8 156 rfl
theorem q1977 : (Jvm.Cond.instanceMethod ({ cls := "ObligingPostsModel", name := "isWalker", desc := "(J)Z" } : Jvm.MethodName)) ∈ lw_all := lw_g (lw_at lw_m8 157 rfl) rfl
theorem q1978 : (Jvm.Cond.code ({ cls := "ObligingPostsModel", name := "isWalker", desc := "(J)Z" } : Jvm.MethodName) prog_13_method_17_code (3 : Nat) (Option.some Jvm.ClassFile.FieldType.boolean)) ∈ lw_all := lw_g (lw_at lw_m8 158 rfl) rfl
theorem q1979 : (Jvm.Cond.methodLink "ObligingPostsModel" (109 : Nat) ({ cls := "ObligingPostsModel", name := "walkers", desc := "()I" } : Jvm.MethodName)) ∈ lw_all := lw_g (lw_at lw_m8 159 rfl) rfl
theorem q1980 : (Jvm.Cond.privateMethod ({ cls := "ObligingPostsModel", name := "walkers", desc := "()I" } : Jvm.MethodName)) ∈ lw_tbl := lw_at lw_m8 160 rfl
theorem q1981 : (Jvm.Cond.instanceMethod ({ cls := "ObligingPostsModel", name := "walkers", desc := "()I" } : Jvm.MethodName)) ∈ lw_all := lw_g (lw_at lw_m8 161 rfl) rfl
theorem q1982 : (Jvm.Cond.code ({ cls := "ObligingPostsModel", name := "walkers", desc := "()I" } : Jvm.MethodName) prog_13_method_11_code (1 : Nat) (Option.some Jvm.ClassFile.FieldType.int)) ∈ lw_all := lw_g (lw_at lw_m8 162 rfl) rfl
theorem q1984 : (Jvm.Cond.instanceMethod ({ cls := "ObligingPostsModel", name := "doors", desc := "(I)I" } : Jvm.MethodName)) ∈ lw_all := lw_g (lw_at lw_m8 164 rfl) rfl
theorem q1985 : (Jvm.Cond.selects "ObligingPostsModel" ({ cls := "ObligingPostsModel", name := "doors", desc := "(I)I" } : Jvm.MethodName) ({ cls := "ObligingPostsModel", name := "doors", desc := "(I)I" } : Jvm.MethodName)) ∈ lw_all := lw_g (lw_at lw_m8 165 rfl) rfl
theorem q1986 : (Jvm.Cond.code ({ cls := "ObligingPostsModel", name := "doors", desc := "(I)I" } : Jvm.MethodName) prog_13_method_48_code (4 : Nat) (Option.some Jvm.ClassFile.FieldType.int)) ∈ lw_all := lw_g (lw_at lw_m8 166 rfl) rfl
theorem q1988 : (Jvm.Cond.instanceMethod ({ cls := "ObligingPostsModel", name := "armless", desc := "()I" } : Jvm.MethodName)) ∈ lw_all := lw_g (lw_at lw_m8 168 rfl) rfl
theorem q1989 : (Jvm.Cond.selects "ObligingPostsModel" ({ cls := "ObligingPostsModel", name := "armless", desc := "()I" } : Jvm.MethodName) ({ cls := "ObligingPostsModel", name := "armless", desc := "()I" } : Jvm.MethodName)) ∈ lw_all := lw_g (lw_at lw_m8 169 rfl) rfl
theorem q1990 : (Jvm.Cond.code ({ cls := "ObligingPostsModel", name := "armless", desc := "()I" } : Jvm.MethodName) prog_13_method_49_code (3 : Nat) (Option.some Jvm.ClassFile.FieldType.int)) ∈ lw_all := lw_g (lw_at lw_m8 170 rfl) rfl
theorem q1991 : (Jvm.Cond.methodLink "ObligingPostsModel" (102 : Nat) ({ cls := "ObligingPostsModel", name := "isHeath", desc := "()Z" } : Jvm.MethodName)) ∈ lw_all := lw_g (lw_at lw_m8 171 rfl) rfl
theorem q1992 : (Jvm.Cond.privateMethod ({ cls := "ObligingPostsModel", name := "isHeath", desc := "()Z" } : Jvm.MethodName)) ∈ lw_tbl := lw_at lw_m8 172 rfl
theorem q1993 : (Jvm.Cond.instanceMethod ({ cls := "ObligingPostsModel", name := "isHeath", desc := "()Z" } : Jvm.MethodName)) ∈ lw_all := lw_g (lw_at lw_m8 173 rfl) rfl
theorem q1994 : (Jvm.Cond.code ({ cls := "ObligingPostsModel", name := "isHeath", desc := "()Z" } : Jvm.MethodName) prog_13_method_8_code (1 : Nat) (Option.some Jvm.ClassFile.FieldType.boolean)) ∈ lw_all := lw_g (lw_at lw_m8 174 rfl) rfl
theorem q1996 : (Jvm.Cond.instanceMethod ({ cls := "ObligingPostsModel", name := "at", desc := "(II)I" } : Jvm.MethodName)) ∈ lw_all := lw_g (lw_at lw_m8 176 rfl) rfl
theorem q1997 : (Jvm.Cond.selects "ObligingPostsModel" ({ cls := "ObligingPostsModel", name := "at", desc := "(II)I" } : Jvm.MethodName) ({ cls := "ObligingPostsModel", name := "at", desc := "(II)I" } : Jvm.MethodName)) ∈ lw_all := lw_g (lw_at lw_m8 177 rfl) rfl
theorem q1998 : (Jvm.Cond.code ({ cls := "ObligingPostsModel", name := "at", desc := "(II)I" } : Jvm.MethodName) prog_13_method_63_code (3 : Nat) (Option.some Jvm.ClassFile.FieldType.int)) ∈ lw_all := lw_g (lw_at lw_m8 178 rfl) rfl
theorem q1999 : (Jvm.Cond.methodLink "ObligingPostsModel" (301 : Nat) ({ cls := "ObligingPostsModel", name := "asksHour", desc := "(I)Z" } : Jvm.MethodName)) ∈ lw_all := lw_g (lw_at lw_m8 179 rfl) rfl
theorem q2000 : (Jvm.Cond.privateMethod ({ cls := "ObligingPostsModel", name := "asksHour", desc := "(I)Z" } : Jvm.MethodName)) ∈ lw_tbl := lw_at lw_m8 180 rfl
theorem q2001 : (Jvm.Cond.instanceMethod ({ cls := "ObligingPostsModel", name := "asksHour", desc := "(I)Z" } : Jvm.MethodName)) ∈ lw_all := lw_g (lw_at lw_m8 181 rfl) rfl
theorem q2002 : (Jvm.Cond.code ({ cls := "ObligingPostsModel", name := "asksHour", desc := "(I)Z" } : Jvm.MethodName) prog_13_method_58_code (2 : Nat) (Option.some Jvm.ClassFile.FieldType.boolean)) ∈ lw_all := lw_g (lw_at lw_m8 182 rfl) rfl
theorem q2003 : (Jvm.Cond.methodLink "ObligingPostsModel" (292 : Nat) ({ cls := "ObligingPostsModel", name := "asksHeath", desc := "()Z" } : Jvm.MethodName)) ∈ lw_all := lw_g (lw_at lw_m8 183 rfl) rfl
theorem q2004 : (Jvm.Cond.privateMethod ({ cls := "ObligingPostsModel", name := "asksHeath", desc := "()Z" } : Jvm.MethodName)) ∈ lw_tbl := lw_at lw_m8 184 rfl
theorem q2005 : (Jvm.Cond.instanceMethod ({ cls := "ObligingPostsModel", name := "asksHeath", desc := "()Z" } : Jvm.MethodName)) ∈ lw_all := lw_g (lw_at lw_m8 185 rfl) rfl
theorem q2006 : (Jvm.Cond.code ({ cls := "ObligingPostsModel", name := "asksHeath", desc := "()Z" } : Jvm.MethodName) prog_13_method_57_code (1 : Nat) (Option.some Jvm.ClassFile.FieldType.boolean)) ∈ lw_all := lw_g (lw_at lw_m8 186 rfl) rfl
theorem q2007 : (Jvm.Cond.methodLink "ObligingPostsModel" (286 : Nat) ({ cls := "ObligingPostsModel", name := "asItIs", desc := "()V" } : Jvm.MethodName)) ∈ lw_all := lw_g (lw_at lw_m8 187 rfl) rfl
theorem q2008 : (Jvm.Cond.privateMethod ({ cls := "ObligingPostsModel", name := "asItIs", desc := "()V" } : Jvm.MethodName)) ∈ lw_tbl := lw_at lw_m8 188 rfl
theorem q2009 : (Jvm.Cond.instanceMethod ({ cls := "ObligingPostsModel", name := "asItIs", desc := "()V" } : Jvm.MethodName)) ∈ lw_all := lw_g (lw_at lw_m8 189 rfl) rfl
theorem q2010 : (Jvm.Cond.code ({ cls := "ObligingPostsModel", name := "asItIs", desc := "()V" } : Jvm.MethodName) prog_13_method_50_code (2 : Nat) (Option.none : Option Jvm.ClassFile.FieldType)) ∈ lw_all := lw_g (lw_at lw_m8 190 rfl) rfl
theorem q2011 : (Jvm.Cond.methodLink "ObligingPostsModel" (289 : Nat) ({ cls := "ObligingPostsModel", name := "goAll", desc := "()V" } : Jvm.MethodName)) ∈ lw_all := lw_g (lw_at lw_m8 191 rfl) rfl
theorem q2012 : (Jvm.Cond.privateMethod ({ cls := "ObligingPostsModel", name := "goAll", desc := "()V" } : Jvm.MethodName)) ∈ lw_tbl := lw_at lw_m8 192 rfl
theorem q2013 : (Jvm.Cond.instanceMethod ({ cls := "ObligingPostsModel", name := "goAll", desc := "()V" } : Jvm.MethodName)) ∈ lw_all := lw_g (lw_at lw_m8 193 rfl) rfl
theorem q2014 : (Jvm.Cond.code ({ cls := "ObligingPostsModel", name := "goAll", desc := "()V" } : Jvm.MethodName) prog_13_method_56_code (3 : Nat) (Option.none : Option Jvm.ClassFile.FieldType)) ∈ lw_all := lw_g (lw_at lw_m8 194 rfl) rfl
theorem q2015 : (Jvm.Cond.methodLink "ObligingPostsModel" (106 : Nat) ({ cls := "ObligingPostsModel", name := "hours", desc := "()I" } : Jvm.MethodName)) ∈ lw_all := lw_g (lw_at lw_m8 195 rfl) rfl
theorem q2016 : (Jvm.Cond.privateMethod ({ cls := "ObligingPostsModel", name := "hours", desc := "()I" } : Jvm.MethodName)) ∈ lw_tbl := lw_at lw_m8 196 rfl
theorem q2017 : (Jvm.Cond.instanceMethod ({ cls := "ObligingPostsModel", name := "hours", desc := "()I" } : Jvm.MethodName)) ∈ lw_all := lw_g (lw_at lw_m8 197 rfl) rfl
theorem q2018 : (Jvm.Cond.code ({ cls := "ObligingPostsModel", name := "hours", desc := "()I" } : Jvm.MethodName) prog_13_method_9_code (1 : Nat) (Option.some Jvm.ClassFile.FieldType.int)) ∈ lw_all := lw_g (lw_at lw_m8 198 rfl) rfl
theorem q2019 : (Jvm.Cond.methodLink "ObligingPostsModel" (283 : Nat) ({ cls := "ObligingPostsModel", name := "goHour", desc := "(I)V" } : Jvm.MethodName)) ∈ lw_all := lw_g (lw_at lw_m8 199 rfl) rfl
theorem q2020 : (Jvm.Cond.privateMethod ({ cls := "ObligingPostsModel", name := "goHour", desc := "(I)V" } : Jvm.MethodName)) ∈ lw_tbl := lw_at lw_m8 200 rfl
theorem q2021 : (Jvm.Cond.instanceMethod ({ cls := "ObligingPostsModel", name := "goHour", desc := "(I)V" } : Jvm.MethodName)) ∈ lw_all := lw_g (lw_at lw_m8 201 rfl) rfl
theorem q2022 : (Jvm.Cond.code ({ cls := "ObligingPostsModel", name := "goHour", desc := "(I)V" } : Jvm.MethodName) prog_13_method_55_code (4 : Nat) (Option.none : Option Jvm.ClassFile.FieldType)) ∈ lw_all := lw_g (lw_at lw_m8 202 rfl) rfl
theorem q2023 : (Jvm.Cond.methodLink "ObligingPostsModel" (269 : Nat) ({ cls := "ObligingPostsModel", name := "turn", desc := "(II)V" } : Jvm.MethodName)) ∈ lw_all := lw_g (lw_at lw_m8 203 rfl) rfl
theorem q2024 : (Jvm.Cond.privateMethod ({ cls := "ObligingPostsModel", name := "turn", desc := "(II)V" } : Jvm.MethodName)) ∈ lw_tbl := lw_at lw_m8 204 rfl
theorem q2025 : (Jvm.Cond.instanceMethod ({ cls := "ObligingPostsModel", name := "turn", desc := "(II)V" } : Jvm.MethodName)) ∈ lw_all := lw_g (lw_at lw_m8 205 rfl) rfl
theorem q2026 : (Jvm.Cond.code ({ cls := "ObligingPostsModel", name := "turn", desc := "(II)V" } : Jvm.MethodName) prog_13_method_51_code (3 : Nat) (Option.none : Option Jvm.ClassFile.FieldType)) ∈ lw_all := lw_g (lw_at lw_m8 206 rfl) rfl
theorem q2027 : (Jvm.Cond.methodLink "ObligingPostsModel" (266 : Nat) ({ cls := "ObligingPostsModel", name := "bit", desc := "(II)I" } : Jvm.MethodName)) ∈ lw_all := lw_g (lw_at lw_m8 207 rfl) rfl
theorem q2028 : (Jvm.Cond.static ({ cls := "ObligingPostsModel", name := "bit", desc := "(II)I" } : Jvm.MethodName)) ∈ lw_all := lw_g (lw_at lw_m8 208 rfl) rfl
theorem q2029 : (Jvm.Cond.code ({ cls := "ObligingPostsModel", name := "bit", desc := "(II)I" } : Jvm.MethodName) prog_13_method_5_code (2 : Nat) (Option.some Jvm.ClassFile.FieldType.int)) ∈ lw_all := lw_g (lw_at lw_m8 209 rfl) rfl
theorem q2030 : (Jvm.Cond.methodLink "ObligingPostsModel" (276 : Nat) ({ cls := "ObligingPostsModel", name := "isHeld", desc := "(II)Z" } : Jvm.MethodName)) ∈ lw_all := lw_g (lw_at lw_m8 210 rfl) rfl
theorem q2031 : (Jvm.Cond.privateMethod ({ cls := "ObligingPostsModel", name := "isHeld", desc := "(II)Z" } : Jvm.MethodName)) ∈ lw_tbl := lw_at lw_m8 211 rfl
theorem q2032 : (Jvm.Cond.instanceMethod ({ cls := "ObligingPostsModel", name := "isHeld", desc := "(II)Z" } : Jvm.MethodName)) ∈ lw_all := lw_g (lw_at lw_m8 212 rfl) rfl
theorem q2033 : (Jvm.Cond.code ({ cls := "ObligingPostsModel", name := "isHeld", desc := "(II)Z" } : Jvm.MethodName) prog_13_method_53_code (5 : Nat) (Option.some Jvm.ClassFile.FieldType.boolean)) ∈ lw_all := lw_g (lw_at lw_m8 213 rfl) rfl
theorem q2034 : (Jvm.Cond.methodLink "ObligingPostsModel" (280 : Nat) ({ cls := "ObligingPostsModel", name := "sendOne", desc := "(II)V" } : Jvm.MethodName)) ∈ lw_all := lw_g (lw_at lw_m8 214 rfl) rfl
theorem q2035 : (Jvm.Cond.privateMethod ({ cls := "ObligingPostsModel", name := "sendOne", desc := "(II)V" } : Jvm.MethodName)) ∈ lw_tbl := lw_at lw_m8 215 rfl
theorem q2036 : (Jvm.Cond.instanceMethod ({ cls := "ObligingPostsModel", name := "sendOne", desc := "(II)V" } : Jvm.MethodName)) ∈ lw_all := lw_g (lw_at lw_m8 216 rfl) rfl
theorem q2037 : (Jvm.Cond.code ({ cls := "ObligingPostsModel", name := "sendOne", desc := "(II)V" } : Jvm.MethodName) prog_13_method_54_code (6 : Nat) (Option.none : Option Jvm.ClassFile.FieldType)) ∈ lw_all := lw_g (lw_at lw_m8 217 rfl) rfl
theorem q2038 : (Jvm.Cond.methodLink "ObligingPostsModel" (273 : Nat) ({ cls := "ObligingPostsModel", name := "sendBy", desc := "(I)I" } : Jvm.MethodName)) ∈ lw_all := lw_g (lw_at lw_m8 218 rfl) rfl
theorem q2039 : (Jvm.Cond.privateMethod ({ cls := "ObligingPostsModel", name := "sendBy", desc := "(I)I" } : Jvm.MethodName)) ∈ lw_tbl := lw_at lw_m8 219 rfl
theorem q2040 : (Jvm.Cond.instanceMethod ({ cls := "ObligingPostsModel", name := "sendBy", desc := "(I)I" } : Jvm.MethodName)) ∈ lw_all := lw_g (lw_at lw_m8 220 rfl) rfl
theorem q2041 : (Jvm.Cond.code ({ cls := "ObligingPostsModel", name := "sendBy", desc := "(I)I" } : Jvm.MethodName) prog_13_method_52_code (3 : Nat) (Option.some Jvm.ClassFile.FieldType.int)) ∈ lw_all := lw_g (lw_at lw_m8 221 rfl) rfl
theorem q2042 : (Jvm.Cond.methodLink "ObligingPostsModel" (295 : Nat) ({ cls := "ObligingPostsModel", name := "isHour", desc := "(J)Z" } : Jvm.MethodName)) ∈ lw_all := lw_g (lw_at lw_m8 222 rfl) rfl
theorem q2043 : (Jvm.Cond.privateMethod ({ cls := "ObligingPostsModel", name := "isHour", desc := "(J)Z" } : Jvm.MethodName)) ∈ lw_tbl := lw_at lw_m8 223 rfl
theorem q2044 : (Jvm.Cond.instanceMethod ({ cls := "ObligingPostsModel", name := "isHour", desc := "(J)Z" } : Jvm.MethodName)) ∈ lw_all := lw_g (lw_at lw_m8 224 rfl) rfl
theorem q2045 : (Jvm.Cond.code ({ cls := "ObligingPostsModel", name := "isHour", desc := "(J)Z" } : Jvm.MethodName) prog_13_method_13_code (3 : Nat) (Option.some Jvm.ClassFile.FieldType.boolean)) ∈ lw_all := lw_g (lw_at lw_m8 225 rfl) rfl
theorem q2046 : (Jvm.Cond.methodLink "ObligingPostsModel" (298 : Nat) ({ cls := "ObligingPostsModel", name := "placeOf", desc := "(II)I" } : Jvm.MethodName)) ∈ lw_all := lw_g (lw_at lw_m8 226 rfl) rfl
theorem q2047 : (Jvm.Cond.privateMethod ({ cls := "ObligingPostsModel", name := "placeOf", desc := "(II)I" } : Jvm.MethodName)) ∈ lw_tbl := lw_at lw_m8 227 rfl
theorem q2048 : (Jvm.Cond.instanceMethod ({ cls := "ObligingPostsModel", name := "placeOf", desc := "(II)I" } : Jvm.MethodName)) ∈ lw_all := lw_g (lw_at lw_m8 228 rfl) rfl
theorem q2049 : (Jvm.Cond.code ({ cls := "ObligingPostsModel", name := "placeOf", desc := "(II)I" } : Jvm.MethodName) prog_13_method_61_code (3 : Nat) (Option.some Jvm.ClassFile.FieldType.int)) ∈ lw_all := lw_g (lw_at lw_m8 229 rfl) rfl
theorem q2051 : (Jvm.Cond.instanceMethod ({ cls := "ObligingPostsModel", name := "arm", desc := "(II)I" } : Jvm.MethodName)) ∈ lw_all := lw_g (lw_at lw_m8 231 rfl) rfl
theorem q2052 : (Jvm.Cond.selects "ObligingPostsModel" ({ cls := "ObligingPostsModel", name := "arm", desc := "(II)I" } : Jvm.MethodName) ({ cls := "ObligingPostsModel", name := "arm", desc := "(II)I" } : Jvm.MethodName)) ∈ lw_all := lw_g (lw_at lw_m8 232 rfl) rfl
theorem q2053 : (Jvm.Cond.code ({ cls := "ObligingPostsModel", name := "arm", desc := "(II)I" } : Jvm.MethodName) prog_13_method_64_code (3 : Nat) (Option.some Jvm.ClassFile.FieldType.int)) ∈ lw_all := lw_g (lw_at lw_m8 233 rfl) rfl
theorem q2055 : (Jvm.Cond.instanceMethod ({ cls := "ObligingPostsModel", name := "here", desc := "(II)I" } : Jvm.MethodName)) ∈ lw_all := lw_g (lw_at lw_m8 235 rfl) rfl
theorem q2056 : (Jvm.Cond.selects "ObligingPostsModel" ({ cls := "ObligingPostsModel", name := "here", desc := "(II)I" } : Jvm.MethodName) ({ cls := "ObligingPostsModel", name := "here", desc := "(II)I" } : Jvm.MethodName)) ∈ lw_all := lw_g (lw_at lw_m8 236 rfl) rfl
theorem q2057 : (Jvm.Cond.code ({ cls := "ObligingPostsModel", name := "here", desc := "(II)I" } : Jvm.MethodName) prog_13_method_66_code (3 : Nat) (Option.some Jvm.ClassFile.FieldType.int)) ∈ lw_all := lw_g (lw_at lw_m8 237 rfl) rfl
theorem q2058 : (Jvm.Cond.methodLink "ObligingPostsModel" (305 : Nat) ({ cls := "ObligingPostsModel", name := "isPlace", desc := "(J)Z" } : Jvm.MethodName)) ∈ lw_all := lw_g (lw_at lw_m8 238 rfl) rfl
theorem q2059 : (Jvm.Cond.privateMethod ({ cls := "ObligingPostsModel", name := "isPlace", desc := "(J)Z" } : Jvm.MethodName)) ∈ lw_tbl := lw_at lw_m8 239 rfl
theorem q2060 : (Jvm.Cond.instanceMethod ({ cls := "ObligingPostsModel", name := "isPlace", desc := "(J)Z" } : Jvm.MethodName)) ∈ lw_all := lw_g (lw_at lw_m9 0 rfl) rfl
theorem q2061 : (Jvm.Cond.code ({ cls := "ObligingPostsModel", name := "isPlace", desc := "(J)Z" } : Jvm.MethodName) prog_13_method_18_code (3 : Nat) (Option.some Jvm.ClassFile.FieldType.boolean)) ∈ lw_all := lw_g (lw_at lw_m9 1 rfl) rfl
theorem q2062 : (Jvm.Cond.constantLong "ObligingPostsModel" (116 : Nat) (10 : Int64)) ∈ lw_all := lw_g (lw_at lw_m9 2 rfl) rfl
theorem q2063 : (Jvm.Cond.methodLink "ObligingPostsModel" (308 : Nat) ({ cls := "ObligingPostsModel", name := "hereOf", desc := "(II)I" } : Jvm.MethodName)) ∈ lw_all := lw_g (lw_at lw_m9 3 rfl) rfl
theorem q2064 : (Jvm.Cond.privateMethod ({ cls := "ObligingPostsModel", name := "hereOf", desc := "(II)I" } : Jvm.MethodName)) ∈ lw_tbl := lw_at lw_m9 4 rfl
theorem q2065 : (Jvm.Cond.instanceMethod ({ cls := "ObligingPostsModel", name := "hereOf", desc := "(II)I" } : Jvm.MethodName)) ∈ lw_all := lw_g (lw_at lw_m9 5 rfl) rfl
theorem q2066 : (Jvm.Cond.code ({ cls := "ObligingPostsModel", name := "hereOf", desc := "(II)I" } : Jvm.MethodName) prog_13_method_65_code (5 : Nat) (Option.some Jvm.ClassFile.FieldType.int)) ∈ lw_all := lw_g (lw_at lw_m9 6 rfl) rfl
theorem q2068 : (Jvm.Cond.instanceMethod ({ cls := "ObligingPostsModel", name := "sent", desc := "(I)I" } : Jvm.MethodName)) ∈ lw_all := lw_g (lw_at lw_m9 8 rfl) rfl
theorem q2069 : (Jvm.Cond.selects "ObligingPostsModel" ({ cls := "ObligingPostsModel", name := "sent", desc := "(I)I" } : Jvm.MethodName) ({ cls := "ObligingPostsModel", name := "sent", desc := "(I)I" } : Jvm.MethodName)) ∈ lw_all := lw_g (lw_at lw_m9 9 rfl) rfl
theorem q2070 : (Jvm.Cond.code ({ cls := "ObligingPostsModel", name := "sent", desc := "(I)I" } : Jvm.MethodName) prog_13_method_67_code (2 : Nat) (Option.some Jvm.ClassFile.FieldType.int)) ∈ lw_all := lw_g (lw_at lw_m9 10 rfl) rfl
theorem q2071 : (Jvm.Cond.methodLink "ObligingPostsModel" (311 : Nat) ({ cls := "ObligingPostsModel", name := "isAhead", desc := "(J)Z" } : Jvm.MethodName)) ∈ lw_all := lw_g (lw_at lw_m9 11 rfl) rfl
theorem q2072 : (Jvm.Cond.privateMethod ({ cls := "ObligingPostsModel", name := "isAhead", desc := "(J)Z" } : Jvm.MethodName)) ∈ lw_tbl := lw_at lw_m9 12 rfl
theorem q2073 : (Jvm.Cond.instanceMethod ({ cls := "ObligingPostsModel", name := "isAhead", desc := "(J)Z" } : Jvm.MethodName)) ∈ lw_all := lw_g (lw_at lw_m9 13 rfl) rfl
theorem q2074 : (Jvm.Cond.code ({ cls := "ObligingPostsModel", name := "isAhead", desc := "(J)Z" } : Jvm.MethodName) prog_13_method_14_code (3 : Nat) (Option.some Jvm.ClassFile.FieldType.boolean)) ∈ lw_all := lw_g (lw_at lw_m9 14 rfl) rfl
theorem q2076 : (Jvm.Cond.instanceMethod ({ cls := "ObligingPostsModel", name := "sends", desc := "(I)I" } : Jvm.MethodName)) ∈ lw_all := lw_g (lw_at lw_m9 16 rfl) rfl
theorem q2077 : (Jvm.Cond.selects "ObligingPostsModel" ({ cls := "ObligingPostsModel", name := "sends", desc := "(I)I" } : Jvm.MethodName) ({ cls := "ObligingPostsModel", name := "sends", desc := "(I)I" } : Jvm.MethodName)) ∈ lw_all := lw_g (lw_at lw_m9 17 rfl) rfl
theorem q2078 : (Jvm.Cond.code ({ cls := "ObligingPostsModel", name := "sends", desc := "(I)I" } : Jvm.MethodName) prog_13_method_69_code (2 : Nat) (Option.some Jvm.ClassFile.FieldType.int)) ∈ lw_all := lw_g (lw_at lw_m9 18 rfl) rfl
theorem q2079 : (Jvm.Cond.methodLink "ObligingPostsModel" (314 : Nat) ({ cls := "ObligingPostsModel", name := "asksPost", desc := "(I)Z" } : Jvm.MethodName)) ∈ lw_all := lw_g (lw_at lw_m9 19 rfl) rfl
theorem q2080 : (Jvm.Cond.privateMethod ({ cls := "ObligingPostsModel", name := "asksPost", desc := "(I)Z" } : Jvm.MethodName)) ∈ lw_tbl := lw_at lw_m9 20 rfl
theorem q2081 : (Jvm.Cond.instanceMethod ({ cls := "ObligingPostsModel", name := "asksPost", desc := "(I)Z" } : Jvm.MethodName)) ∈ lw_all := lw_g (lw_at lw_m9 21 rfl) rfl
theorem q2082 : (Jvm.Cond.code ({ cls := "ObligingPostsModel", name := "asksPost", desc := "(I)Z" } : Jvm.MethodName) prog_13_method_60_code (2 : Nat) (Option.some Jvm.ClassFile.FieldType.boolean)) ∈ lw_all := lw_g (lw_at lw_m9 22 rfl) rfl
theorem q2083 : (Jvm.Cond.methodLink "ObligingPostsModel" (317 : Nat) ({ cls := "ObligingPostsModel", name := "sendsOf", desc := "(I)I" } : Jvm.MethodName)) ∈ lw_all := lw_g (lw_at lw_m9 23 rfl) rfl
theorem q2084 : (Jvm.Cond.privateMethod ({ cls := "ObligingPostsModel", name := "sendsOf", desc := "(I)I" } : Jvm.MethodName)) ∈ lw_tbl := lw_at lw_m9 24 rfl
theorem q2085 : (Jvm.Cond.instanceMethod ({ cls := "ObligingPostsModel", name := "sendsOf", desc := "(I)I" } : Jvm.MethodName)) ∈ lw_all := lw_g (lw_at lw_m9 25 rfl) rfl
theorem q2086 : (Jvm.Cond.code ({ cls := "ObligingPostsModel", name := "sendsOf", desc := "(I)I" } : Jvm.MethodName) prog_13_method_68_code (4 : Nat) (Option.some Jvm.ClassFile.FieldType.int)) ∈ lw_all := lw_g (lw_at lw_m9 26 rfl) rfl
theorem q2088 : (Jvm.Cond.instanceMethod ({ cls := "ObligingPostsModel", name := "used", desc := "(II)I" } : Jvm.MethodName)) ∈ lw_all := lw_g (lw_at lw_m9 28 rfl) rfl
theorem q2089 : (Jvm.Cond.selects "ObligingPostsModel" ({ cls := "ObligingPostsModel", name := "used", desc := "(II)I" } : Jvm.MethodName) ({ cls := "ObligingPostsModel", name := "used", desc := "(II)I" } : Jvm.MethodName)) ∈ lw_all := lw_g (lw_at lw_m9 29 rfl) rfl
theorem q2090 : (Jvm.Cond.code ({ cls := "ObligingPostsModel", name := "used", desc := "(II)I" } : Jvm.MethodName) prog_13_method_70_code (3 : Nat) (Option.some Jvm.ClassFile.FieldType.int)) ∈ lw_all := lw_g (lw_at lw_m9 30 rfl) rfl
theorem q2092 : (Jvm.Cond.instanceMethod ({ cls := "ObligingPostsModel", name := "walks", desc := "(I)I" } : Jvm.MethodName)) ∈ lw_all := lw_g (lw_at lw_m9 32 rfl) rfl
theorem q2093 : (Jvm.Cond.selects "ObligingPostsModel" ({ cls := "ObligingPostsModel", name := "walks", desc := "(I)I" } : Jvm.MethodName) ({ cls := "ObligingPostsModel", name := "walks", desc := "(I)I" } : Jvm.MethodName)) ∈ lw_all := lw_g (lw_at lw_m9 33 rfl) rfl
theorem q2094 : (Jvm.Cond.code ({ cls := "ObligingPostsModel", name := "walks", desc := "(I)I" } : Jvm.MethodName) prog_13_method_71_code (2 : Nat) (Option.some Jvm.ClassFile.FieldType.int)) ∈ lw_all := lw_g (lw_at lw_m9 34 rfl) rfl
theorem q2095 : (Jvm.Cond.methodLink "ObligingPostsModel" (320 : Nat) ({ cls := "ObligingPostsModel", name := "asksWalker", desc := "(I)Z" } : Jvm.MethodName)) ∈ lw_all := lw_g (lw_at lw_m9 35 rfl) rfl
theorem q2096 : (Jvm.Cond.privateMethod ({ cls := "ObligingPostsModel", name := "asksWalker", desc := "(I)Z" } : Jvm.MethodName)) ∈ lw_tbl := lw_at lw_m9 36 rfl
theorem q2097 : (Jvm.Cond.instanceMethod ({ cls := "ObligingPostsModel", name := "asksWalker", desc := "(I)Z" } : Jvm.MethodName)) ∈ lw_all := lw_g (lw_at lw_m9 37 rfl) rfl
theorem q2098 : (Jvm.Cond.code ({ cls := "ObligingPostsModel", name := "asksWalker", desc := "(I)Z" } : Jvm.MethodName) prog_13_method_59_code (2 : Nat) (Option.some Jvm.ClassFile.FieldType.boolean)) ∈ lw_all := lw_g (lw_at lw_m9 38 rfl) rfl
theorem q2100 : (Jvm.Cond.instanceMethod ({ cls := "ObligingPostsModel", name := "home", desc := "(I)I" } : Jvm.MethodName)) ∈ lw_all := lw_g (lw_at lw_m9 40 rfl) rfl
theorem q2101 : (Jvm.Cond.selects "ObligingPostsModel" ({ cls := "ObligingPostsModel", name := "home", desc := "(I)I" } : Jvm.MethodName) ({ cls := "ObligingPostsModel", name := "home", desc := "(I)I" } : Jvm.MethodName)) ∈ lw_all := lw_g (lw_at lw_m9 41 rfl) rfl
theorem q2102 : (Jvm.Cond.code ({ cls := "ObligingPostsModel", name := "home", desc := "(I)I" } : Jvm.MethodName) prog_13_method_73_code (2 : Nat) (Option.some Jvm.ClassFile.FieldType.int)) ∈ lw_all := lw_g (lw_at lw_m9 42 rfl) rfl
theorem q2103 : (Jvm.Cond.methodLink "ObligingPostsModel" (326 : Nat) ({ cls := "ObligingPostsModel", name := "homeOf", desc := "(I)I" } : Jvm.MethodName)) ∈ lw_all := lw_g (lw_at lw_m9 43 rfl) rfl
theorem q2104 : (Jvm.Cond.privateMethod ({ cls := "ObligingPostsModel", name := "homeOf", desc := "(I)I" } : Jvm.MethodName)) ∈ lw_tbl := lw_at lw_m9 44 rfl
theorem q2105 : (Jvm.Cond.instanceMethod ({ cls := "ObligingPostsModel", name := "homeOf", desc := "(I)I" } : Jvm.MethodName)) ∈ lw_all := lw_g (lw_at lw_m9 45 rfl) rfl
theorem q2106 : (Jvm.Cond.code ({ cls := "ObligingPostsModel", name := "homeOf", desc := "(I)I" } : Jvm.MethodName) prog_13_method_72_code (3 : Nat) (Option.some Jvm.ClassFile.FieldType.int)) ∈ lw_all := lw_g (lw_at lw_m9 46 rfl) rfl
theorem q2107 : (Jvm.Cond.methodLink "ObligingPostsModel" (323 : Nat) ({ cls := "ObligingPostsModel", name := "isInside", desc := "(II)Z" } : Jvm.MethodName)) ∈ lw_all := lw_g (lw_at lw_m9 47 rfl) rfl
theorem q2108 : (Jvm.Cond.privateMethod ({ cls := "ObligingPostsModel", name := "isInside", desc := "(II)Z" } : Jvm.MethodName)) ∈ lw_tbl := lw_at lw_m9 48 rfl
theorem q2109 : (Jvm.Cond.instanceMethod ({ cls := "ObligingPostsModel", name := "isInside", desc := "(II)Z" } : Jvm.MethodName)) ∈ lw_all := lw_g (lw_at lw_m9 49 rfl) rfl
theorem q2110 : (Jvm.Cond.code ({ cls := "ObligingPostsModel", name := "isInside", desc := "(II)Z" } : Jvm.MethodName) prog_13_method_62_code (3 : Nat) (Option.some Jvm.ClassFile.FieldType.boolean)) ∈ lw_all := lw_g (lw_at lw_m9 50 rfl) rfl
theorem q2112 : (Jvm.Cond.instanceMethod ({ cls := "ObligingPostsModel", name := "inn", desc := "(I)I" } : Jvm.MethodName)) ∈ lw_all := lw_g (lw_at lw_m9 52 rfl) rfl
theorem q2113 : (Jvm.Cond.selects "ObligingPostsModel" ({ cls := "ObligingPostsModel", name := "inn", desc := "(I)I" } : Jvm.MethodName) ({ cls := "ObligingPostsModel", name := "inn", desc := "(I)I" } : Jvm.MethodName)) ∈ lw_all := lw_g (lw_at lw_m9 53 rfl) rfl
theorem q2114 : (Jvm.Cond.code ({ cls := "ObligingPostsModel", name := "inn", desc := "(I)I" } : Jvm.MethodName) prog_13_method_74_code (2 : Nat) (Option.some Jvm.ClassFile.FieldType.int)) ∈ lw_all := lw_g (lw_at lw_m9 54 rfl) rfl
theorem q2116 : (Jvm.Cond.instanceMethod ({ cls := "ObligingPostsModel", name := "trail", desc := "(I)I" } : Jvm.MethodName)) ∈ lw_all := lw_g (lw_at lw_m9 56 rfl) rfl
theorem q2117 : (Jvm.Cond.selects "ObligingPostsModel" ({ cls := "ObligingPostsModel", name := "trail", desc := "(I)I" } : Jvm.MethodName) ({ cls := "ObligingPostsModel", name := "trail", desc := "(I)I" } : Jvm.MethodName)) ∈ lw_all := lw_g (lw_at lw_m9 57 rfl) rfl
theorem q2118 : (Jvm.Cond.code ({ cls := "ObligingPostsModel", name := "trail", desc := "(I)I" } : Jvm.MethodName) prog_13_method_76_code (2 : Nat) (Option.some Jvm.ClassFile.FieldType.int)) ∈ lw_all := lw_g (lw_at lw_m9 58 rfl) rfl
theorem q2119 : (Jvm.Cond.methodLink "ObligingPostsModel" (331 : Nat) ({ cls := "ObligingPostsModel", name := "trailTo", desc := "(II)I" } : Jvm.MethodName)) ∈ lw_all := lw_g (lw_at lw_m9 59 rfl) rfl
theorem q2120 : (Jvm.Cond.privateMethod ({ cls := "ObligingPostsModel", name := "trailTo", desc := "(II)I" } : Jvm.MethodName)) ∈ lw_tbl := lw_at lw_m9 60 rfl
theorem q2121 : (Jvm.Cond.instanceMethod ({ cls := "ObligingPostsModel", name := "trailTo", desc := "(II)I" } : Jvm.MethodName)) ∈ lw_all := lw_g (lw_at lw_m9 61 rfl) rfl
theorem q2122 : (Jvm.Cond.code ({ cls := "ObligingPostsModel", name := "trailTo", desc := "(II)I" } : Jvm.MethodName) prog_13_method_75_code (5 : Nat) (Option.some Jvm.ClassFile.FieldType.int)) ∈ lw_all := lw_g (lw_at lw_m9 62 rfl) rfl
theorem q2123 : (Jvm.Cond.constantLong "ObligingPostsModel" (329 : Nat) (6 : Int64)) ∈ lw_all := lw_g (lw_at lw_m9 63 rfl) rfl
theorem q2125 : (Jvm.Cond.instanceMethod ({ cls := "ObligingPostsModel", name := "again", desc := "(I)I" } : Jvm.MethodName)) ∈ lw_all := lw_g (lw_at lw_m9 65 rfl) rfl
theorem q2126 : (Jvm.Cond.selects "ObligingPostsModel" ({ cls := "ObligingPostsModel", name := "again", desc := "(I)I" } : Jvm.MethodName) ({ cls := "ObligingPostsModel", name := "again", desc := "(I)I" } : Jvm.MethodName)) ∈ lw_all := lw_g (lw_at lw_m9 66 rfl) rfl
theorem q2127 : (Jvm.Cond.code ({ cls := "ObligingPostsModel", name := "again", desc := "(I)I" } : Jvm.MethodName) prog_13_method_77_code (5 : Nat) (Option.some Jvm.ClassFile.FieldType.int)) ∈ lw_all := lw_g (lw_at lw_m9 67 rfl) rfl
theorem q2129 : (Jvm.Cond.instanceMethod ({ cls := "ObligingPostsModel", name := "lingers", desc := "(I)I" } : Jvm.MethodName)) ∈ lw_all := lw_g (lw_at lw_m9 69 rfl) rfl
theorem q2130 : (Jvm.Cond.selects "ObligingPostsModel" ({ cls := "ObligingPostsModel", name := "lingers", desc := "(I)I" } : Jvm.MethodName) ({ cls := "ObligingPostsModel", name := "lingers", desc := "(I)I" } : Jvm.MethodName)) ∈ lw_all := lw_g (lw_at lw_m9 70 rfl) rfl
theorem q2131 : (Jvm.Cond.code ({ cls := "ObligingPostsModel", name := "lingers", desc := "(I)I" } : Jvm.MethodName) prog_13_method_78_code (4 : Nat) (Option.some Jvm.ClassFile.FieldType.int)) ∈ lw_all := lw_g (lw_at lw_m9 71 rfl) rfl
theorem q2133 : (Jvm.Cond.instanceMethod ({ cls := "ObligingPostsModel", name := "guests", desc := "(II)I" } : Jvm.MethodName)) ∈ lw_all := lw_g (lw_at lw_m9 73 rfl) rfl
theorem q2134 : (Jvm.Cond.selects "ObligingPostsModel" ({ cls := "ObligingPostsModel", name := "guests", desc := "(II)I" } : Jvm.MethodName) ({ cls := "ObligingPostsModel", name := "guests", desc := "(II)I" } : Jvm.MethodName)) ∈ lw_all := lw_g (lw_at lw_m9 74 rfl) rfl
theorem q2135 : (Jvm.Cond.code ({ cls := "ObligingPostsModel", name := "guests", desc := "(II)I" } : Jvm.MethodName) prog_13_method_80_code (3 : Nat) (Option.some Jvm.ClassFile.FieldType.int)) ∈ lw_all := lw_g (lw_at lw_m9 75 rfl) rfl
theorem q2136 : (Jvm.Cond.methodLink "ObligingPostsModel" (337 : Nat) ({ cls := "ObligingPostsModel", name := "guestsOf", desc := "(II)I" } : Jvm.MethodName)) ∈ lw_all := lw_g (lw_at lw_m9 76 rfl) rfl
theorem q2137 : (Jvm.Cond.privateMethod ({ cls := "ObligingPostsModel", name := "guestsOf", desc := "(II)I" } : Jvm.MethodName)) ∈ lw_tbl := lw_at lw_m9 77 rfl
theorem q2138 : (Jvm.Cond.instanceMethod ({ cls := "ObligingPostsModel", name := "guestsOf", desc := "(II)I" } : Jvm.MethodName)) ∈ lw_all := lw_g (lw_at lw_m9 78 rfl) rfl
theorem q2139 : (Jvm.Cond.code ({ cls := "ObligingPostsModel", name := "guestsOf", desc := "(II)I" } : Jvm.MethodName) prog_13_method_79_code (3 : Nat) (Option.some Jvm.ClassFile.FieldType.int)) ∈ lw_all := lw_g (lw_at lw_m9 79 rfl) rfl
theorem q2140 : (Jvm.Cond.methodLink "ObligingPostsModel" (334 : Nat) ({ cls := "ObligingPostsModel", name := "bits", desc := "(I)I" } : Jvm.MethodName)) ∈ lw_all := lw_g (lw_at lw_m9 80 rfl) rfl
theorem q2141 : (Jvm.Cond.static ({ cls := "ObligingPostsModel", name := "bits", desc := "(I)I" } : Jvm.MethodName)) ∈ lw_all := lw_g (lw_at lw_m9 81 rfl) rfl
theorem q2142 : (Jvm.Cond.code ({ cls := "ObligingPostsModel", name := "bits", desc := "(I)I" } : Jvm.MethodName) prog_13_method_4_code (3 : Nat) (Option.some Jvm.ClassFile.FieldType.int)) ∈ lw_all := lw_g (lw_at lw_m9 82 rfl) rfl
theorem q2144 : (Jvm.Cond.instanceMethod ({ cls := "ObligingPostsModel", name := "full", desc := "(I)I" } : Jvm.MethodName)) ∈ lw_all := lw_g (lw_at lw_m9 84 rfl) rfl
theorem q2145 : (Jvm.Cond.selects "ObligingPostsModel" ({ cls := "ObligingPostsModel", name := "full", desc := "(I)I" } : Jvm.MethodName) ({ cls := "ObligingPostsModel", name := "full", desc := "(I)I" } : Jvm.MethodName)) ∈ lw_all := lw_g (lw_at lw_m9 85 rfl) rfl
theorem q2146 : (Jvm.Cond.code ({ cls := "ObligingPostsModel", name := "full", desc := "(I)I" } : Jvm.MethodName) prog_13_method_81_code (3 : Nat) (Option.some Jvm.ClassFile.FieldType.int)) ∈ lw_all := lw_g (lw_at lw_m9 86 rfl) rfl
theorem q2148 : (Jvm.Cond.instanceMethod ({ cls := "ObligingPostsModel", name := "refuses", desc := "(I)I" } : Jvm.MethodName)) ∈ lw_all := lw_g (lw_at lw_m9 88 rfl) rfl
theorem q2149 : (Jvm.Cond.selects "ObligingPostsModel" ({ cls := "ObligingPostsModel", name := "refuses", desc := "(I)I" } : Jvm.MethodName) ({ cls := "ObligingPostsModel", name := "refuses", desc := "(I)I" } : Jvm.MethodName)) ∈ lw_all := lw_g (lw_at lw_m9 89 rfl) rfl
theorem q2150 : (Jvm.Cond.code ({ cls := "ObligingPostsModel", name := "refuses", desc := "(I)I" } : Jvm.MethodName) prog_13_method_82_code (2 : Nat) (Option.some Jvm.ClassFile.FieldType.int)) ∈ lw_all := lw_g (lw_at lw_m9 90 rfl) rfl
theorem q2152 : (Jvm.Cond.instanceMethod ({ cls := "ObligingPostsModel", name := "inside", desc := "(I)I" } : Jvm.MethodName)) ∈ lw_all := lw_g (lw_at lw_m9 92 rfl) rfl
theorem q2153 : (Jvm.Cond.selects "ObligingPostsModel" ({ cls := "ObligingPostsModel", name := "inside", desc := "(I)I" } : Jvm.MethodName) ({ cls := "ObligingPostsModel", name := "inside", desc := "(I)I" } : Jvm.MethodName)) ∈ lw_all := lw_g (lw_at lw_m9 93 rfl) rfl
theorem q2154 : (Jvm.Cond.code ({ cls := "ObligingPostsModel", name := "inside", desc := "(I)I" } : Jvm.MethodName) prog_13_method_85_code (2 : Nat) (Option.some Jvm.ClassFile.FieldType.int)) ∈ lw_all := lw_g (lw_at lw_m9 94 rfl) rfl
theorem q2155 : (Jvm.Cond.methodLink "ObligingPostsModel" (340 : Nat) ({ cls := "ObligingPostsModel", name := "insideAt", desc := "(I)I" } : Jvm.MethodName)) ∈ lw_all := lw_g (lw_at lw_m9 95 rfl) rfl
theorem q2156 : (Jvm.Cond.privateMethod ({ cls := "ObligingPostsModel", name := "insideAt", desc := "(I)I" } : Jvm.MethodName)) ∈ lw_tbl := lw_at lw_m9 96 rfl
theorem q2157 : (Jvm.Cond.instanceMethod ({ cls := "ObligingPostsModel", name := "insideAt", desc := "(I)I" } : Jvm.MethodName)) ∈ lw_all := lw_g (lw_at lw_m9 97 rfl) rfl
theorem q2158 : (Jvm.Cond.code ({ cls := "ObligingPostsModel", name := "insideAt", desc := "(I)I" } : Jvm.MethodName) prog_13_method_83_code (4 : Nat) (Option.some Jvm.ClassFile.FieldType.int)) ∈ lw_all := lw_g (lw_at lw_m9 98 rfl) rfl
theorem q2160 : (Jvm.Cond.instanceMethod ({ cls := "ObligingPostsModel", name := "outside", desc := "(I)I" } : Jvm.MethodName)) ∈ lw_all := lw_g (lw_at lw_m9 100 rfl) rfl
theorem q2161 : (Jvm.Cond.selects "ObligingPostsModel" ({ cls := "ObligingPostsModel", name := "outside", desc := "(I)I" } : Jvm.MethodName) ({ cls := "ObligingPostsModel", name := "outside", desc := "(I)I" } : Jvm.MethodName)) ∈ lw_all := lw_g (lw_at lw_m9 101 rfl) rfl
theorem q2162 : (Jvm.Cond.code ({ cls := "ObligingPostsModel", name := "outside", desc := "(I)I" } : Jvm.MethodName) prog_13_method_86_code (4 : Nat) (Option.some Jvm.ClassFile.FieldType.int)) ∈ lw_all := lw_g (lw_at lw_m9 102 rfl) rfl
theorem q2164 : (Jvm.Cond.instanceMethod ({ cls := "ObligingPostsModel", name := "done", desc := "()I" } : Jvm.MethodName)) ∈ lw_all := lw_g (lw_at lw_m9 104 rfl) rfl
theorem q2165 : (Jvm.Cond.selects "ObligingPostsModel" ({ cls := "ObligingPostsModel", name := "done", desc := "()I" } : Jvm.MethodName) ({ cls := "ObligingPostsModel", name := "done", desc := "()I" } : Jvm.MethodName)) ∈ lw_all := lw_g (lw_at lw_m9 105 rfl) rfl
theorem q2166 : (Jvm.Cond.code ({ cls := "ObligingPostsModel", name := "done", desc := "()I" } : Jvm.MethodName) prog_13_method_87_code (2 : Nat) (Option.some Jvm.ClassFile.FieldType.int)) ∈ lw_all := lw_g (lw_at lw_m9 106 rfl) rfl
theorem q2168 : (Jvm.Cond.instanceMethod ({ cls := "ObligingPostsModel", name := "crowd", desc := "(I)I" } : Jvm.MethodName)) ∈ lw_all := lw_g (lw_at lw_m9 108 rfl) rfl
theorem q2169 : (Jvm.Cond.selects "ObligingPostsModel" ({ cls := "ObligingPostsModel", name := "crowd", desc := "(I)I" } : Jvm.MethodName) ({ cls := "ObligingPostsModel", name := "crowd", desc := "(I)I" } : Jvm.MethodName)) ∈ lw_all := lw_g (lw_at lw_m9 109 rfl) rfl
theorem q2170 : (Jvm.Cond.code ({ cls := "ObligingPostsModel", name := "crowd", desc := "(I)I" } : Jvm.MethodName) prog_13_method_88_code (4 : Nat) (Option.some Jvm.ClassFile.FieldType.int)) ∈ lw_all := lw_g (lw_at lw_m9 110 rfl) rfl
theorem q2171 : (Jvm.Cond.methodLink "ObligingPostsModel" (343 : Nat) ({ cls := "java/lang/Math", name := "max", desc := "(II)I" } : Jvm.MethodName)) ∈ lw_all := lw_g (lw_at lw_m9 111 rfl) rfl
theorem q2173 : (Jvm.Cond.instanceMethod ({ cls := "ObligingPostsModel", name := "meet", desc := "(II)I" } : Jvm.MethodName)) ∈ lw_all := lw_g (lw_at lw_m9 113 rfl) rfl
theorem q2174 : (Jvm.Cond.selects "ObligingPostsModel" ({ cls := "ObligingPostsModel", name := "meet", desc := "(II)I" } : Jvm.MethodName) ({ cls := "ObligingPostsModel", name := "meet", desc := "(II)I" } : Jvm.MethodName)) ∈ lw_all := lw_g (lw_at lw_m9 114 rfl) rfl
theorem q2175 : (Jvm.Cond.code ({ cls := "ObligingPostsModel", name := "meet", desc := "(II)I" } : Jvm.MethodName) prog_13_method_90_code (4 : Nat) (Option.some Jvm.ClassFile.FieldType.int)) ∈ lw_all := lw_g (lw_at lw_m9 115 rfl) rfl
theorem q2176 : (Jvm.Cond.methodLink "ObligingPostsModel" (346 : Nat) ({ cls := "ObligingPostsModel", name := "areTwo", desc := "(II)Z" } : Jvm.MethodName)) ∈ lw_all := lw_g (lw_at lw_m9 116 rfl) rfl
theorem q2177 : (Jvm.Cond.privateMethod ({ cls := "ObligingPostsModel", name := "areTwo", desc := "(II)Z" } : Jvm.MethodName)) ∈ lw_tbl := lw_at lw_m9 117 rfl
theorem q2178 : (Jvm.Cond.instanceMethod ({ cls := "ObligingPostsModel", name := "areTwo", desc := "(II)Z" } : Jvm.MethodName)) ∈ lw_all := lw_g (lw_at lw_m9 118 rfl) rfl
theorem q2179 : (Jvm.Cond.code ({ cls := "ObligingPostsModel", name := "areTwo", desc := "(II)Z" } : Jvm.MethodName) prog_13_method_89_code (3 : Nat) (Option.some Jvm.ClassFile.FieldType.boolean)) ∈ lw_all := lw_g (lw_at lw_m9 119 rfl) rfl
theorem q2181 : (Jvm.Cond.instanceMethod ({ cls := "ObligingPostsModel", name := "busy", desc := "()I" } : Jvm.MethodName)) ∈ lw_all := lw_g (lw_at lw_m9 121 rfl) rfl
theorem q2182 : (Jvm.Cond.selects "ObligingPostsModel" ({ cls := "ObligingPostsModel", name := "busy", desc := "()I" } : Jvm.MethodName) ({ cls := "ObligingPostsModel", name := "busy", desc := "()I" } : Jvm.MethodName)) ∈ lw_all := lw_g (lw_at lw_m9 122 rfl) rfl
theorem q2183 : (Jvm.Cond.code ({ cls := "ObligingPostsModel", name := "busy", desc := "()I" } : Jvm.MethodName) prog_13_method_91_code (3 : Nat) (Option.some Jvm.ClassFile.FieldType.int)) ∈ lw_all := lw_g (lw_at lw_m9 123 rfl) rfl
theorem q2185 : (Jvm.Cond.instanceMethod ({ cls := "ObligingPostsModel", name := "idle", desc := "()I" } : Jvm.MethodName)) ∈ lw_all := lw_g (lw_at lw_m9 125 rfl) rfl
theorem q2186 : (Jvm.Cond.selects "ObligingPostsModel" ({ cls := "ObligingPostsModel", name := "idle", desc := "()I" } : Jvm.MethodName) ({ cls := "ObligingPostsModel", name := "idle", desc := "()I" } : Jvm.MethodName)) ∈ lw_all := lw_g (lw_at lw_m9 126 rfl) rfl
theorem q2187 : (Jvm.Cond.code ({ cls := "ObligingPostsModel", name := "idle", desc := "()I" } : Jvm.MethodName) prog_13_method_92_code (3 : Nat) (Option.some Jvm.ClassFile.FieldType.int)) ∈ lw_all := lw_g (lw_at lw_m9 127 rfl) rfl
theorem q2189 : (Jvm.Cond.instanceMethod ({ cls := "ObligingPostsModel", name := "reach", desc := "(I)I" } : Jvm.MethodName)) ∈ lw_all := lw_g (lw_at lw_m9 129 rfl) rfl
theorem q2190 : (Jvm.Cond.selects "ObligingPostsModel" ({ cls := "ObligingPostsModel", name := "reach", desc := "(I)I" } : Jvm.MethodName) ({ cls := "ObligingPostsModel", name := "reach", desc := "(I)I" } : Jvm.MethodName)) ∈ lw_all := lw_g (lw_at lw_m9 130 rfl) rfl
theorem q2191 : (Jvm.Cond.code ({ cls := "ObligingPostsModel", name := "reach", desc := "(I)I" } : Jvm.MethodName) prog_13_method_94_code (4 : Nat) (Option.some Jvm.ClassFile.FieldType.int)) ∈ lw_all := lw_g (lw_at lw_m9 131 rfl) rfl
theorem q2192 : (Jvm.Cond.methodLink "ObligingPostsModel" (349 : Nat) ({ cls := "ObligingPostsModel", name := "goOn", desc := "(I)I" } : Jvm.MethodName)) ∈ lw_all := lw_g (lw_at lw_m9 132 rfl) rfl
theorem q2193 : (Jvm.Cond.privateMethod ({ cls := "ObligingPostsModel", name := "goOn", desc := "(I)I" } : Jvm.MethodName)) ∈ lw_tbl := lw_at lw_m9 133 rfl
theorem q2194 : (Jvm.Cond.instanceMethod ({ cls := "ObligingPostsModel", name := "goOn", desc := "(I)I" } : Jvm.MethodName)) ∈ lw_all := lw_g (lw_at lw_m9 134 rfl) rfl
theorem q2195 : (Jvm.Cond.code ({ cls := "ObligingPostsModel", name := "goOn", desc := "(I)I" } : Jvm.MethodName) prog_13_method_93_code (5 : Nat) (Option.some Jvm.ClassFile.FieldType.int)) ∈ lw_all := lw_g (lw_at lw_m9 135 rfl) rfl
theorem q2197 : (Jvm.Cond.instanceMethod ({ cls := "ObligingPostsModel", name := "far", desc := "(II)I" } : Jvm.MethodName)) ∈ lw_all := lw_g (lw_at lw_m9 137 rfl) rfl
theorem q2198 : (Jvm.Cond.selects "ObligingPostsModel" ({ cls := "ObligingPostsModel", name := "far", desc := "(II)I" } : Jvm.MethodName) ({ cls := "ObligingPostsModel", name := "far", desc := "(II)I" } : Jvm.MethodName)) ∈ lw_all := lw_g (lw_at lw_m9 138 rfl) rfl
theorem q2199 : (Jvm.Cond.code ({ cls := "ObligingPostsModel", name := "far", desc := "(II)I" } : Jvm.MethodName) prog_13_method_95_code (5 : Nat) (Option.some Jvm.ClassFile.FieldType.int)) ∈ lw_all := lw_g (lw_at lw_m9 139 rfl) rfl
theorem q2201 : (Jvm.Cond.instanceMethod ({ cls := "ObligingPostsModel", name := "setting", desc := "(I)I" } : Jvm.MethodName)) ∈ lw_all := lw_g (lw_at lw_m9 141 rfl) rfl
theorem q2202 : (Jvm.Cond.selects "ObligingPostsModel" ({ cls := "ObligingPostsModel", name := "setting", desc := "(I)I" } : Jvm.MethodName) ({ cls := "ObligingPostsModel", name := "setting", desc := "(I)I" } : Jvm.MethodName)) ∈ lw_all := lw_g (lw_at lw_m9 142 rfl) rfl
theorem q2203 : (Jvm.Cond.code ({ cls := "ObligingPostsModel", name := "setting", desc := "(I)I" } : Jvm.MethodName) prog_13_method_100_code (2 : Nat) (Option.some Jvm.ClassFile.FieldType.int)) ∈ lw_all := lw_g (lw_at lw_m9 143 rfl) rfl
theorem q2204 : (Jvm.Cond.methodLink "ObligingPostsModel" (358 : Nat) ({ cls := "ObligingPostsModel", name := "settingAt", desc := "(I)I" } : Jvm.MethodName)) ∈ lw_all := lw_g (lw_at lw_m9 144 rfl) rfl
theorem q2205 : (Jvm.Cond.privateMethod ({ cls := "ObligingPostsModel", name := "settingAt", desc := "(I)I" } : Jvm.MethodName)) ∈ lw_tbl := lw_at lw_m9 145 rfl
theorem q2206 : (Jvm.Cond.instanceMethod ({ cls := "ObligingPostsModel", name := "settingAt", desc := "(I)I" } : Jvm.MethodName)) ∈ lw_all := lw_g (lw_at lw_m9 146 rfl) rfl
theorem q2207 : (Jvm.Cond.code ({ cls := "ObligingPostsModel", name := "settingAt", desc := "(I)I" } : Jvm.MethodName) prog_13_method_99_code (2 : Nat) (Option.some Jvm.ClassFile.FieldType.int)) ∈ lw_all := lw_g (lw_at lw_m9 147 rfl) rfl
theorem q2208 : (Jvm.Cond.methodLink "ObligingPostsModel" (352 : Nat) ({ cls := "ObligingPostsModel", name := "someAt", desc := "(I)V" } : Jvm.MethodName)) ∈ lw_all := lw_g (lw_at lw_m9 148 rfl) rfl
theorem q2209 : (Jvm.Cond.privateMethod ({ cls := "ObligingPostsModel", name := "someAt", desc := "(I)V" } : Jvm.MethodName)) ∈ lw_tbl := lw_at lw_m9 149 rfl
theorem q2210 : (Jvm.Cond.instanceMethod ({ cls := "ObligingPostsModel", name := "someAt", desc := "(I)V" } : Jvm.MethodName)) ∈ lw_all := lw_g (lw_at lw_m9 150 rfl) rfl
theorem q2211 : (Jvm.Cond.code ({ cls := "ObligingPostsModel", name := "someAt", desc := "(I)V" } : Jvm.MethodName) prog_13_method_98_code (3 : Nat) (Option.none : Option Jvm.ClassFile.FieldType)) ∈ lw_all := lw_g (lw_at lw_m9 151 rfl) rfl
theorem q2212 : (Jvm.Cond.methodLink "ObligingPostsModel" (355 : Nat) ({ cls := "ObligingPostsModel", name := "numberOf", desc := "()I" } : Jvm.MethodName)) ∈ lw_all := lw_g (lw_at lw_m9 152 rfl) rfl
theorem q2213 : (Jvm.Cond.privateMethod ({ cls := "ObligingPostsModel", name := "numberOf", desc := "()I" } : Jvm.MethodName)) ∈ lw_tbl := lw_at lw_m9 153 rfl
theorem q2214 : (Jvm.Cond.instanceMethod ({ cls := "ObligingPostsModel", name := "numberOf", desc := "()I" } : Jvm.MethodName)) ∈ lw_all := lw_g (lw_at lw_m9 154 rfl) rfl
theorem q2215 : (Jvm.Cond.code ({ cls := "ObligingPostsModel", name := "numberOf", desc := "()I" } : Jvm.MethodName) prog_13_method_96_code (4 : Nat) (Option.some Jvm.ClassFile.FieldType.int)) ∈ lw_all := lw_g (lw_at lw_m9 155 rfl) rfl
theorem q2217 : (Jvm.Cond.instanceMethod ({ cls := "ObligingPostsModel", name := "settings", desc := "()I" } : Jvm.MethodName)) ∈ lw_all := lw_g (lw_at lw_m9 157 rfl) rfl
theorem q2218 : (Jvm.Cond.selects "ObligingPostsModel" ({ cls := "ObligingPostsModel", name := "settings", desc := "()I" } : Jvm.MethodName) ({ cls := "ObligingPostsModel", name := "settings", desc := "()I" } : Jvm.MethodName)) ∈ lw_all := lw_g (lw_at lw_m9 158 rfl) rfl
theorem q2219 : (Jvm.Cond.code ({ cls := "ObligingPostsModel", name := "settings", desc := "()I" } : Jvm.MethodName) prog_13_method_101_code (1 : Nat) (Option.some Jvm.ClassFile.FieldType.int)) ∈ lw_all := lw_g (lw_at lw_m9 159 rfl) rfl
theorem q2220 : (Jvm.Cond.methodLink "ObligingPostsModel" (361 : Nat) ({ cls := "ObligingPostsModel", name := "settingMany", desc := "()I" } : Jvm.MethodName)) ∈ lw_all := lw_g (lw_at lw_m9 160 rfl) rfl
theorem q2221 : (Jvm.Cond.privateMethod ({ cls := "ObligingPostsModel", name := "settingMany", desc := "()I" } : Jvm.MethodName)) ∈ lw_tbl := lw_at lw_m9 161 rfl
theorem q2222 : (Jvm.Cond.instanceMethod ({ cls := "ObligingPostsModel", name := "settingMany", desc := "()I" } : Jvm.MethodName)) ∈ lw_all := lw_g (lw_at lw_m9 162 rfl) rfl
theorem q2223 : (Jvm.Cond.code ({ cls := "ObligingPostsModel", name := "settingMany", desc := "()I" } : Jvm.MethodName) prog_13_method_97_code (3 : Nat) (Option.some Jvm.ClassFile.FieldType.int)) ∈ lw_all := lw_g (lw_at lw_m9 163 rfl) rfl
theorem q2225 : (Jvm.Cond.instanceMethod ({ cls := "ObligingPostsModel", name := "same", desc := "()I" } : Jvm.MethodName)) ∈ lw_all := lw_g (lw_at lw_m9 165 rfl) rfl
theorem q2226 : (Jvm.Cond.selects "ObligingPostsModel" ({ cls := "ObligingPostsModel", name := "same", desc := "()I" } : Jvm.MethodName) ({ cls := "ObligingPostsModel", name := "same", desc := "()I" } : Jvm.MethodName)) ∈ lw_all := lw_g (lw_at lw_m9 166 rfl) rfl
theorem q2227 : (Jvm.Cond.code ({ cls := "ObligingPostsModel", name := "same", desc := "()I" } : Jvm.MethodName) prog_13_method_102_code (2 : Nat) (Option.some Jvm.ClassFile.FieldType.int)) ∈ lw_all := lw_g (lw_at lw_m9 167 rfl) rfl
theorem q2229 : (Jvm.Cond.instanceMethod ({ cls := "ObligingPostsModel", name := "tree", desc := "(I)I" } : Jvm.MethodName)) ∈ lw_all := lw_g (lw_at lw_m9 169 rfl) rfl
theorem q2230 : (Jvm.Cond.selects "ObligingPostsModel" ({ cls := "ObligingPostsModel", name := "tree", desc := "(I)I" } : Jvm.MethodName) ({ cls := "ObligingPostsModel", name := "tree", desc := "(I)I" } : Jvm.MethodName)) ∈ lw_all := lw_g (lw_at lw_m9 170 rfl) rfl
theorem q2231 : (Jvm.Cond.code ({ cls := "ObligingPostsModel", name := "tree", desc := "(I)I" } : Jvm.MethodName) prog_13_method_106_code (2 : Nat) (Option.some Jvm.ClassFile.FieldType.int)) ∈ lw_all := lw_g (lw_at lw_m9 171 rfl) rfl
theorem q2232 : (Jvm.Cond.methodLink "ObligingPostsModel" (370 : Nat) ({ cls := "ObligingPostsModel", name := "isTree", desc := "()Z" } : Jvm.MethodName)) ∈ lw_all := lw_g (lw_at lw_m9 172 rfl) rfl
theorem q2233 : (Jvm.Cond.privateMethod ({ cls := "ObligingPostsModel", name := "isTree", desc := "()Z" } : Jvm.MethodName)) ∈ lw_tbl := lw_at lw_m9 173 rfl
theorem q2234 : (Jvm.Cond.instanceMethod ({ cls := "ObligingPostsModel", name := "isTree", desc := "()Z" } : Jvm.MethodName)) ∈ lw_all := lw_g (lw_at lw_m9 174 rfl) rfl
theorem q2235 : (Jvm.Cond.code ({ cls := "ObligingPostsModel", name := "isTree", desc := "()Z" } : Jvm.MethodName) prog_13_method_105_code (3 : Nat) (Option.some Jvm.ClassFile.FieldType.boolean)) ∈ lw_all := lw_g (lw_at lw_m9 175 rfl) rfl
theorem q2236 : (Jvm.Cond.methodLink "ObligingPostsModel" (367 : Nat) ({ cls := "ObligingPostsModel", name := "isHomeBy", desc := "(I)Z" } : Jvm.MethodName)) ∈ lw_all := lw_g (lw_at lw_m9 176 rfl) rfl
theorem q2237 : (Jvm.Cond.privateMethod ({ cls := "ObligingPostsModel", name := "isHomeBy", desc := "(I)Z" } : Jvm.MethodName)) ∈ lw_tbl := lw_at lw_m9 177 rfl
theorem q2238 : (Jvm.Cond.instanceMethod ({ cls := "ObligingPostsModel", name := "isHomeBy", desc := "(I)Z" } : Jvm.MethodName)) ∈ lw_all := lw_g (lw_at lw_m9 178 rfl) rfl
theorem q2239 : (Jvm.Cond.code ({ cls := "ObligingPostsModel", name := "isHomeBy", desc := "(I)Z" } : Jvm.MethodName) prog_13_method_104_code (4 : Nat) (Option.some Jvm.ClassFile.FieldType.boolean)) ∈ lw_all := lw_g (lw_at lw_m9 179 rfl) rfl
theorem q2240 : (Jvm.Cond.methodLink "ObligingPostsModel" (364 : Nat) ({ cls := "ObligingPostsModel", name := "armGoes", desc := "(I)I" } : Jvm.MethodName)) ∈ lw_all := lw_g (lw_at lw_m9 180 rfl) rfl
theorem q2241 : (Jvm.Cond.privateMethod ({ cls := "ObligingPostsModel", name := "armGoes", desc := "(I)I" } : Jvm.MethodName)) ∈ lw_tbl := lw_at lw_m9 181 rfl
theorem q2242 : (Jvm.Cond.instanceMethod ({ cls := "ObligingPostsModel", name := "armGoes", desc := "(I)I" } : Jvm.MethodName)) ∈ lw_all := lw_g (lw_at lw_m9 182 rfl) rfl
theorem q2243 : (Jvm.Cond.code ({ cls := "ObligingPostsModel", name := "armGoes", desc := "(I)I" } : Jvm.MethodName) prog_13_method_103_code (2 : Nat) (Option.some Jvm.ClassFile.FieldType.int)) ∈ lw_all := lw_g (lw_at lw_m9 183 rfl) rfl
theorem q2245 : (Jvm.Cond.instanceMethod ({ cls := "ObligingPostsModel", name := "ring", desc := "(I)I" } : Jvm.MethodName)) ∈ lw_all := lw_g (lw_at lw_m9 185 rfl) rfl
theorem q2246 : (Jvm.Cond.selects "ObligingPostsModel" ({ cls := "ObligingPostsModel", name := "ring", desc := "(I)I" } : Jvm.MethodName) ({ cls := "ObligingPostsModel", name := "ring", desc := "(I)I" } : Jvm.MethodName)) ∈ lw_all := lw_g (lw_at lw_m9 186 rfl) rfl
theorem q2247 : (Jvm.Cond.code ({ cls := "ObligingPostsModel", name := "ring", desc := "(I)I" } : Jvm.MethodName) prog_13_method_107_code (6 : Nat) (Option.some Jvm.ClassFile.FieldType.int)) ∈ lw_all := lw_g (lw_at lw_m9 187 rfl) rfl
theorem q2249 : (Jvm.Cond.instanceMethod ({ cls := "ObligingPostsModel", name := "trees", desc := "()I" } : Jvm.MethodName)) ∈ lw_all := lw_g (lw_at lw_m9 189 rfl) rfl
theorem q2250 : (Jvm.Cond.selects "ObligingPostsModel" ({ cls := "ObligingPostsModel", name := "trees", desc := "()I" } : Jvm.MethodName) ({ cls := "ObligingPostsModel", name := "trees", desc := "()I" } : Jvm.MethodName)) ∈ lw_all := lw_g (lw_at lw_m9 190 rfl) rfl
theorem q2251 : (Jvm.Cond.code ({ cls := "ObligingPostsModel", name := "trees", desc := "()I" } : Jvm.MethodName) prog_13_method_108_code (7 : Nat) (Option.some Jvm.ClassFile.FieldType.int)) ∈ lw_all := lw_g (lw_at lw_m9 191 rfl) rfl
theorem q2253 : (Jvm.Cond.instanceMethod ({ cls := "ObligingPostsModel", name := "alone", desc := "(I)I" } : Jvm.MethodName)) ∈ lw_all := lw_g (lw_at lw_m9 193 rfl) rfl
theorem q2254 : (Jvm.Cond.selects "ObligingPostsModel" ({ cls := "ObligingPostsModel", name := "alone", desc := "(I)I" } : Jvm.MethodName) ({ cls := "ObligingPostsModel", name := "alone", desc := "(I)I" } : Jvm.MethodName)) ∈ lw_all := lw_g (lw_at lw_m9 194 rfl) rfl
theorem q2255 : (Jvm.Cond.code ({ cls := "ObligingPostsModel", name := "alone", desc := "(I)I" } : Jvm.MethodName) prog_13_method_112_code (2 : Nat) (Option.some Jvm.ClassFile.FieldType.int)) ∈ lw_all := lw_g (lw_at lw_m9 195 rfl) rfl
theorem q2256 : (Jvm.Cond.methodLink "ObligingPostsModel" (376 : Nat) ({ cls := "ObligingPostsModel", name := "soloBegin", desc := "()V" } : Jvm.MethodName)) ∈ lw_all := lw_g (lw_at lw_m9 196 rfl) rfl
theorem q2257 : (Jvm.Cond.privateMethod ({ cls := "ObligingPostsModel", name := "soloBegin", desc := "()V" } : Jvm.MethodName)) ∈ lw_tbl := lw_at lw_m9 197 rfl
theorem q2258 : (Jvm.Cond.instanceMethod ({ cls := "ObligingPostsModel", name := "soloBegin", desc := "()V" } : Jvm.MethodName)) ∈ lw_all := lw_g (lw_at lw_m9 198 rfl) rfl
theorem q2259 : (Jvm.Cond.code ({ cls := "ObligingPostsModel", name := "soloBegin", desc := "()V" } : Jvm.MethodName) prog_13_method_109_code (2 : Nat) (Option.none : Option Jvm.ClassFile.FieldType)) ∈ lw_all := lw_g (lw_at lw_m9 199 rfl) rfl
theorem q2260 : (Jvm.Cond.methodLink "ObligingPostsModel" (379 : Nat) ({ cls := "ObligingPostsModel", name := "solo", desc := "(I)I" } : Jvm.MethodName)) ∈ lw_all := lw_g (lw_at lw_m9 200 rfl) rfl
theorem q2261 : (Jvm.Cond.privateMethod ({ cls := "ObligingPostsModel", name := "solo", desc := "(I)I" } : Jvm.MethodName)) ∈ lw_tbl := lw_at lw_m9 201 rfl
theorem q2262 : (Jvm.Cond.instanceMethod ({ cls := "ObligingPostsModel", name := "solo", desc := "(I)I" } : Jvm.MethodName)) ∈ lw_all := lw_g (lw_at lw_m9 202 rfl) rfl
theorem q2263 : (Jvm.Cond.code ({ cls := "ObligingPostsModel", name := "solo", desc := "(I)I" } : Jvm.MethodName) prog_13_method_110_code (4 : Nat) (Option.some Jvm.ClassFile.FieldType.int)) ∈ lw_all := lw_g (lw_at lw_m9 203 rfl) rfl
theorem q2265 : (Jvm.Cond.instanceMethod ({ cls := "ObligingPostsModel", name := "steps", desc := "(I)I" } : Jvm.MethodName)) ∈ lw_all := lw_g (lw_at lw_m9 205 rfl) rfl
theorem q2266 : (Jvm.Cond.selects "ObligingPostsModel" ({ cls := "ObligingPostsModel", name := "steps", desc := "(I)I" } : Jvm.MethodName) ({ cls := "ObligingPostsModel", name := "steps", desc := "(I)I" } : Jvm.MethodName)) ∈ lw_all := lw_g (lw_at lw_m9 206 rfl) rfl
theorem q2267 : (Jvm.Cond.code ({ cls := "ObligingPostsModel", name := "steps", desc := "(I)I" } : Jvm.MethodName) prog_13_method_113_code (2 : Nat) (Option.some Jvm.ClassFile.FieldType.int)) ∈ lw_all := lw_g (lw_at lw_m9 207 rfl) rfl
theorem q2269 : (Jvm.Cond.instanceMethod ({ cls := "ObligingPostsModel", name := "behind", desc := "(I)I" } : Jvm.MethodName)) ∈ lw_all := lw_g (lw_at lw_m9 209 rfl) rfl
theorem q2270 : (Jvm.Cond.selects "ObligingPostsModel" ({ cls := "ObligingPostsModel", name := "behind", desc := "(I)I" } : Jvm.MethodName) ({ cls := "ObligingPostsModel", name := "behind", desc := "(I)I" } : Jvm.MethodName)) ∈ lw_all := lw_g (lw_at lw_m9 210 rfl) rfl
theorem q2271 : (Jvm.Cond.code ({ cls := "ObligingPostsModel", name := "behind", desc := "(I)I" } : Jvm.MethodName) prog_13_method_114_code (2 : Nat) (Option.some Jvm.ClassFile.FieldType.int)) ∈ lw_all := lw_g (lw_at lw_m9 211 rfl) rfl
theorem q2272 : (Jvm.Cond.methodLink "ObligingPostsModel" (382 : Nat) ({ cls := "ObligingPostsModel", name := "soloSetting", desc := "()I" } : Jvm.MethodName)) ∈ lw_all := lw_g (lw_at lw_m9 212 rfl) rfl
theorem q2273 : (Jvm.Cond.privateMethod ({ cls := "ObligingPostsModel", name := "soloSetting", desc := "()I" } : Jvm.MethodName)) ∈ lw_tbl := lw_at lw_m9 213 rfl
theorem q2274 : (Jvm.Cond.instanceMethod ({ cls := "ObligingPostsModel", name := "soloSetting", desc := "()I" } : Jvm.MethodName)) ∈ lw_all := lw_g (lw_at lw_m9 214 rfl) rfl
theorem q2275 : (Jvm.Cond.code ({ cls := "ObligingPostsModel", name := "soloSetting", desc := "()I" } : Jvm.MethodName) prog_13_method_111_code (2 : Nat) (Option.some Jvm.ClassFile.FieldType.int)) ∈ lw_all := lw_g (lw_at lw_m9 215 rfl) rfl
theorem q2277 : (Jvm.Cond.instanceMethod ({ cls := "ObligingPostsModel", name := "nth", desc := "(II)I" } : Jvm.MethodName)) ∈ lw_all := lw_g (lw_at lw_m9 217 rfl) rfl
theorem q2278 : (Jvm.Cond.selects "ObligingPostsModel" ({ cls := "ObligingPostsModel", name := "nth", desc := "(II)I" } : Jvm.MethodName) ({ cls := "ObligingPostsModel", name := "nth", desc := "(II)I" } : Jvm.MethodName)) ∈ lw_all := lw_g (lw_at lw_m9 218 rfl) rfl
theorem q2279 : (Jvm.Cond.code ({ cls := "ObligingPostsModel", name := "nth", desc := "(II)I" } : Jvm.MethodName) prog_13_method_115_code (5 : Nat) (Option.some Jvm.ClassFile.FieldType.int)) ∈ lw_all := lw_g (lw_at lw_m9 219 rfl) rfl
theorem q2280 : (Jvm.Cond.constantLong "ObligingPostsModel" (385 : Nat) (20 : Int64)) ∈ lw_all := lw_g (lw_at lw_m9 220 rfl) rfl
theorem q2282 : (Jvm.Cond.instanceMethod ({ cls := "ObligingPostsModel", name := "round", desc := "(I)I" } : Jvm.MethodName)) ∈ lw_all := lw_g (lw_at lw_m9 222 rfl) rfl
theorem q2283 : (Jvm.Cond.selects "ObligingPostsModel" ({ cls := "ObligingPostsModel", name := "round", desc := "(I)I" } : Jvm.MethodName) ({ cls := "ObligingPostsModel", name := "round", desc := "(I)I" } : Jvm.MethodName)) ∈ lw_all := lw_g (lw_at lw_m9 223 rfl) rfl
theorem q2284 : (Jvm.Cond.code ({ cls := "ObligingPostsModel", name := "round", desc := "(I)I" } : Jvm.MethodName) prog_13_method_116_code (4 : Nat) (Option.some Jvm.ClassFile.FieldType.int)) ∈ lw_all := lw_g (lw_at lw_m9 224 rfl) rfl
theorem q2286 : (Jvm.Cond.instanceMethod ({ cls := "ObligingPostsModel", name := "houses", desc := "(III)I" } : Jvm.MethodName)) ∈ lw_all := lw_g (lw_at lw_m9 226 rfl) rfl
theorem q2287 : (Jvm.Cond.selects "ObligingPostsModel" ({ cls := "ObligingPostsModel", name := "houses", desc := "(III)I" } : Jvm.MethodName) ({ cls := "ObligingPostsModel", name := "houses", desc := "(III)I" } : Jvm.MethodName)) ∈ lw_all := lw_g (lw_at lw_m9 227 rfl) rfl
theorem q2288 : (Jvm.Cond.code ({ cls := "ObligingPostsModel", name := "houses", desc := "(III)I" } : Jvm.MethodName) prog_13_method_117_code (7 : Nat) (Option.some Jvm.ClassFile.FieldType.int)) ∈ lw_all := lw_g (lw_at lw_m9 228 rfl) rfl
theorem q2290 : (Jvm.Cond.instanceMethod ({ cls := "ObligingPostsModel", name := "point", desc := "(II)I" } : Jvm.MethodName)) ∈ lw_all := lw_g (lw_at lw_m9 230 rfl) rfl
theorem q2291 : (Jvm.Cond.selects "ObligingPostsModel" ({ cls := "ObligingPostsModel", name := "point", desc := "(II)I" } : Jvm.MethodName) ({ cls := "ObligingPostsModel", name := "point", desc := "(II)I" } : Jvm.MethodName)) ∈ lw_all := lw_g (lw_at lw_m9 231 rfl) rfl
theorem q2292 : (Jvm.Cond.code ({ cls := "ObligingPostsModel", name := "point", desc := "(II)I" } : Jvm.MethodName) prog_13_method_119_code (7 : Nat) (Option.some Jvm.ClassFile.FieldType.int)) ∈ lw_all := lw_g (lw_at lw_m9 232 rfl) rfl
theorem q2293 : (Jvm.Cond.methodLink "ObligingPostsModel" (388 : Nat) ({ cls := "ObligingPostsModel", name := "cameTo", desc := "(II)I" } : Jvm.MethodName)) ∈ lw_all := lw_g (lw_at lw_m9 233 rfl) rfl
theorem q2294 : (Jvm.Cond.privateMethod ({ cls := "ObligingPostsModel", name := "cameTo", desc := "(II)I" } : Jvm.MethodName)) ∈ lw_tbl := lw_at lw_m9 234 rfl
theorem q2295 : (Jvm.Cond.instanceMethod ({ cls := "ObligingPostsModel", name := "cameTo", desc := "(II)I" } : Jvm.MethodName)) ∈ lw_all := lw_g (lw_at lw_m9 235 rfl) rfl
theorem q2296 : (Jvm.Cond.code ({ cls := "ObligingPostsModel", name := "cameTo", desc := "(II)I" } : Jvm.MethodName) prog_13_method_118_code (4 : Nat) (Option.some Jvm.ClassFile.FieldType.int)) ∈ lw_all := lw_g (lw_at lw_m9 236 rfl) rfl
theorem q2297 : (Jvm.Cond.constant "ObligingPostsModel" (387 : Nat) (1000000000 : Int32)) ∈ lw_all := lw_g (lw_at lw_m9 237 rfl) rfl
theorem q2299 : (Jvm.Cond.instanceMethod ({ cls := "ObligingPostsModel", name := "best", desc := "()I" } : Jvm.MethodName)) ∈ lw_all := lw_g (lw_at lw_m9 239 rfl) rfl
theorem q2300 : (Jvm.Cond.selects "ObligingPostsModel" ({ cls := "ObligingPostsModel", name := "best", desc := "()I" } : Jvm.MethodName) ({ cls := "ObligingPostsModel", name := "best", desc := "()I" } : Jvm.MethodName)) ∈ lw_all := lw_g (lw_at lw_m10 0 rfl) rfl
theorem q2301 : (Jvm.Cond.code ({ cls := "ObligingPostsModel", name := "best", desc := "()I" } : Jvm.MethodName) prog_13_method_120_code (5 : Nat) (Option.some Jvm.ClassFile.FieldType.int)) ∈ lw_all := lw_g (lw_at lw_m10 1 rfl) rfl
theorem q2302 : (Jvm.Cond.methodLink "ObligingPostsModel" (391 : Nat) ({ cls := "ObligingPostsModel", name := "insideLast", desc := "()I" } : Jvm.MethodName)) ∈ lw_all := lw_g (lw_at lw_m10 2 rfl) rfl
theorem q2303 : (Jvm.Cond.privateMethod ({ cls := "ObligingPostsModel", name := "insideLast", desc := "()I" } : Jvm.MethodName)) ∈ lw_tbl := lw_at lw_m10 3 rfl
theorem q2304 : (Jvm.Cond.instanceMethod ({ cls := "ObligingPostsModel", name := "insideLast", desc := "()I" } : Jvm.MethodName)) ∈ lw_all := lw_g (lw_at lw_m10 4 rfl) rfl
theorem q2305 : (Jvm.Cond.code ({ cls := "ObligingPostsModel", name := "insideLast", desc := "()I" } : Jvm.MethodName) prog_13_method_84_code (1 : Nat) (Option.some Jvm.ClassFile.FieldType.int)) ∈ lw_all := lw_g (lw_at lw_m10 5 rfl) rfl
theorem q2307 : (Jvm.Cond.instanceMethod ({ cls := "ObligingPostsModel", name := "crowds", desc := "()I" } : Jvm.MethodName)) ∈ lw_all := lw_g (lw_at lw_m10 7 rfl) rfl
theorem q2308 : (Jvm.Cond.selects "ObligingPostsModel" ({ cls := "ObligingPostsModel", name := "crowds", desc := "()I" } : Jvm.MethodName) ({ cls := "ObligingPostsModel", name := "crowds", desc := "()I" } : Jvm.MethodName)) ∈ lw_all := lw_g (lw_at lw_m10 8 rfl) rfl
theorem q2309 : (Jvm.Cond.code ({ cls := "ObligingPostsModel", name := "crowds", desc := "()I" } : Jvm.MethodName) prog_13_method_121_code (6 : Nat) (Option.some Jvm.ClassFile.FieldType.int)) ∈ lw_all := lw_g (lw_at lw_m10 9 rfl) rfl
theorem q2311 : (Jvm.Cond.instanceMethod ({ cls := "ObligingPostsModel", name := "may", desc := "(II)I" } : Jvm.MethodName)) ∈ lw_all := lw_g (lw_at lw_m10 11 rfl) rfl
theorem q2312 : (Jvm.Cond.selects "ObligingPostsModel" ({ cls := "ObligingPostsModel", name := "may", desc := "(II)I" } : Jvm.MethodName) ({ cls := "ObligingPostsModel", name := "may", desc := "(II)I" } : Jvm.MethodName)) ∈ lw_all := lw_g (lw_at lw_m10 12 rfl) rfl
theorem q2313 : (Jvm.Cond.code ({ cls := "ObligingPostsModel", name := "may", desc := "(II)I" } : Jvm.MethodName) prog_13_method_128_code (4 : Nat) (Option.some Jvm.ClassFile.FieldType.int)) ∈ lw_all := lw_g (lw_at lw_m10 13 rfl) rfl
theorem q2314 : (Jvm.Cond.methodLink "ObligingPostsModel" (413 : Nat) ({ cls := "ObligingPostsModel", name := "askMay", desc := "(II)I" } : Jvm.MethodName)) ∈ lw_all := lw_g (lw_at lw_m10 14 rfl) rfl
theorem q2315 : (Jvm.Cond.privateMethod ({ cls := "ObligingPostsModel", name := "askMay", desc := "(II)I" } : Jvm.MethodName)) ∈ lw_tbl := lw_at lw_m10 15 rfl
theorem q2316 : (Jvm.Cond.instanceMethod ({ cls := "ObligingPostsModel", name := "askMay", desc := "(II)I" } : Jvm.MethodName)) ∈ lw_all := lw_g (lw_at lw_m10 16 rfl) rfl
theorem q2317 : (Jvm.Cond.code ({ cls := "ObligingPostsModel", name := "askMay", desc := "(II)I" } : Jvm.MethodName) prog_13_method_127_code (3 : Nat) (Option.some Jvm.ClassFile.FieldType.int)) ∈ lw_all := lw_g (lw_at lw_m10 17 rfl) rfl
theorem q2318 : (Jvm.Cond.methodLink "ObligingPostsModel" (410 : Nat) ({ cls := "ObligingPostsModel", name := "askSeen", desc := "(I)I" } : Jvm.MethodName)) ∈ lw_all := lw_g (lw_at lw_m10 18 rfl) rfl
theorem q2319 : (Jvm.Cond.privateMethod ({ cls := "ObligingPostsModel", name := "askSeen", desc := "(I)I" } : Jvm.MethodName)) ∈ lw_tbl := lw_at lw_m10 19 rfl
theorem q2320 : (Jvm.Cond.instanceMethod ({ cls := "ObligingPostsModel", name := "askSeen", desc := "(I)I" } : Jvm.MethodName)) ∈ lw_all := lw_g (lw_at lw_m10 20 rfl) rfl
theorem q2321 : (Jvm.Cond.code ({ cls := "ObligingPostsModel", name := "askSeen", desc := "(I)I" } : Jvm.MethodName) prog_13_method_123_code (3 : Nat) (Option.some Jvm.ClassFile.FieldType.int)) ∈ lw_all := lw_g (lw_at lw_m10 21 rfl) rfl
theorem q2322 : (Jvm.Cond.methodLink "ObligingPostsModel" (394 : Nat) ({ cls := "ObligingPostsModel", name := "isSlot", desc := "(I)Z" } : Jvm.MethodName)) ∈ lw_all := lw_g (lw_at lw_m10 22 rfl) rfl
theorem q2323 : (Jvm.Cond.static ({ cls := "ObligingPostsModel", name := "isSlot", desc := "(I)Z" } : Jvm.MethodName)) ∈ lw_all := lw_g (lw_at lw_m10 23 rfl) rfl
theorem q2324 : (Jvm.Cond.code ({ cls := "ObligingPostsModel", name := "isSlot", desc := "(I)Z" } : Jvm.MethodName) prog_13_method_161_code (1 : Nat) (Option.some Jvm.ClassFile.FieldType.boolean)) ∈ lw_all := lw_g (lw_at lw_m10 24 rfl) rfl
theorem q2325 : (Jvm.Cond.constantLong "ObligingPostsModel" (428 : Nat) (3 : Int64)) ∈ lw_all := lw_g (lw_at lw_m10 25 rfl) rfl
theorem q2326 : (Jvm.Cond.methodLink "ObligingPostsModel" (397 : Nat) ({ cls := "ObligingPostsModel", name := "numberAt", desc := "(II)J" } : Jvm.MethodName)) ∈ lw_all := lw_g (lw_at lw_m10 26 rfl) rfl
theorem q2327 : (Jvm.Cond.privateMethod ({ cls := "ObligingPostsModel", name := "numberAt", desc := "(II)J" } : Jvm.MethodName)) ∈ lw_tbl := lw_at lw_m10 27 rfl
theorem q2328 : (Jvm.Cond.instanceMethod ({ cls := "ObligingPostsModel", name := "numberAt", desc := "(II)J" } : Jvm.MethodName)) ∈ lw_all := lw_g (lw_at lw_m10 28 rfl) rfl
theorem q2329 : (Jvm.Cond.code ({ cls := "ObligingPostsModel", name := "numberAt", desc := "(II)J" } : Jvm.MethodName) prog_13_method_122_code (3 : Nat) (Option.some Jvm.ClassFile.FieldType.long)) ∈ lw_all := lw_g (lw_at lw_m10 29 rfl) rfl
theorem q2330 : (Jvm.Cond.constantLong "ObligingPostsModel" (401 : Nat) (-1 : Int64)) ∈ lw_all := lw_g (lw_at lw_m10 30 rfl) rfl
theorem q2331 : (Jvm.Cond.methodLink "ObligingPostsModel" (416 : Nat) ({ cls := "ObligingPostsModel", name := "mayOf", desc := "(II)I" } : Jvm.MethodName)) ∈ lw_all := lw_g (lw_at lw_m10 31 rfl) rfl
theorem q2332 : (Jvm.Cond.privateMethod ({ cls := "ObligingPostsModel", name := "mayOf", desc := "(II)I" } : Jvm.MethodName)) ∈ lw_tbl := lw_at lw_m10 32 rfl
theorem q2333 : (Jvm.Cond.instanceMethod ({ cls := "ObligingPostsModel", name := "mayOf", desc := "(II)I" } : Jvm.MethodName)) ∈ lw_all := lw_g (lw_at lw_m10 33 rfl) rfl
theorem q2334 : (Jvm.Cond.code ({ cls := "ObligingPostsModel", name := "mayOf", desc := "(II)I" } : Jvm.MethodName) prog_13_method_126_code (7 : Nat) (Option.some Jvm.ClassFile.FieldType.int)) ∈ lw_all := lw_g (lw_at lw_m10 34 rfl) rfl
theorem q2335 : (Jvm.Cond.methodLink "ObligingPostsModel" (403 : Nat) ({ cls := "ObligingPostsModel", name := "isSeen", desc := "(I)Z" } : Jvm.MethodName)) ∈ lw_all := lw_g (lw_at lw_m10 35 rfl) rfl
theorem q2336 : (Jvm.Cond.privateMethod ({ cls := "ObligingPostsModel", name := "isSeen", desc := "(I)Z" } : Jvm.MethodName)) ∈ lw_tbl := lw_at lw_m10 36 rfl
theorem q2337 : (Jvm.Cond.instanceMethod ({ cls := "ObligingPostsModel", name := "isSeen", desc := "(I)Z" } : Jvm.MethodName)) ∈ lw_all := lw_g (lw_at lw_m10 37 rfl) rfl
theorem q2338 : (Jvm.Cond.code ({ cls := "ObligingPostsModel", name := "isSeen", desc := "(I)Z" } : Jvm.MethodName) prog_13_method_124_code (3 : Nat) (Option.some Jvm.ClassFile.FieldType.boolean)) ∈ lw_all := lw_g (lw_at lw_m10 38 rfl) rfl
theorem q2339 : (Jvm.Cond.methodLink "ObligingPostsModel" (406 : Nat) ({ cls := "ObligingPostsModel", name := "cellOf", desc := "(III)I" } : Jvm.MethodName)) ∈ lw_all := lw_g (lw_at lw_m10 39 rfl) rfl
theorem q2340 : (Jvm.Cond.static ({ cls := "ObligingPostsModel", name := "cellOf", desc := "(III)I" } : Jvm.MethodName)) ∈ lw_all := lw_g (lw_at lw_m10 40 rfl) rfl
theorem q2341 : (Jvm.Cond.code ({ cls := "ObligingPostsModel", name := "cellOf", desc := "(III)I" } : Jvm.MethodName) prog_13_method_125_code (3 : Nat) (Option.some Jvm.ClassFile.FieldType.int)) ∈ lw_all := lw_g (lw_at lw_m10 41 rfl) rfl
theorem q2343 : (Jvm.Cond.instanceMethod ({ cls := "ObligingPostsModel", name := "ask", desc := "(II)I" } : Jvm.MethodName)) ∈ lw_all := lw_g (lw_at lw_m10 43 rfl) rfl
theorem q2344 : (Jvm.Cond.selects "ObligingPostsModel" ({ cls := "ObligingPostsModel", name := "ask", desc := "(II)I" } : Jvm.MethodName) ({ cls := "ObligingPostsModel", name := "ask", desc := "(II)I" } : Jvm.MethodName)) ∈ lw_all := lw_g (lw_at lw_m10 44 rfl) rfl
theorem q2345 : (Jvm.Cond.code ({ cls := "ObligingPostsModel", name := "ask", desc := "(II)I" } : Jvm.MethodName) prog_13_method_131_code (4 : Nat) (Option.some Jvm.ClassFile.FieldType.int)) ∈ lw_all := lw_g (lw_at lw_m10 45 rfl) rfl
theorem q2346 : (Jvm.Cond.methodLink "ObligingPostsModel" (425 : Nat) ({ cls := "ObligingPostsModel", name := "askOf", desc := "(I)I" } : Jvm.MethodName)) ∈ lw_all := lw_g (lw_at lw_m10 46 rfl) rfl
theorem q2347 : (Jvm.Cond.privateMethod ({ cls := "ObligingPostsModel", name := "askOf", desc := "(I)I" } : Jvm.MethodName)) ∈ lw_tbl := lw_at lw_m10 47 rfl
theorem q2348 : (Jvm.Cond.instanceMethod ({ cls := "ObligingPostsModel", name := "askOf", desc := "(I)I" } : Jvm.MethodName)) ∈ lw_all := lw_g (lw_at lw_m10 48 rfl) rfl
theorem q2349 : (Jvm.Cond.code ({ cls := "ObligingPostsModel", name := "askOf", desc := "(I)I" } : Jvm.MethodName) prog_13_method_130_code (6 : Nat) (Option.some Jvm.ClassFile.FieldType.int)) ∈ lw_all := lw_g (lw_at lw_m10 49 rfl) rfl
theorem q2350 : (Jvm.Cond.methodLink "ObligingPostsModel" (422 : Nat) ({ cls := "ObligingPostsModel", name := "worstOf", desc := "(III)I" } : Jvm.MethodName)) ∈ lw_all := lw_g (lw_at lw_m10 50 rfl) rfl
theorem q2351 : (Jvm.Cond.privateMethod ({ cls := "ObligingPostsModel", name := "worstOf", desc := "(III)I" } : Jvm.MethodName)) ∈ lw_tbl := lw_at lw_m10 51 rfl
theorem q2352 : (Jvm.Cond.instanceMethod ({ cls := "ObligingPostsModel", name := "worstOf", desc := "(III)I" } : Jvm.MethodName)) ∈ lw_all := lw_g (lw_at lw_m10 52 rfl) rfl
theorem q2353 : (Jvm.Cond.code ({ cls := "ObligingPostsModel", name := "worstOf", desc := "(III)I" } : Jvm.MethodName) prog_13_method_129_code (8 : Nat) (Option.some Jvm.ClassFile.FieldType.int)) ∈ lw_all := lw_g (lw_at lw_m10 53 rfl) rfl
theorem q2355 : (Jvm.Cond.instanceMethod ({ cls := "ObligingPostsModel", name := "leaves", desc := "(II)I" } : Jvm.MethodName)) ∈ lw_all := lw_g (lw_at lw_m10 55 rfl) rfl
theorem q2356 : (Jvm.Cond.selects "ObligingPostsModel" ({ cls := "ObligingPostsModel", name := "leaves", desc := "(II)I" } : Jvm.MethodName) ({ cls := "ObligingPostsModel", name := "leaves", desc := "(II)I" } : Jvm.MethodName)) ∈ lw_all := lw_g (lw_at lw_m10 56 rfl) rfl
theorem q2357 : (Jvm.Cond.code ({ cls := "ObligingPostsModel", name := "leaves", desc := "(II)I" } : Jvm.MethodName) prog_13_method_132_code (4 : Nat) (Option.some Jvm.ClassFile.FieldType.int)) ∈ lw_all := lw_g (lw_at lw_m10 57 rfl) rfl
theorem q2359 : (Jvm.Cond.instanceMethod ({ cls := "ObligingPostsModel", name := "laws", desc := "(I)I" } : Jvm.MethodName)) ∈ lw_all := lw_g (lw_at lw_m10 59 rfl) rfl
theorem q2360 : (Jvm.Cond.selects "ObligingPostsModel" ({ cls := "ObligingPostsModel", name := "laws", desc := "(I)I" } : Jvm.MethodName) ({ cls := "ObligingPostsModel", name := "laws", desc := "(I)I" } : Jvm.MethodName)) ∈ lw_all := lw_g (lw_at lw_m10 60 rfl) rfl
theorem q2361 : (Jvm.Cond.code ({ cls := "ObligingPostsModel", name := "laws", desc := "(I)I" } : Jvm.MethodName) prog_13_method_133_code (4 : Nat) (Option.some Jvm.ClassFile.FieldType.int)) ∈ lw_all := lw_g (lw_at lw_m10 61 rfl) rfl
theorem q2363 : (Jvm.Cond.instanceMethod ({ cls := "ObligingPostsModel", name := "by", desc := "(I)I" } : Jvm.MethodName)) ∈ lw_all := lw_g (lw_at lw_m10 63 rfl) rfl
theorem q2364 : (Jvm.Cond.selects "ObligingPostsModel" ({ cls := "ObligingPostsModel", name := "by", desc := "(I)I" } : Jvm.MethodName) ({ cls := "ObligingPostsModel", name := "by", desc := "(I)I" } : Jvm.MethodName)) ∈ lw_all := lw_g (lw_at lw_m10 64 rfl) rfl
theorem q2365 : (Jvm.Cond.code ({ cls := "ObligingPostsModel", name := "by", desc := "(I)I" } : Jvm.MethodName) prog_13_method_135_code (2 : Nat) (Option.some Jvm.ClassFile.FieldType.int)) ∈ lw_all := lw_g (lw_at lw_m10 65 rfl) rfl
theorem q2366 : (Jvm.Cond.methodLink "ObligingPostsModel" (430 : Nat) ({ cls := "ObligingPostsModel", name := "insideBy", desc := "(I)I" } : Jvm.MethodName)) ∈ lw_all := lw_g (lw_at lw_m10 66 rfl) rfl
theorem q2367 : (Jvm.Cond.privateMethod ({ cls := "ObligingPostsModel", name := "insideBy", desc := "(I)I" } : Jvm.MethodName)) ∈ lw_tbl := lw_at lw_m10 67 rfl
theorem q2368 : (Jvm.Cond.instanceMethod ({ cls := "ObligingPostsModel", name := "insideBy", desc := "(I)I" } : Jvm.MethodName)) ∈ lw_all := lw_g (lw_at lw_m10 68 rfl) rfl
theorem q2369 : (Jvm.Cond.code ({ cls := "ObligingPostsModel", name := "insideBy", desc := "(I)I" } : Jvm.MethodName) prog_13_method_134_code (2 : Nat) (Option.some Jvm.ClassFile.FieldType.int)) ∈ lw_all := lw_g (lw_at lw_m10 69 rfl) rfl
theorem q2371 : (Jvm.Cond.instanceMethod ({ cls := "ObligingPostsModel", name := "law", desc := "()I" } : Jvm.MethodName)) ∈ lw_all := lw_g (lw_at lw_m10 71 rfl) rfl
theorem q2372 : (Jvm.Cond.selects "ObligingPostsModel" ({ cls := "ObligingPostsModel", name := "law", desc := "()I" } : Jvm.MethodName) ({ cls := "ObligingPostsModel", name := "law", desc := "()I" } : Jvm.MethodName)) ∈ lw_all := lw_g (lw_at lw_m10 72 rfl) rfl
theorem q2373 : (Jvm.Cond.code ({ cls := "ObligingPostsModel", name := "law", desc := "()I" } : Jvm.MethodName) prog_13_method_136_code (3 : Nat) (Option.some Jvm.ClassFile.FieldType.int)) ∈ lw_all := lw_g (lw_at lw_m10 73 rfl) rfl
theorem q2375 : (Jvm.Cond.instanceMethod ({ cls := "ObligingPostsModel", name := "worth", desc := "(I)I" } : Jvm.MethodName)) ∈ lw_all := lw_g (lw_at lw_m10 75 rfl) rfl
theorem q2376 : (Jvm.Cond.selects "ObligingPostsModel" ({ cls := "ObligingPostsModel", name := "worth", desc := "(I)I" } : Jvm.MethodName) ({ cls := "ObligingPostsModel", name := "worth", desc := "(I)I" } : Jvm.MethodName)) ∈ lw_all := lw_g (lw_at lw_m10 76 rfl) rfl
theorem q2377 : (Jvm.Cond.code ({ cls := "ObligingPostsModel", name := "worth", desc := "(I)I" } : Jvm.MethodName) prog_13_method_138_code (2 : Nat) (Option.some Jvm.ClassFile.FieldType.int)) ∈ lw_all := lw_g (lw_at lw_m10 77 rfl) rfl
theorem q2378 : (Jvm.Cond.methodLink "ObligingPostsModel" (433 : Nat) ({ cls := "ObligingPostsModel", name := "allPosts", desc := "()I" } : Jvm.MethodName)) ∈ lw_all := lw_g (lw_at lw_m10 78 rfl) rfl
theorem q2379 : (Jvm.Cond.privateMethod ({ cls := "ObligingPostsModel", name := "allPosts", desc := "()I" } : Jvm.MethodName)) ∈ lw_tbl := lw_at lw_m10 79 rfl
theorem q2380 : (Jvm.Cond.instanceMethod ({ cls := "ObligingPostsModel", name := "allPosts", desc := "()I" } : Jvm.MethodName)) ∈ lw_all := lw_g (lw_at lw_m10 80 rfl) rfl
theorem q2381 : (Jvm.Cond.code ({ cls := "ObligingPostsModel", name := "allPosts", desc := "()I" } : Jvm.MethodName) prog_13_method_12_code (1 : Nat) (Option.some Jvm.ClassFile.FieldType.int)) ∈ lw_all := lw_g (lw_at lw_m10 81 rfl) rfl
theorem q2382 : (Jvm.Cond.methodLink "ObligingPostsModel" (436 : Nat) ({ cls := "ObligingPostsModel", name := "worthOf", desc := "(I)I" } : Jvm.MethodName)) ∈ lw_all := lw_g (lw_at lw_m10 82 rfl) rfl
theorem q2383 : (Jvm.Cond.privateMethod ({ cls := "ObligingPostsModel", name := "worthOf", desc := "(I)I" } : Jvm.MethodName)) ∈ lw_tbl := lw_at lw_m10 83 rfl
theorem q2384 : (Jvm.Cond.instanceMethod ({ cls := "ObligingPostsModel", name := "worthOf", desc := "(I)I" } : Jvm.MethodName)) ∈ lw_all := lw_g (lw_at lw_m10 84 rfl) rfl
theorem q2385 : (Jvm.Cond.code ({ cls := "ObligingPostsModel", name := "worthOf", desc := "(I)I" } : Jvm.MethodName) prog_13_method_137_code (2 : Nat) (Option.some Jvm.ClassFile.FieldType.int)) ∈ lw_all := lw_g (lw_at lw_m10 85 rfl) rfl
theorem q2387 : (Jvm.Cond.instanceMethod ({ cls := "ObligingPostsModel", name := "share", desc := "(II)I" } : Jvm.MethodName)) ∈ lw_all := lw_g (lw_at lw_m10 87 rfl) rfl
theorem q2388 : (Jvm.Cond.selects "ObligingPostsModel" ({ cls := "ObligingPostsModel", name := "share", desc := "(II)I" } : Jvm.MethodName) ({ cls := "ObligingPostsModel", name := "share", desc := "(II)I" } : Jvm.MethodName)) ∈ lw_all := lw_g (lw_at lw_m10 88 rfl) rfl
theorem q2389 : (Jvm.Cond.code ({ cls := "ObligingPostsModel", name := "share", desc := "(II)I" } : Jvm.MethodName) prog_13_method_142_code (7 : Nat) (Option.some Jvm.ClassFile.FieldType.int)) ∈ lw_all := lw_g (lw_at lw_m10 89 rfl) rfl
theorem q2390 : (Jvm.Cond.methodLink "ObligingPostsModel" (447 : Nat) ({ cls := "ObligingPostsModel", name := "factorial", desc := "(I)I" } : Jvm.MethodName)) ∈ lw_all := lw_g (lw_at lw_m10 90 rfl) rfl
theorem q2391 : (Jvm.Cond.static ({ cls := "ObligingPostsModel", name := "factorial", desc := "(I)I" } : Jvm.MethodName)) ∈ lw_all := lw_g (lw_at lw_m10 91 rfl) rfl
theorem q2392 : (Jvm.Cond.code ({ cls := "ObligingPostsModel", name := "factorial", desc := "(I)I" } : Jvm.MethodName) prog_13_method_139_code (3 : Nat) (Option.some Jvm.ClassFile.FieldType.int)) ∈ lw_all := lw_g (lw_at lw_m10 92 rfl) rfl
theorem q2393 : (Jvm.Cond.methodLink "ObligingPostsModel" (450 : Nat) ({ cls := "ObligingPostsModel", name := "part", desc := "(JJI)J" } : Jvm.MethodName)) ∈ lw_all := lw_g (lw_at lw_m10 93 rfl) rfl
theorem q2394 : (Jvm.Cond.static ({ cls := "ObligingPostsModel", name := "part", desc := "(JJI)J" } : Jvm.MethodName)) ∈ lw_all := lw_g (lw_at lw_m10 94 rfl) rfl
theorem q2395 : (Jvm.Cond.code ({ cls := "ObligingPostsModel", name := "part", desc := "(JJI)J" } : Jvm.MethodName) prog_13_method_141_code (5 : Nat) (Option.some Jvm.ClassFile.FieldType.long)) ∈ lw_all := lw_g (lw_at lw_m10 95 rfl) rfl
theorem q2396 : (Jvm.Cond.methodLink "ObligingPostsModel" (443 : Nat) ({ cls := "ObligingPostsModel", name := "divisor", desc := "(JJ)J" } : Jvm.MethodName)) ∈ lw_all := lw_g (lw_at lw_m10 96 rfl) rfl
theorem q2397 : (Jvm.Cond.static ({ cls := "ObligingPostsModel", name := "divisor", desc := "(JJ)J" } : Jvm.MethodName)) ∈ lw_all := lw_g (lw_at lw_m10 97 rfl) rfl
theorem q2398 : (Jvm.Cond.code ({ cls := "ObligingPostsModel", name := "divisor", desc := "(JJ)J" } : Jvm.MethodName) prog_13_method_140_code (10 : Nat) (Option.some Jvm.ClassFile.FieldType.long)) ∈ lw_all := lw_g (lw_at lw_m10 98 rfl) rfl
theorem q2399 : (Jvm.Cond.methodLink "ObligingPostsModel" (439 : Nat) ({ cls := "java/lang/Math", name := "abs", desc := "(J)J" } : Jvm.MethodName)) ∈ lw_all := lw_g (lw_at lw_m10 99 rfl) rfl
theorem q2401 : (Jvm.Cond.instanceMethod ({ cls := "ObligingPostsModel", name := "rests", desc := "(II)I" } : Jvm.MethodName)) ∈ lw_all := lw_g (lw_at lw_m10 101 rfl) rfl
theorem q2402 : (Jvm.Cond.selects "ObligingPostsModel" ({ cls := "ObligingPostsModel", name := "rests", desc := "(II)I" } : Jvm.MethodName) ({ cls := "ObligingPostsModel", name := "rests", desc := "(II)I" } : Jvm.MethodName)) ∈ lw_all := lw_g (lw_at lw_m10 102 rfl) rfl
theorem q2403 : (Jvm.Cond.code ({ cls := "ObligingPostsModel", name := "rests", desc := "(II)I" } : Jvm.MethodName) prog_13_method_144_code (8 : Nat) (Option.some Jvm.ClassFile.FieldType.int)) ∈ lw_all := lw_g (lw_at lw_m10 103 rfl) rfl
theorem q2404 : (Jvm.Cond.methodLink "ObligingPostsModel" (454 : Nat) ({ cls := "ObligingPostsModel", name := "getsBy", desc := "(IIIII)I" } : Jvm.MethodName)) ∈ lw_all := lw_g (lw_at lw_m10 104 rfl) rfl
theorem q2405 : (Jvm.Cond.privateMethod ({ cls := "ObligingPostsModel", name := "getsBy", desc := "(IIIII)I" } : Jvm.MethodName)) ∈ lw_tbl := lw_at lw_m10 105 rfl
theorem q2406 : (Jvm.Cond.instanceMethod ({ cls := "ObligingPostsModel", name := "getsBy", desc := "(IIIII)I" } : Jvm.MethodName)) ∈ lw_all := lw_g (lw_at lw_m10 106 rfl) rfl
theorem q2407 : (Jvm.Cond.code ({ cls := "ObligingPostsModel", name := "getsBy", desc := "(IIIII)I" } : Jvm.MethodName) prog_13_method_143_code (7 : Nat) (Option.some Jvm.ClassFile.FieldType.int)) ∈ lw_all := lw_g (lw_at lw_m10 107 rfl) rfl
theorem q2409 : (Jvm.Cond.instanceMethod ({ cls := "ObligingPostsModel", name := "gets", desc := "(IIII)I" } : Jvm.MethodName)) ∈ lw_all := lw_g (lw_at lw_m10 109 rfl) rfl
theorem q2410 : (Jvm.Cond.selects "ObligingPostsModel" ({ cls := "ObligingPostsModel", name := "gets", desc := "(IIII)I" } : Jvm.MethodName) ({ cls := "ObligingPostsModel", name := "gets", desc := "(IIII)I" } : Jvm.MethodName)) ∈ lw_all := lw_g (lw_at lw_m10 110 rfl) rfl
theorem q2411 : (Jvm.Cond.code ({ cls := "ObligingPostsModel", name := "gets", desc := "(IIII)I" } : Jvm.MethodName) prog_13_method_145_code (5 : Nat) (Option.some Jvm.ClassFile.FieldType.int)) ∈ lw_all := lw_g (lw_at lw_m10 111 rfl) rfl
theorem q2413 : (Jvm.Cond.instanceMethod ({ cls := "ObligingPostsModel", name := "chance", desc := "(III)J" } : Jvm.MethodName)) ∈ lw_all := lw_g (lw_at lw_m10 113 rfl) rfl
theorem q2414 : (Jvm.Cond.selects "ObligingPostsModel" ({ cls := "ObligingPostsModel", name := "chance", desc := "(III)J" } : Jvm.MethodName) ({ cls := "ObligingPostsModel", name := "chance", desc := "(III)J" } : Jvm.MethodName)) ∈ lw_all := lw_g (lw_at lw_m10 114 rfl) rfl
theorem q2415 : (Jvm.Cond.code ({ cls := "ObligingPostsModel", name := "chance", desc := "(III)J" } : Jvm.MethodName) prog_13_method_148_code (4 : Nat) (Option.some Jvm.ClassFile.FieldType.long)) ∈ lw_all := lw_g (lw_at lw_m10 115 rfl) rfl
theorem q2416 : (Jvm.Cond.methodLink "ObligingPostsModel" (468 : Nat) ({ cls := "ObligingPostsModel", name := "isFog", desc := "(II)Z" } : Jvm.MethodName)) ∈ lw_all := lw_g (lw_at lw_m10 116 rfl) rfl
theorem q2417 : (Jvm.Cond.privateMethod ({ cls := "ObligingPostsModel", name := "isFog", desc := "(II)Z" } : Jvm.MethodName)) ∈ lw_tbl := lw_at lw_m10 117 rfl
theorem q2418 : (Jvm.Cond.instanceMethod ({ cls := "ObligingPostsModel", name := "isFog", desc := "(II)Z" } : Jvm.MethodName)) ∈ lw_all := lw_g (lw_at lw_m10 118 rfl) rfl
theorem q2419 : (Jvm.Cond.code ({ cls := "ObligingPostsModel", name := "isFog", desc := "(II)Z" } : Jvm.MethodName) prog_13_method_147_code (3 : Nat) (Option.some Jvm.ClassFile.FieldType.boolean)) ∈ lw_all := lw_g (lw_at lw_m10 119 rfl) rfl
theorem q2420 : (Jvm.Cond.constantLong "ObligingPostsModel" (471 : Nat) (-2 : Int64)) ∈ lw_all := lw_g (lw_at lw_m10 120 rfl) rfl
theorem q2421 : (Jvm.Cond.methodLink "ObligingPostsModel" (473 : Nat) ({ cls := "ObligingPostsModel", name := "layFog", desc := "(II)V" } : Jvm.MethodName)) ∈ lw_all := lw_g (lw_at lw_m10 121 rfl) rfl
theorem q2422 : (Jvm.Cond.privateMethod ({ cls := "ObligingPostsModel", name := "layFog", desc := "(II)V" } : Jvm.MethodName)) ∈ lw_tbl := lw_at lw_m10 122 rfl
theorem q2423 : (Jvm.Cond.instanceMethod ({ cls := "ObligingPostsModel", name := "layFog", desc := "(II)V" } : Jvm.MethodName)) ∈ lw_all := lw_g (lw_at lw_m10 123 rfl) rfl
theorem q2424 : (Jvm.Cond.code ({ cls := "ObligingPostsModel", name := "layFog", desc := "(II)V" } : Jvm.MethodName) prog_13_method_146_code (7 : Nat) (Option.none : Option Jvm.ClassFile.FieldType)) ∈ lw_all := lw_g (lw_at lw_m10 124 rfl) rfl
theorem q2426 : (Jvm.Cond.instanceMethod ({ cls := "ObligingPostsModel", name := "mean", desc := "(II)J" } : Jvm.MethodName)) ∈ lw_all := lw_g (lw_at lw_m10 126 rfl) rfl
theorem q2427 : (Jvm.Cond.selects "ObligingPostsModel" ({ cls := "ObligingPostsModel", name := "mean", desc := "(II)J" } : Jvm.MethodName) ({ cls := "ObligingPostsModel", name := "mean", desc := "(II)J" } : Jvm.MethodName)) ∈ lw_all := lw_g (lw_at lw_m10 127 rfl) rfl
theorem q2428 : (Jvm.Cond.code ({ cls := "ObligingPostsModel", name := "mean", desc := "(II)J" } : Jvm.MethodName) prog_13_method_149_code (3 : Nat) (Option.some Jvm.ClassFile.FieldType.long)) ∈ lw_all := lw_g (lw_at lw_m10 128 rfl) rfl
theorem q2430 : (Jvm.Cond.instanceMethod ({ cls := "ObligingPostsModel", name := "twists", desc := "(II)I" } : Jvm.MethodName)) ∈ lw_all := lw_g (lw_at lw_m10 130 rfl) rfl
theorem q2431 : (Jvm.Cond.selects "ObligingPostsModel" ({ cls := "ObligingPostsModel", name := "twists", desc := "(II)I" } : Jvm.MethodName) ({ cls := "ObligingPostsModel", name := "twists", desc := "(II)I" } : Jvm.MethodName)) ∈ lw_all := lw_g (lw_at lw_m10 131 rfl) rfl
theorem q2432 : (Jvm.Cond.code ({ cls := "ObligingPostsModel", name := "twists", desc := "(II)I" } : Jvm.MethodName) prog_13_method_151_code (3 : Nat) (Option.some Jvm.ClassFile.FieldType.int)) ∈ lw_all := lw_g (lw_at lw_m10 132 rfl) rfl
theorem q2433 : (Jvm.Cond.methodLink "ObligingPostsModel" (476 : Nat) ({ cls := "ObligingPostsModel", name := "keepAct", desc := "(I)Z" } : Jvm.MethodName)) ∈ lw_all := lw_g (lw_at lw_m10 133 rfl) rfl
theorem q2434 : (Jvm.Cond.privateMethod ({ cls := "ObligingPostsModel", name := "keepAct", desc := "(I)Z" } : Jvm.MethodName)) ∈ lw_tbl := lw_at lw_m10 134 rfl
theorem q2435 : (Jvm.Cond.instanceMethod ({ cls := "ObligingPostsModel", name := "keepAct", desc := "(I)Z" } : Jvm.MethodName)) ∈ lw_all := lw_g (lw_at lw_m10 135 rfl) rfl
theorem q2436 : (Jvm.Cond.code ({ cls := "ObligingPostsModel", name := "keepAct", desc := "(I)Z" } : Jvm.MethodName) prog_13_method_150_code (2 : Nat) (Option.some Jvm.ClassFile.FieldType.boolean)) ∈ lw_all := lw_g (lw_at lw_m10 136 rfl) rfl
theorem q2438 : (Jvm.Cond.instanceMethod ({ cls := "ObligingPostsModel", name := "holds", desc := "(II)I" } : Jvm.MethodName)) ∈ lw_all := lw_g (lw_at lw_m10 138 rfl) rfl
theorem q2439 : (Jvm.Cond.selects "ObligingPostsModel" ({ cls := "ObligingPostsModel", name := "holds", desc := "(II)I" } : Jvm.MethodName) ({ cls := "ObligingPostsModel", name := "holds", desc := "(II)I" } : Jvm.MethodName)) ∈ lw_all := lw_g (lw_at lw_m10 139 rfl) rfl
theorem q2440 : (Jvm.Cond.code ({ cls := "ObligingPostsModel", name := "holds", desc := "(II)I" } : Jvm.MethodName) prog_13_method_152_code (3 : Nat) (Option.some Jvm.ClassFile.FieldType.int)) ∈ lw_all := lw_g (lw_at lw_m10 140 rfl) rfl
theorem q2442 : (Jvm.Cond.instanceMethod ({ cls := "ObligingPostsModel", name := "undo", desc := "()I" } : Jvm.MethodName)) ∈ lw_all := lw_g (lw_at lw_m10 142 rfl) rfl
theorem q2443 : (Jvm.Cond.selects "ObligingPostsModel" ({ cls := "ObligingPostsModel", name := "undo", desc := "()I" } : Jvm.MethodName) ({ cls := "ObligingPostsModel", name := "undo", desc := "()I" } : Jvm.MethodName)) ∈ lw_all := lw_g (lw_at lw_m10 143 rfl) rfl
theorem q2444 : (Jvm.Cond.code ({ cls := "ObligingPostsModel", name := "undo", desc := "()I" } : Jvm.MethodName) prog_13_method_153_code (1 : Nat) (Option.some Jvm.ClassFile.FieldType.int)) ∈ lw_all := lw_g (lw_at lw_m10 144 rfl) rfl
theorem q2446 : (Jvm.Cond.instanceMethod ({ cls := "ObligingPostsModel", name := "anew", desc := "()I" } : Jvm.MethodName)) ∈ lw_all := lw_g (lw_at lw_m10 146 rfl) rfl
theorem q2447 : (Jvm.Cond.selects "ObligingPostsModel" ({ cls := "ObligingPostsModel", name := "anew", desc := "()I" } : Jvm.MethodName) ({ cls := "ObligingPostsModel", name := "anew", desc := "()I" } : Jvm.MethodName)) ∈ lw_all := lw_g (lw_at lw_m10 147 rfl) rfl
theorem q2448 : (Jvm.Cond.code ({ cls := "ObligingPostsModel", name := "anew", desc := "()I" } : Jvm.MethodName) prog_13_method_154_code (2 : Nat) (Option.some Jvm.ClassFile.FieldType.int)) ∈ lw_all := lw_g (lw_at lw_m10 148 rfl) rfl
theorem q2450 : (Jvm.Cond.instanceMethod ({ cls := "ObligingPostsModel", name := "drawn", desc := "(II)I" } : Jvm.MethodName)) ∈ lw_all := lw_g (lw_at lw_m10 150 rfl) rfl
theorem q2451 : (Jvm.Cond.selects "ObligingPostsModel" ({ cls := "ObligingPostsModel", name := "drawn", desc := "(II)I" } : Jvm.MethodName) ({ cls := "ObligingPostsModel", name := "drawn", desc := "(II)I" } : Jvm.MethodName)) ∈ lw_all := lw_g (lw_at lw_m10 151 rfl) rfl
theorem q2452 : (Jvm.Cond.code ({ cls := "ObligingPostsModel", name := "drawn", desc := "(II)I" } : Jvm.MethodName) prog_13_method_157_code (3 : Nat) (Option.some Jvm.ClassFile.FieldType.int)) ∈ lw_all := lw_g (lw_at lw_m10 152 rfl) rfl
theorem q2453 : (Jvm.Cond.methodLink "ObligingPostsModel" (489 : Nat) ({ cls := "ObligingPostsModel", name := "isSeed", desc := "(I)Z" } : Jvm.MethodName)) ∈ lw_all := lw_g (lw_at lw_m10 153 rfl) rfl
theorem q2454 : (Jvm.Cond.static ({ cls := "ObligingPostsModel", name := "isSeed", desc := "(I)Z" } : Jvm.MethodName)) ∈ lw_all := lw_g (lw_at lw_m10 154 rfl) rfl
theorem q2455 : (Jvm.Cond.code ({ cls := "ObligingPostsModel", name := "isSeed", desc := "(I)Z" } : Jvm.MethodName) prog_13_method_156_code (1 : Nat) (Option.some Jvm.ClassFile.FieldType.boolean)) ∈ lw_all := lw_g (lw_at lw_m10 155 rfl) rfl
theorem q2456 : (Jvm.Cond.constantLong "ObligingPostsModel" (487 : Nat) (2000000000 : Int64)) ∈ lw_all := lw_g (lw_at lw_m10 156 rfl) rfl
theorem q2457 : (Jvm.Cond.methodLink "ObligingPostsModel" (492 : Nat) ({ cls := "ObligingPostsModel", name := "goDrawn", desc := "(J)V" } : Jvm.MethodName)) ∈ lw_all := lw_g (lw_at lw_m10 157 rfl) rfl
theorem q2458 : (Jvm.Cond.privateMethod ({ cls := "ObligingPostsModel", name := "goDrawn", desc := "(J)V" } : Jvm.MethodName)) ∈ lw_tbl := lw_at lw_m10 158 rfl
theorem q2459 : (Jvm.Cond.instanceMethod ({ cls := "ObligingPostsModel", name := "goDrawn", desc := "(J)V" } : Jvm.MethodName)) ∈ lw_all := lw_g (lw_at lw_m10 159 rfl) rfl
theorem q2460 : (Jvm.Cond.code ({ cls := "ObligingPostsModel", name := "goDrawn", desc := "(J)V" } : Jvm.MethodName) prog_13_method_155_code (6 : Nat) (Option.none : Option Jvm.ClassFile.FieldType)) ∈ lw_all := lw_g (lw_at lw_m10 160 rfl) rfl
theorem q2461 : (Jvm.Cond.constantLong "ObligingPostsModel" (479 : Nat) (1103515245 : Int64)) ∈ lw_all := lw_g (lw_at lw_m10 161 rfl) rfl
theorem q2462 : (Jvm.Cond.constantLong "ObligingPostsModel" (481 : Nat) (12345 : Int64)) ∈ lw_all := lw_g (lw_at lw_m10 162 rfl) rfl
theorem q2463 : (Jvm.Cond.constantLong "ObligingPostsModel" (483 : Nat) (2147483648 : Int64)) ∈ lw_all := lw_g (lw_at lw_m10 163 rfl) rfl
theorem q2464 : (Jvm.Cond.constantLong "ObligingPostsModel" (485 : Nat) (65536 : Int64)) ∈ lw_all := lw_g (lw_at lw_m10 164 rfl) rfl
theorem q2466 : (Jvm.Cond.instanceMethod ({ cls := "ObligingPostsModel", name := "luck", desc := "(III)I" } : Jvm.MethodName)) ∈ lw_all := lw_g (lw_at lw_m10 166 rfl) rfl
theorem q2467 : (Jvm.Cond.selects "ObligingPostsModel" ({ cls := "ObligingPostsModel", name := "luck", desc := "(III)I" } : Jvm.MethodName) ({ cls := "ObligingPostsModel", name := "luck", desc := "(III)I" } : Jvm.MethodName)) ∈ lw_all := lw_g (lw_at lw_m10 167 rfl) rfl
theorem q2468 : (Jvm.Cond.code ({ cls := "ObligingPostsModel", name := "luck", desc := "(III)I" } : Jvm.MethodName) prog_13_method_158_code (6 : Nat) (Option.some Jvm.ClassFile.FieldType.int)) ∈ lw_all := lw_g (lw_at lw_m10 168 rfl) rfl
theorem q2470 : (Jvm.Cond.instanceMethod ({ cls := "ObligingPostsModel", name := "rate", desc := "(II)I" } : Jvm.MethodName)) ∈ lw_all := lw_g (lw_at lw_m10 170 rfl) rfl
theorem q2471 : (Jvm.Cond.selects "ObligingPostsModel" ({ cls := "ObligingPostsModel", name := "rate", desc := "(II)I" } : Jvm.MethodName) ({ cls := "ObligingPostsModel", name := "rate", desc := "(II)I" } : Jvm.MethodName)) ∈ lw_all := lw_g (lw_at lw_m10 171 rfl) rfl
theorem q2472 : (Jvm.Cond.code ({ cls := "ObligingPostsModel", name := "rate", desc := "(II)I" } : Jvm.MethodName) prog_13_method_159_code (4 : Nat) (Option.some Jvm.ClassFile.FieldType.int)) ∈ lw_all := lw_g (lw_at lw_m10 172 rfl) rfl
theorem q2473 : (Jvm.Cond.constantLong "ObligingPostsModel" (496 : Nat) (9 : Int64)) ∈ lw_all := lw_g (lw_at lw_m10 173 rfl) rfl
theorem q2475 : (Jvm.Cond.instanceMethod ({ cls := "ObligingPostsModel", name := "count", desc := "(I)I" } : Jvm.MethodName)) ∈ lw_all := lw_g (lw_at lw_m10 175 rfl) rfl
theorem q2476 : (Jvm.Cond.selects "ObligingPostsModel" ({ cls := "ObligingPostsModel", name := "count", desc := "(I)I" } : Jvm.MethodName) ({ cls := "ObligingPostsModel", name := "count", desc := "(I)I" } : Jvm.MethodName)) ∈ lw_all := lw_g (lw_at lw_m10 176 rfl) rfl
theorem q2477 : (Jvm.Cond.code ({ cls := "ObligingPostsModel", name := "count", desc := "(I)I" } : Jvm.MethodName) prog_13_method_160_code (4 : Nat) (Option.some Jvm.ClassFile.FieldType.int)) ∈ lw_all := lw_g (lw_at lw_m10 177 rfl) rfl
theorem q2479 : (Jvm.Cond.instanceMethod ({ cls := "ObligingPostsModel", name := "row", desc := "(III)I" } : Jvm.MethodName)) ∈ lw_all := lw_g (lw_at lw_m10 179 rfl) rfl
theorem q2480 : (Jvm.Cond.selects "ObligingPostsModel" ({ cls := "ObligingPostsModel", name := "row", desc := "(III)I" } : Jvm.MethodName) ({ cls := "ObligingPostsModel", name := "row", desc := "(III)I" } : Jvm.MethodName)) ∈ lw_all := lw_g (lw_at lw_m10 180 rfl) rfl
theorem q2481 : (Jvm.Cond.code ({ cls := "ObligingPostsModel", name := "row", desc := "(III)I" } : Jvm.MethodName) prog_13_method_163_code (5 : Nat) (Option.some Jvm.ClassFile.FieldType.int)) ∈ lw_all := lw_g (lw_at lw_m10 181 rfl) rfl
theorem q2483 : (Jvm.Cond.instanceMethod ({ cls := "ObligingPostsModel", name := "write", desc := "(IIJ)I" } : Jvm.MethodName)) ∈ lw_all := lw_g (lw_at lw_m10 183 rfl) rfl
theorem q2484 : (Jvm.Cond.selects "ObligingPostsModel" ({ cls := "ObligingPostsModel", name := "write", desc := "(IIJ)I" } : Jvm.MethodName) ({ cls := "ObligingPostsModel", name := "write", desc := "(IIJ)I" } : Jvm.MethodName)) ∈ lw_all := lw_g (lw_at lw_m10 184 rfl) rfl
theorem q2485 : (Jvm.Cond.code ({ cls := "ObligingPostsModel", name := "write", desc := "(IIJ)I" } : Jvm.MethodName) prog_13_method_164_code (5 : Nat) (Option.some Jvm.ClassFile.FieldType.int)) ∈ lw_all := lw_g (lw_at lw_m10 185 rfl) rfl
theorem q2486 : (Jvm.Cond.methodLink "ObligingPostsModel" (498 : Nat) ({ cls := "ObligingPostsModel", name := "clipped", desc := "(JI)J" } : Jvm.MethodName)) ∈ lw_all := lw_g (lw_at lw_m10 186 rfl) rfl
theorem q2487 : (Jvm.Cond.static ({ cls := "ObligingPostsModel", name := "clipped", desc := "(JI)J" } : Jvm.MethodName)) ∈ lw_all := lw_g (lw_at lw_m10 187 rfl) rfl
theorem q2488 : (Jvm.Cond.code ({ cls := "ObligingPostsModel", name := "clipped", desc := "(JI)J" } : Jvm.MethodName) prog_13_method_162_code (4 : Nat) (Option.some Jvm.ClassFile.FieldType.long)) ∈ lw_all := lw_g (lw_at lw_m10 188 rfl) rfl
theorem q2490 : (Jvm.Cond.instanceMethod ({ cls := "ObligingPostsModel", name := "paste", desc := "(IIIII)I" } : Jvm.MethodName)) ∈ lw_all := lw_g (lw_at lw_m10 190 rfl) rfl
theorem q2491 : (Jvm.Cond.selects "ObligingPostsModel" ({ cls := "ObligingPostsModel", name := "paste", desc := "(IIIII)I" } : Jvm.MethodName) ({ cls := "ObligingPostsModel", name := "paste", desc := "(IIIII)I" } : Jvm.MethodName)) ∈ lw_all := lw_g (lw_at lw_m10 191 rfl) rfl
theorem q2492 : (Jvm.Cond.code ({ cls := "ObligingPostsModel", name := "paste", desc := "(IIIII)I" } : Jvm.MethodName) prog_13_method_165_code (7 : Nat) (Option.some Jvm.ClassFile.FieldType.int)) ∈ lw_all := lw_g (lw_at lw_m10 192 rfl) rfl
theorem q2504 : (Jvm.Cond.castable "ObligingPostsModel" "java/lang/Object") ∈ lw_tbl := lw_at lw_m10 204 rfl
theorem q151 : (Jvm.Cond.initialized "ObligingPosts$Reader") ∈ lw_all := lw_g (lw_at lw_m1 11 rfl) rfl
theorem q437 : (Jvm.Cond.fieldLinkNest "ObligingPosts$Reader" (122 : Nat) "ObligingPosts$Heath" "room" "[I" "ObligingPosts") ∈ lw_tbl := lw_at lw_m2 57 rfl
theorem q440 : (Jvm.Cond.fieldLinkNest "ObligingPosts$Reader" (85 : Nat) "ObligingPosts$Heath" "posts" "Ljava/util/List;" "ObligingPosts") ∈ lw_tbl := lw_at lw_m2 60 rfl
theorem q443 : (Jvm.Cond.fieldLinkNest "ObligingPosts$Reader" (150 : Nat) "ObligingPosts$Heath" "walkers" "Ljava/util/List;" "ObligingPosts") ∈ lw_tbl := lw_at lw_m2 63 rfl
theorem q451 : (Jvm.Cond.fieldLinkNest "ObligingPosts$Reader" (161 : Nat) "ObligingPosts$Heath" "hours" "I" "ObligingPosts") ∈ lw_tbl := lw_at lw_m2 71 rfl
theorem q455 : (Jvm.Cond.fieldLinkNest "ObligingPosts$Reader" (165 : Nat) "ObligingPosts$Heath" "law" "I" "ObligingPosts") ∈ lw_tbl := lw_at lw_m2 75 rfl
theorem q458 : (Jvm.Cond.fieldLinkNest "ObligingPosts$Reader" (169 : Nat) "ObligingPosts$Heath" "odds" "I" "ObligingPosts") ∈ lw_tbl := lw_at lw_m2 78 rfl
theorem q461 : (Jvm.Cond.fieldLinkNest "ObligingPosts$Reader" (109 : Nat) "ObligingPosts$Heath" "inns" "I" "ObligingPosts") ∈ lw_tbl := lw_at lw_m2 81 rfl
theorem q464 : (Jvm.Cond.fieldLinkNest "ObligingPosts$Reader" (113 : Nat) "ObligingPosts$Heath" "roads" "I" "ObligingPosts") ∈ lw_tbl := lw_at lw_m2 84 rfl
theorem q467 : (Jvm.Cond.fieldLinkNest "ObligingPosts$Reader" (143 : Nat) "ObligingPosts$Heath" "arms" "I" "ObligingPosts") ∈ lw_tbl := lw_at lw_m2 87 rfl
theorem q471 : (Jvm.Cond.fieldLinkNest "ObligingPosts$Reader" (171 : Nat) "ObligingPosts$Heath" "lines" "I" "ObligingPosts") ∈ lw_tbl := lw_at lw_m2 91 rfl
theorem q650 : (Jvm.Cond.instantiable "ObligingPosts$Reader" (7 : Nat)) ∈ lw_all := lw_g (lw_at lw_m3 30 rfl) rfl
theorem q652 : (Jvm.Cond.instanceMethod ({ cls := "ObligingPosts$Reader", name := "<init>", desc := "([BI)V" } : Jvm.MethodName)) ∈ lw_all := lw_g (lw_at lw_m3 32 rfl) rfl
theorem q653 : (Jvm.Cond.code ({ cls := "ObligingPosts$Reader", name := "<init>", desc := "([BI)V" } : Jvm.MethodName) prog_8_method_1_code (3 : Nat) (Option.none : Option Jvm.ClassFile.FieldType)) ∈ lw_all := lw_g (lw_at lw_m3 33 rfl) rfl
theorem q654 : (Jvm.Cond.methodLink "ObligingPosts$Reader" (3 : Nat) ({ cls := "java/lang/Object", name := "<init>", desc := "()V" } : Jvm.MethodName)) ∈ lw_all := lw_g (lw_at lw_m3 34 rfl) rfl
theorem q655 : (Jvm.Cond.classLink "ObligingPosts$Reader" (9 : Nat) "ObligingPosts$Heath") ∈ lw_all := lw_g (lw_at lw_m3 35 rfl) rfl
theorem q656 : (Jvm.Cond.methodLinkNest "ObligingPosts$Reader" (11 : Nat) ({ cls := "ObligingPosts$Heath", name := "<init>", desc := "()V" } : Jvm.MethodName) "ObligingPosts") ∈ lw_tbl := lw_at lw_m3 36 rfl
theorem q657 : (Jvm.Cond.methodLink "ObligingPosts$Reader" (26 : Nat) ({ cls := "ObligingPosts$Reader", name := "next", desc := "()V" } : Jvm.MethodName)) ∈ lw_all := lw_g (lw_at lw_m3 37 rfl) rfl
theorem q658 : (Jvm.Cond.privateMethod ({ cls := "ObligingPosts$Reader", name := "next", desc := "()V" } : Jvm.MethodName)) ∈ lw_tbl := lw_at lw_m3 38 rfl
theorem q659 : (Jvm.Cond.instanceMethod ({ cls := "ObligingPosts$Reader", name := "next", desc := "()V" } : Jvm.MethodName)) ∈ lw_all := lw_g (lw_at lw_m3 39 rfl) rfl
theorem q660 : (Jvm.Cond.code ({ cls := "ObligingPosts$Reader", name := "next", desc := "()V" } : Jvm.MethodName) prog_8_method_3_code (1 : Nat) (Option.none : Option Jvm.ClassFile.FieldType)) ∈ lw_all := lw_g (lw_at lw_m3 40 rfl) rfl
theorem q661 : (Jvm.Cond.methodLink "ObligingPosts$Reader" (36 : Nat) ({ cls := "ObligingPosts$Reader", name := "isAt", desc := "(II)Z" } : Jvm.MethodName)) ∈ lw_all := lw_g (lw_at lw_m3 41 rfl) rfl
theorem q662 : (Jvm.Cond.privateMethod ({ cls := "ObligingPosts$Reader", name := "isAt", desc := "(II)Z" } : Jvm.MethodName)) ∈ lw_tbl := lw_at lw_m3 42 rfl
theorem q663 : (Jvm.Cond.instanceMethod ({ cls := "ObligingPosts$Reader", name := "isAt", desc := "(II)Z" } : Jvm.MethodName)) ∈ lw_all := lw_g (lw_at lw_m3 43 rfl) rfl
theorem q664 : (Jvm.Cond.code ({ cls := "ObligingPosts$Reader", name := "isAt", desc := "(II)Z" } : Jvm.MethodName) prog_8_method_2_code (3 : Nat) (Option.some Jvm.ClassFile.FieldType.boolean)) ∈ lw_all := lw_g (lw_at lw_m3 44 rfl) rfl
theorem q665 : (Jvm.Cond.methodLinkNest "ObligingPosts$Reader" (32 : Nat) ({ cls := "ObligingPosts", name := "in", desc := "(JJJ)Z" } : Jvm.MethodName) "ObligingPosts") ∈ lw_tbl := lw_at lw_m3 45 rfl
theorem q666 : (Jvm.Cond.constant "ObligingPosts$Reader" (49 : Nat) (99999 : Int32)) ∈ lw_all := lw_g (lw_at lw_m3 46 rfl) rfl
theorem q667 : (Jvm.Cond.methodLink "ObligingPosts$Reader" (50 : Nat) ({ cls := "java/lang/Math", name := "min", desc := "(II)I" } : Jvm.MethodName)) ∈ lw_all := lw_g (lw_at lw_m3 47 rfl) rfl
theorem q670 : (Jvm.Cond.fieldLink "ObligingPosts$Reader" (18 : Nat) "ObligingPosts$Reader" "text" "[B") ∈ lw_all := lw_g (lw_at lw_m3 50 rfl) rfl
theorem q671 : (Jvm.Cond.fieldLink "ObligingPosts$Reader" (22 : Nat) "ObligingPosts$Reader" "many" "I") ∈ lw_all := lw_g (lw_at lw_m3 51 rfl) rfl
theorem q672 : (Jvm.Cond.fieldLink "ObligingPosts$Reader" (12 : Nat) "ObligingPosts$Reader" "h" "LObligingPosts$Heath;") ∈ lw_all := lw_g (lw_at lw_m3 52 rfl) rfl
theorem q673 : (Jvm.Cond.fieldLink "ObligingPosts$Reader" (29 : Nat) "ObligingPosts$Reader" "at" "I") ∈ lw_all := lw_g (lw_at lw_m3 53 rfl) rfl
theorem q674 : (Jvm.Cond.fieldLink "ObligingPosts$Reader" (40 : Nat) "ObligingPosts$Reader" "begin" "I") ∈ lw_all := lw_g (lw_at lw_m3 54 rfl) rfl
theorem q675 : (Jvm.Cond.fieldLink "ObligingPosts$Reader" (46 : Nat) "ObligingPosts$Reader" "token" "I") ∈ lw_all := lw_g (lw_at lw_m3 55 rfl) rfl
theorem q676 : (Jvm.Cond.fieldLink "ObligingPosts$Reader" (43 : Nat) "ObligingPosts$Reader" "value" "I") ∈ lw_all := lw_g (lw_at lw_m3 56 rfl) rfl
theorem q677 : (Jvm.Cond.laysFinal "ObligingPosts$Reader" "ObligingPosts$Reader" "text" "[B") ∈ lw_all := lw_g (lw_at lw_m3 57 rfl) rfl
theorem q678 : (Jvm.Cond.soleField "ObligingPosts$Reader" "text") ∈ lw_all := lw_g (lw_at lw_m3 58 rfl) rfl
theorem q679 : (Jvm.Cond.laysFinal "ObligingPosts$Reader" "ObligingPosts$Reader" "many" "I") ∈ lw_all := lw_g (lw_at lw_m3 59 rfl) rfl
theorem q680 : (Jvm.Cond.soleField "ObligingPosts$Reader" "many") ∈ lw_all := lw_g (lw_at lw_m3 60 rfl) rfl
theorem q681 : (Jvm.Cond.laysFinal "ObligingPosts$Reader" "ObligingPosts$Reader" "h" "LObligingPosts$Heath;") ∈ lw_all := lw_g (lw_at lw_m3 61 rfl) rfl
theorem q682 : (Jvm.Cond.soleField "ObligingPosts$Reader" "h") ∈ lw_all := lw_g (lw_at lw_m3 62 rfl) rfl
theorem q683 : (Jvm.Cond.lays "ObligingPosts$Reader" "ObligingPosts$Reader" "at" "I") ∈ lw_all := lw_g (lw_at lw_m3 63 rfl) rfl
theorem q684 : (Jvm.Cond.soleField "ObligingPosts$Reader" "at") ∈ lw_all := lw_g (lw_at lw_m3 64 rfl) rfl
theorem q685 : (Jvm.Cond.lays "ObligingPosts$Reader" "ObligingPosts$Reader" "begin" "I") ∈ lw_all := lw_g (lw_at lw_m3 65 rfl) rfl
theorem q686 : (Jvm.Cond.soleField "ObligingPosts$Reader" "begin") ∈ lw_all := lw_g (lw_at lw_m3 66 rfl) rfl
theorem q687 : (Jvm.Cond.lays "ObligingPosts$Reader" "ObligingPosts$Reader" "token" "I") ∈ lw_all := lw_g (lw_at lw_m3 67 rfl) rfl
theorem q688 : (Jvm.Cond.soleField "ObligingPosts$Reader" "token") ∈ lw_all := lw_g (lw_at lw_m3 68 rfl) rfl
theorem q689 : (Jvm.Cond.lays "ObligingPosts$Reader" "ObligingPosts$Reader" "value" "I") ∈ lw_all := lw_g (lw_at lw_m3 69 rfl) rfl
theorem q690 : (Jvm.Cond.soleField "ObligingPosts$Reader" "value") ∈ lw_all := lw_g (lw_at lw_m3 70 rfl) rfl
theorem q691 : (Jvm.Cond.superclass "ObligingPosts$Reader" "java/lang/Object") ∈ lw_all := lw_g (lw_at lw_m3 71 rfl) rfl
theorem q693 : (Jvm.Cond.instanceMethod ({ cls := "ObligingPosts$Reader", name := "reads", desc := "()LObligingPosts$Heath;" } : Jvm.MethodName)) ∈ lw_all := lw_g (lw_at lw_m3 73 rfl) rfl
theorem q694 : (Jvm.Cond.selects "ObligingPosts$Reader" ({ cls := "ObligingPosts$Reader", name := "reads", desc := "()LObligingPosts$Heath;" } : Jvm.MethodName) ({ cls := "ObligingPosts$Reader", name := "reads", desc := "()LObligingPosts$Heath;" } : Jvm.MethodName)) ∈ lw_all := lw_g (lw_at lw_m3 74 rfl) rfl
theorem q695 : (Jvm.Cond.code ({ cls := "ObligingPosts$Reader", name := "reads", desc := "()LObligingPosts$Heath;" } : Jvm.MethodName) prog_8_method_14_code (1 : Nat) (Option.some (Jvm.ClassFile.FieldType.object "ObligingPosts$Heath"))) ∈ lw_all := lw_g (lw_at lw_m3 75 rfl) rfl
theorem q696 : (Jvm.Cond.methodLink "ObligingPosts$Reader" (174 : Nat) ({ cls := "ObligingPosts$Reader", name := "heathLine", desc := "()V" } : Jvm.MethodName)) ∈ lw_all := lw_g (lw_at lw_m3 76 rfl) rfl
theorem q697 : (Jvm.Cond.privateMethod ({ cls := "ObligingPosts$Reader", name := "heathLine", desc := "()V" } : Jvm.MethodName)) ∈ lw_tbl := lw_at lw_m3 77 rfl
theorem q698 : (Jvm.Cond.instanceMethod ({ cls := "ObligingPosts$Reader", name := "heathLine", desc := "()V" } : Jvm.MethodName)) ∈ lw_all := lw_g (lw_at lw_m3 78 rfl) rfl
theorem q699 : (Jvm.Cond.code ({ cls := "ObligingPosts$Reader", name := "heathLine", desc := "()V" } : Jvm.MethodName) prog_8_method_13_code (1 : Nat) (Option.none : Option Jvm.ClassFile.FieldType)) ∈ lw_all := lw_g (lw_at lw_m3 79 rfl) rfl
theorem q700 : (Jvm.Cond.stringRef "ObligingPosts$Reader" (157 : Nat) "heath") ∈ lw_tbl := lw_at lw_m3 80 rfl
theorem q701 : (Jvm.Cond.methodLink "ObligingPosts$Reader" (79 : Nat) ({ cls := "ObligingPosts$Reader", name := "takes", desc := "(Ljava/lang/String;)Z" } : Jvm.MethodName)) ∈ lw_all := lw_g (lw_at lw_m3 81 rfl) rfl
theorem q702 : (Jvm.Cond.privateMethod ({ cls := "ObligingPosts$Reader", name := "takes", desc := "(Ljava/lang/String;)Z" } : Jvm.MethodName)) ∈ lw_tbl := lw_at lw_m3 82 rfl
theorem q703 : (Jvm.Cond.instanceMethod ({ cls := "ObligingPosts$Reader", name := "takes", desc := "(Ljava/lang/String;)Z" } : Jvm.MethodName)) ∈ lw_all := lw_g (lw_at lw_m3 83 rfl) rfl
theorem q704 : (Jvm.Cond.code ({ cls := "ObligingPosts$Reader", name := "takes", desc := "(Ljava/lang/String;)Z" } : Jvm.MethodName) prog_8_method_6_code (3 : Nat) (Option.some Jvm.ClassFile.FieldType.boolean)) ∈ lw_all := lw_g (lw_at lw_m3 84 rfl) rfl
theorem q705 : (Jvm.Cond.methodLink "ObligingPosts$Reader" (71 : Nat) ({ cls := "ObligingPosts$Reader", name := "is", desc := "(Ljava/lang/String;)Z" } : Jvm.MethodName)) ∈ lw_all := lw_g (lw_at lw_m3 85 rfl) rfl
theorem q706 : (Jvm.Cond.privateMethod ({ cls := "ObligingPosts$Reader", name := "is", desc := "(Ljava/lang/String;)Z" } : Jvm.MethodName)) ∈ lw_tbl := lw_at lw_m3 86 rfl
theorem q707 : (Jvm.Cond.instanceMethod ({ cls := "ObligingPosts$Reader", name := "is", desc := "(Ljava/lang/String;)Z" } : Jvm.MethodName)) ∈ lw_all := lw_g (lw_at lw_m3 87 rfl) rfl
theorem q708 : (Jvm.Cond.code ({ cls := "ObligingPosts$Reader", name := "is", desc := "(Ljava/lang/String;)Z" } : Jvm.MethodName) prog_8_method_5_code (3 : Nat) (Option.some Jvm.ClassFile.FieldType.boolean)) ∈ lw_all := lw_g (lw_at lw_m3 88 rfl) rfl
theorem q709 : (Jvm.Cond.methodLink "ObligingPosts$Reader" (61 : Nat) ({ cls := "java/lang/String", name := "length", desc := "()I" } : Jvm.MethodName)) ∈ lw_all := lw_g (lw_at lw_m3 89 rfl) rfl
theorem q719 : (Jvm.Cond.methodLink "ObligingPosts$Reader" (67 : Nat) ({ cls := "java/lang/String", name := "charAt", desc := "(I)C" } : Jvm.MethodName)) ∈ lw_all := lw_g (lw_at lw_m3 99 rfl) rfl
theorem q757 : (Jvm.Cond.methodLink "ObligingPosts$Reader" (75 : Nat) ({ cls := "ObligingPosts$Reader", name := "fault", desc := "(I)LObligingPosts$Fault;" } : Jvm.MethodName)) ∈ lw_all := lw_g (lw_at lw_m3 137 rfl) rfl
theorem q758 : (Jvm.Cond.privateMethod ({ cls := "ObligingPosts$Reader", name := "fault", desc := "(I)LObligingPosts$Fault;" } : Jvm.MethodName)) ∈ lw_tbl := lw_at lw_m3 138 rfl
theorem q759 : (Jvm.Cond.instanceMethod ({ cls := "ObligingPosts$Reader", name := "fault", desc := "(I)LObligingPosts$Fault;" } : Jvm.MethodName)) ∈ lw_all := lw_g (lw_at lw_m3 139 rfl) rfl
theorem q760 : (Jvm.Cond.code ({ cls := "ObligingPosts$Reader", name := "fault", desc := "(I)LObligingPosts$Fault;" } : Jvm.MethodName) prog_8_method_4_code (2 : Nat) (Option.some (Jvm.ClassFile.FieldType.object "ObligingPosts$Fault"))) ∈ lw_all := lw_g (lw_at lw_m3 140 rfl) rfl
theorem q761 : (Jvm.Cond.classLink "ObligingPosts$Reader" (56 : Nat) "ObligingPosts$Fault") ∈ lw_all := lw_g (lw_at lw_m3 141 rfl) rfl
theorem q770 : (Jvm.Cond.methodLink "ObligingPosts$Reader" (58 : Nat) ({ cls := "ObligingPosts$Fault", name := "<init>", desc := "(II)V" } : Jvm.MethodName)) ∈ lw_all := lw_g (lw_at lw_m3 150 rfl) rfl
theorem q792 : (Jvm.Cond.stringRef "ObligingPosts$Reader" (159 : Nat) "hours") ∈ lw_tbl := lw_at lw_m3 172 rfl
theorem q793 : (Jvm.Cond.methodLink "ObligingPosts$Reader" (126 : Nat) ({ cls := "ObligingPosts$Reader", name := "number", desc := "(Ljava/lang/String;II)I" } : Jvm.MethodName)) ∈ lw_all := lw_g (lw_at lw_m3 173 rfl) rfl
theorem q794 : (Jvm.Cond.privateMethod ({ cls := "ObligingPosts$Reader", name := "number", desc := "(Ljava/lang/String;II)I" } : Jvm.MethodName)) ∈ lw_tbl := lw_at lw_m3 174 rfl
theorem q795 : (Jvm.Cond.instanceMethod ({ cls := "ObligingPosts$Reader", name := "number", desc := "(Ljava/lang/String;II)I" } : Jvm.MethodName)) ∈ lw_all := lw_g (lw_at lw_m3 175 rfl) rfl
theorem q796 : (Jvm.Cond.code ({ cls := "ObligingPosts$Reader", name := "number", desc := "(Ljava/lang/String;II)I" } : Jvm.MethodName) prog_8_method_8_code (4 : Nat) (Option.some Jvm.ClassFile.FieldType.int)) ∈ lw_all := lw_g (lw_at lw_m3 176 rfl) rfl
theorem q797 : (Jvm.Cond.methodLink "ObligingPosts$Reader" (82 : Nat) ({ cls := "ObligingPosts$Reader", name := "number", desc := "(II)I" } : Jvm.MethodName)) ∈ lw_all := lw_g (lw_at lw_m3 177 rfl) rfl
theorem q798 : (Jvm.Cond.privateMethod ({ cls := "ObligingPosts$Reader", name := "number", desc := "(II)I" } : Jvm.MethodName)) ∈ lw_tbl := lw_at lw_m3 178 rfl
theorem q799 : (Jvm.Cond.instanceMethod ({ cls := "ObligingPosts$Reader", name := "number", desc := "(II)I" } : Jvm.MethodName)) ∈ lw_all := lw_g (lw_at lw_m3 179 rfl) rfl
theorem q800 : (Jvm.Cond.code ({ cls := "ObligingPosts$Reader", name := "number", desc := "(II)I" } : Jvm.MethodName) prog_8_method_7_code (4 : Nat) (Option.some Jvm.ClassFile.FieldType.int)) ∈ lw_all := lw_g (lw_at lw_m3 180 rfl) rfl
theorem q801 : (Jvm.Cond.stringRef "ObligingPosts$Reader" (163 : Nat) "law") ∈ lw_tbl := lw_at lw_m3 181 rfl
theorem q802 : (Jvm.Cond.stringRef "ObligingPosts$Reader" (167 : Nat) "odds") ∈ lw_tbl := lw_at lw_m3 182 rfl
theorem q803 : (Jvm.Cond.methodLink "ObligingPosts$Reader" (177 : Nat) ({ cls := "ObligingPosts$Reader", name := "toldLine", desc := "()V" } : Jvm.MethodName)) ∈ lw_all := lw_g (lw_at lw_m3 183 rfl) rfl
theorem q804 : (Jvm.Cond.privateMethod ({ cls := "ObligingPosts$Reader", name := "toldLine", desc := "()V" } : Jvm.MethodName)) ∈ lw_tbl := lw_at lw_m3 184 rfl
theorem q805 : (Jvm.Cond.instanceMethod ({ cls := "ObligingPosts$Reader", name := "toldLine", desc := "()V" } : Jvm.MethodName)) ∈ lw_all := lw_g (lw_at lw_m3 185 rfl) rfl
theorem q806 : (Jvm.Cond.code ({ cls := "ObligingPosts$Reader", name := "toldLine", desc := "()V" } : Jvm.MethodName) prog_8_method_12_code (2 : Nat) (Option.none : Option Jvm.ClassFile.FieldType)) ∈ lw_all := lw_g (lw_at lw_m3 186 rfl) rfl
theorem q807 : (Jvm.Cond.stringRef "ObligingPosts$Reader" (116 : Nat) "inn") ∈ lw_tbl := lw_at lw_m3 187 rfl
theorem q808 : (Jvm.Cond.methodLink "ObligingPosts$Reader" (118 : Nat) ({ cls := "ObligingPosts$Reader", name := "line", desc := "(Ljava/lang/String;II)Z" } : Jvm.MethodName)) ∈ lw_all := lw_g (lw_at lw_m3 188 rfl) rfl
theorem q809 : (Jvm.Cond.privateMethod ({ cls := "ObligingPosts$Reader", name := "line", desc := "(Ljava/lang/String;II)Z" } : Jvm.MethodName)) ∈ lw_tbl := lw_at lw_m3 189 rfl
theorem q810 : (Jvm.Cond.instanceMethod ({ cls := "ObligingPosts$Reader", name := "line", desc := "(Ljava/lang/String;II)Z" } : Jvm.MethodName)) ∈ lw_all := lw_g (lw_at lw_m3 190 rfl) rfl
theorem q811 : (Jvm.Cond.code ({ cls := "ObligingPosts$Reader", name := "line", desc := "(Ljava/lang/String;II)Z" } : Jvm.MethodName) prog_8_method_9_code (4 : Nat) (Option.some Jvm.ClassFile.FieldType.boolean)) ∈ lw_all := lw_g (lw_at lw_m3 191 rfl) rfl
theorem q812 : (Jvm.Cond.stringRef "ObligingPosts$Reader" (125 : Nat) "room") ∈ lw_tbl := lw_at lw_m3 192 rfl
theorem q813 : (Jvm.Cond.stringRef "ObligingPosts$Reader" (129 : Nat) "post") ∈ lw_tbl := lw_at lw_m3 193 rfl
theorem q814 : (Jvm.Cond.interfaceEntry "ObligingPosts$Reader" (89 : Nat)) ∈ lw_tbl := lw_at lw_m3 194 rfl
theorem q815 : (Jvm.Cond.methodLink "ObligingPosts$Reader" (89 : Nat) ({ cls := "java/util/List", name := "size", desc := "()I" } : Jvm.MethodName)) ∈ lw_all := lw_g (lw_at lw_m3 195 rfl) rfl
theorem q824 : (Jvm.Cond.classLink "ObligingPosts$Reader" (98 : Nat) "ObligingPosts$Post") ∈ lw_all := lw_g (lw_at lw_m3 204 rfl) rfl
theorem q826 : (Jvm.Cond.methodLinkNest "ObligingPosts$Reader" (131 : Nat) ({ cls := "ObligingPosts$Post", name := "<init>", desc := "()V" } : Jvm.MethodName) "ObligingPosts") ∈ lw_tbl := lw_at lw_m3 206 rfl
theorem q833 : (Jvm.Cond.fieldLinkNest "ObligingPosts$Reader" (105 : Nat) "ObligingPosts$Post" "to" "[I" "ObligingPosts") ∈ lw_tbl := lw_at lw_m3 213 rfl
theorem q839 : (Jvm.Cond.fieldLinkNest "ObligingPosts$Reader" (100 : Nat) "ObligingPosts$Post" "many" "I" "ObligingPosts") ∈ lw_tbl := lw_at lw_m3 219 rfl
theorem q843 : (Jvm.Cond.fieldLinkNest "ObligingPosts$Reader" (146 : Nat) "ObligingPosts$Post" "arm" "I" "ObligingPosts") ∈ lw_tbl := lw_at lw_m3 223 rfl
theorem q852 : (Jvm.Cond.interfaceEntry "ObligingPosts$Reader" (132 : Nat)) ∈ lw_tbl := lw_at lw_m3 232 rfl
theorem q853 : (Jvm.Cond.methodLink "ObligingPosts$Reader" (132 : Nat) ({ cls := "java/util/List", name := "add", desc := "(Ljava/lang/Object;)Z" } : Jvm.MethodName)) ∈ lw_all := lw_g (lw_at lw_m3 233 rfl) rfl
theorem q896 : (Jvm.Cond.selects "ObligingPosts$Reader" ({ cls := "java/lang/Object", name := "getClass", desc := "()Ljava/lang/Class;" } : Jvm.MethodName) ({ cls := "java/lang/Object", name := "getClass", desc := "()Ljava/lang/Class;" } : Jvm.MethodName)) ∈ lw_all := lw_g (lw_at lw_m4 36 rfl) rfl
theorem q916 : (Jvm.Cond.stringRef "ObligingPosts$Reader" (136 : Nat) "road") ∈ lw_tbl := lw_at lw_m4 56 rfl
theorem q917 : (Jvm.Cond.methodLink "ObligingPosts$Reader" (138 : Nat) ({ cls := "ObligingPosts$Reader", name := "roadLine", desc := "()V" } : Jvm.MethodName)) ∈ lw_all := lw_g (lw_at lw_m4 57 rfl) rfl
theorem q918 : (Jvm.Cond.privateMethod ({ cls := "ObligingPosts$Reader", name := "roadLine", desc := "()V" } : Jvm.MethodName)) ∈ lw_tbl := lw_at lw_m4 58 rfl
theorem q919 : (Jvm.Cond.instanceMethod ({ cls := "ObligingPosts$Reader", name := "roadLine", desc := "()V" } : Jvm.MethodName)) ∈ lw_all := lw_g (lw_at lw_m4 59 rfl) rfl
theorem q920 : (Jvm.Cond.code ({ cls := "ObligingPosts$Reader", name := "roadLine", desc := "()V" } : Jvm.MethodName) prog_8_method_11_code (3 : Nat) (Option.none : Option Jvm.ClassFile.FieldType)) ∈ lw_all := lw_g (lw_at lw_m4 60 rfl) rfl
theorem q921 : (Jvm.Cond.interfaceEntry "ObligingPosts$Reader" (94 : Nat)) ∈ lw_tbl := lw_at lw_m4 61 rfl
theorem q922 : (Jvm.Cond.methodLink "ObligingPosts$Reader" (94 : Nat) ({ cls := "java/util/List", name := "get", desc := "(I)Ljava/lang/Object;" } : Jvm.MethodName)) ∈ lw_all := lw_g (lw_at lw_m4 62 rfl) rfl
theorem q938 : (Jvm.Cond.methodLink "ObligingPosts$Reader" (101 : Nat) ({ cls := "ObligingPosts$Reader", name := "postHere", desc := "()I" } : Jvm.MethodName)) ∈ lw_all := lw_g (lw_at lw_m4 78 rfl) rfl
theorem q939 : (Jvm.Cond.privateMethod ({ cls := "ObligingPosts$Reader", name := "postHere", desc := "()I" } : Jvm.MethodName)) ∈ lw_tbl := lw_at lw_m4 79 rfl
theorem q940 : (Jvm.Cond.instanceMethod ({ cls := "ObligingPosts$Reader", name := "postHere", desc := "()I" } : Jvm.MethodName)) ∈ lw_all := lw_g (lw_at lw_m4 80 rfl) rfl
theorem q941 : (Jvm.Cond.code ({ cls := "ObligingPosts$Reader", name := "postHere", desc := "()I" } : Jvm.MethodName) prog_8_method_10_code (1 : Nat) (Option.some Jvm.ClassFile.FieldType.int)) ∈ lw_all := lw_g (lw_at lw_m4 81 rfl) rfl
theorem q942 : (Jvm.Cond.stringRef "ObligingPosts$Reader" (104 : Nat) "in") ∈ lw_tbl := lw_at lw_m4 82 rfl
theorem q943 : (Jvm.Cond.stringRef "ObligingPosts$Reader" (112 : Nat) "to") ∈ lw_tbl := lw_at lw_m4 83 rfl
theorem q944 : (Jvm.Cond.stringRef "ObligingPosts$Reader" (141 : Nat) "arm") ∈ lw_tbl := lw_at lw_m4 84 rfl
theorem q945 : (Jvm.Cond.stringRef "ObligingPosts$Reader" (148 : Nat) "walker") ∈ lw_tbl := lw_at lw_m4 85 rfl
theorem q946 : (Jvm.Cond.classLink "ObligingPosts$Reader" (153 : Nat) "ObligingPosts$Walker") ∈ lw_all := lw_g (lw_at lw_m4 86 rfl) rfl
theorem q948 : (Jvm.Cond.stringRef "ObligingPosts$Reader" (155 : Nat) "at") ∈ lw_tbl := lw_at lw_m4 88 rfl
theorem q949 : (Jvm.Cond.methodLink "ObligingPosts$Reader" (156 : Nat) ({ cls := "ObligingPosts$Walker", name := "<init>", desc := "(II)V" } : Jvm.MethodName)) ∈ lw_all := lw_g (lw_at lw_m4 89 rfl) rfl
theorem q2505 : (Jvm.Cond.castable "ObligingPosts$Reader" "java/lang/Object") ∈ lw_tbl := lw_at lw_m10 205 rfl
theorem q160 : (Jvm.Cond.initialized "ObligingPosts$Fault") ∈ lw_all := lw_g (lw_at lw_m1 20 rfl) rfl
theorem q213 : (Jvm.Cond.selects "ObligingPosts$Fault" ({ cls := "java/lang/Throwable", name := "fillInStackTrace", desc := "()Ljava/lang/Throwable;" } : Jvm.MethodName) ({ cls := "java/lang/Throwable", name := "fillInStackTrace", desc := "()Ljava/lang/Throwable;" } : Jvm.MethodName)) ∈ lw_all := lw_g (lw_at lw_m1 73 rfl) rfl
theorem q762 : (Jvm.Cond.instantiable "ObligingPosts$Fault" (8 : Nat)) ∈ lw_all := lw_g (lw_at lw_m3 142 rfl) rfl
theorem q763 : (Jvm.Cond.castable "ObligingPosts$Fault" "ObligingPosts$Fault") ∈ lw_tbl := lw_at lw_m3 143 rfl
theorem q764 : (Jvm.Cond.selects "ObligingPosts$Fault" ({ cls := "java/lang/Throwable", name := "fillInStackTrace", desc := "(I)Ljava/lang/Throwable;" } : Jvm.MethodName) ({ cls := "java/lang/Throwable", name := "fillInStackTrace", desc := "(I)Ljava/lang/Throwable;" } : Jvm.MethodName)) ∈ lw_all := lw_g (lw_at lw_m3 144 rfl) rfl
theorem q765 : (Jvm.Cond.lays "ObligingPosts$Fault" "java/lang/Throwable" "cause" "Ljava/lang/Throwable;") ∈ lw_all := lw_g (lw_at lw_m3 145 rfl) rfl
theorem q766 : (Jvm.Cond.lays "ObligingPosts$Fault" "java/lang/Throwable" "stackTrace" "[Ljava/lang/StackTraceElement;") ∈ lw_all := lw_g (lw_at lw_m3 146 rfl) rfl
theorem q767 : (Jvm.Cond.lays "ObligingPosts$Fault" "java/lang/Throwable" "suppressedExceptions" "Ljava/util/List;") ∈ lw_all := lw_g (lw_at lw_m3 147 rfl) rfl
theorem q768 : (Jvm.Cond.lays "ObligingPosts$Fault" "java/lang/Throwable" "detailMessage" "Ljava/lang/String;") ∈ lw_all := lw_g (lw_at lw_m3 148 rfl) rfl
theorem q769 : (Jvm.Cond.lays "ObligingPosts$Fault" "java/lang/Throwable" "backtrace" "Ljava/lang/Object;") ∈ lw_all := lw_g (lw_at lw_m3 149 rfl) rfl
theorem q771 : (Jvm.Cond.instanceMethod ({ cls := "ObligingPosts$Fault", name := "<init>", desc := "(II)V" } : Jvm.MethodName)) ∈ lw_all := lw_g (lw_at lw_m3 151 rfl) rfl
theorem q772 : (Jvm.Cond.code ({ cls := "ObligingPosts$Fault", name := "<init>", desc := "(II)V" } : Jvm.MethodName) prog_4_method_1_code (3 : Nat) (Option.none : Option Jvm.ClassFile.FieldType)) ∈ lw_all := lw_g (lw_at lw_m3 152 rfl) rfl
theorem q773 : (Jvm.Cond.methodLink "ObligingPosts$Fault" (1 : Nat) ({ cls := "java/lang/RuntimeException", name := "<init>", desc := "(Ljava/lang/String;Ljava/lang/Throwable;ZZ)V" } : Jvm.MethodName)) ∈ lw_all := lw_g (lw_at lw_m3 153 rfl) rfl
theorem q782 : (Jvm.Cond.fieldLink "ObligingPosts$Fault" (7 : Nat) "ObligingPosts$Fault" "kind" "I") ∈ lw_all := lw_g (lw_at lw_m3 162 rfl) rfl
theorem q784 : (Jvm.Cond.fieldLink "ObligingPosts$Fault" (13 : Nat) "ObligingPosts$Fault" "place" "I") ∈ lw_all := lw_g (lw_at lw_m3 164 rfl) rfl
theorem q786 : (Jvm.Cond.laysFinal "ObligingPosts$Fault" "ObligingPosts$Fault" "kind" "I") ∈ lw_all := lw_g (lw_at lw_m3 166 rfl) rfl
theorem q787 : (Jvm.Cond.soleField "ObligingPosts$Fault" "kind") ∈ lw_all := lw_g (lw_at lw_m3 167 rfl) rfl
theorem q788 : (Jvm.Cond.laysFinal "ObligingPosts$Fault" "ObligingPosts$Fault" "place" "I") ∈ lw_all := lw_g (lw_at lw_m3 168 rfl) rfl
theorem q789 : (Jvm.Cond.soleField "ObligingPosts$Fault" "place") ∈ lw_all := lw_g (lw_at lw_m3 169 rfl) rfl
theorem q790 : (Jvm.Cond.lays "ObligingPosts$Fault" "java/lang/Throwable" "depth" "I") ∈ lw_all := lw_g (lw_at lw_m3 170 rfl) rfl
theorem q791 : (Jvm.Cond.superclass "ObligingPosts$Fault" "java/lang/RuntimeException") ∈ lw_all := lw_g (lw_at lw_m3 171 rfl) rfl
theorem q892 : (Jvm.Cond.selects "ObligingPosts$Fault" ({ cls := "java/lang/Object", name := "getClass", desc := "()Ljava/lang/Class;" } : Jvm.MethodName) ({ cls := "java/lang/Object", name := "getClass", desc := "()Ljava/lang/Class;" } : Jvm.MethodName)) ∈ lw_all := lw_g (lw_at lw_m4 32 rfl) rfl
theorem q2506 : (Jvm.Cond.castable "ObligingPosts$Fault" "java/lang/Object") ∈ lw_tbl := lw_at lw_m10 206 rfl
theorem q161 : (Jvm.Cond.initialized "ObligingPosts$Post") ∈ lw_all := lw_g (lw_at lw_m1 21 rfl) rfl
theorem q825 : (Jvm.Cond.instantiable "ObligingPosts$Post" (3 : Nat)) ∈ lw_all := lw_g (lw_at lw_m3 205 rfl) rfl
theorem q827 : (Jvm.Cond.instanceMethod ({ cls := "ObligingPosts$Post", name := "<init>", desc := "()V" } : Jvm.MethodName)) ∈ lw_all := lw_g (lw_at lw_m3 207 rfl) rfl
theorem q828 : (Jvm.Cond.code ({ cls := "ObligingPosts$Post", name := "<init>", desc := "()V" } : Jvm.MethodName) prog_7_method_1_code (1 : Nat) (Option.none : Option Jvm.ClassFile.FieldType)) ∈ lw_all := lw_g (lw_at lw_m3 208 rfl) rfl
theorem q829 : (Jvm.Cond.methodLink "ObligingPosts$Post" (3 : Nat) ({ cls := "java/lang/Object", name := "<init>", desc := "()V" } : Jvm.MethodName)) ∈ lw_all := lw_g (lw_at lw_m3 209 rfl) rfl
theorem q830 : (Jvm.Cond.fieldLink "ObligingPosts$Post" (9 : Nat) "ObligingPosts$Post" "to" "[I") ∈ lw_all := lw_g (lw_at lw_m3 210 rfl) rfl
theorem q836 : (Jvm.Cond.fieldLink "ObligingPosts$Post" (22 : Nat) "ObligingPosts$Post" "many" "I") ∈ lw_all := lw_g (lw_at lw_m3 216 rfl) rfl
theorem q841 : (Jvm.Cond.fieldLink "ObligingPosts$Post" (26 : Nat) "ObligingPosts$Post" "arm" "I") ∈ lw_all := lw_g (lw_at lw_m3 221 rfl) rfl
theorem q845 : (Jvm.Cond.laysFinal "ObligingPosts$Post" "ObligingPosts$Post" "to" "[I") ∈ lw_all := lw_g (lw_at lw_m3 225 rfl) rfl
theorem q846 : (Jvm.Cond.soleField "ObligingPosts$Post" "to") ∈ lw_all := lw_g (lw_at lw_m3 226 rfl) rfl
theorem q847 : (Jvm.Cond.lays "ObligingPosts$Post" "ObligingPosts$Post" "many" "I") ∈ lw_all := lw_g (lw_at lw_m3 227 rfl) rfl
theorem q848 : (Jvm.Cond.soleField "ObligingPosts$Post" "many") ∈ lw_all := lw_g (lw_at lw_m3 228 rfl) rfl
theorem q849 : (Jvm.Cond.lays "ObligingPosts$Post" "ObligingPosts$Post" "arm" "I") ∈ lw_all := lw_g (lw_at lw_m3 229 rfl) rfl
theorem q850 : (Jvm.Cond.soleField "ObligingPosts$Post" "arm") ∈ lw_all := lw_g (lw_at lw_m3 230 rfl) rfl
theorem q851 : (Jvm.Cond.superclass "ObligingPosts$Post" "java/lang/Object") ∈ lw_all := lw_g (lw_at lw_m3 231 rfl) rfl
theorem q895 : (Jvm.Cond.selects "ObligingPosts$Post" ({ cls := "java/lang/Object", name := "getClass", desc := "()Ljava/lang/Class;" } : Jvm.MethodName) ({ cls := "java/lang/Object", name := "getClass", desc := "()Ljava/lang/Class;" } : Jvm.MethodName)) ∈ lw_all := lw_g (lw_at lw_m4 35 rfl) rfl
theorem q1653 : (Jvm.Cond.instanceMethod ({ cls := "ObligingPosts$Post", name := "same", desc := "()LObligingPosts$Post;" } : Jvm.MethodName)) ∈ lw_all := lw_g (lw_at lw_m7 73 rfl) rfl
theorem q1654 : (Jvm.Cond.selects "ObligingPosts$Post" ({ cls := "ObligingPosts$Post", name := "same", desc := "()LObligingPosts$Post;" } : Jvm.MethodName) ({ cls := "ObligingPosts$Post", name := "same", desc := "()LObligingPosts$Post;" } : Jvm.MethodName)) ∈ lw_all := lw_g (lw_at lw_m7 74 rfl) rfl
theorem q1655 : (Jvm.Cond.code ({ cls := "ObligingPosts$Post", name := "same", desc := "()LObligingPosts$Post;" } : Jvm.MethodName) prog_7_method_2_code (2 : Nat) (Option.some (Jvm.ClassFile.FieldType.object "ObligingPosts$Post"))) ∈ lw_all := lw_g (lw_at lw_m7 75 rfl) rfl
theorem q1656 : (Jvm.Cond.classLink "ObligingPosts$Post" (10 : Nat) "ObligingPosts$Post") ∈ lw_all := lw_g (lw_at lw_m7 76 rfl) rfl
theorem q1657 : (Jvm.Cond.methodLink "ObligingPosts$Post" (15 : Nat) ({ cls := "ObligingPosts$Post", name := "<init>", desc := "()V" } : Jvm.MethodName)) ∈ lw_all := lw_g (lw_at lw_m7 77 rfl) rfl
theorem q1658 : (Jvm.Cond.methodLink "ObligingPosts$Post" (16 : Nat) ({ cls := "java/lang/System", name := "arraycopy", desc := "(Ljava/lang/Object;ILjava/lang/Object;II)V" } : Jvm.MethodName)) ∈ lw_all := lw_g (lw_at lw_m7 78 rfl) rfl
theorem q2507 : (Jvm.Cond.castable "ObligingPosts$Post" "java/lang/Object") ∈ lw_tbl := lw_at lw_m10 207 rfl
theorem q166 : (Jvm.Cond.initialized "ObligingPosts$Walker") ∈ lw_all := lw_g (lw_at lw_m1 26 rfl) rfl
theorem q899 : (Jvm.Cond.selects "ObligingPosts$Walker" ({ cls := "java/lang/Object", name := "getClass", desc := "()Ljava/lang/Class;" } : Jvm.MethodName) ({ cls := "java/lang/Object", name := "getClass", desc := "()Ljava/lang/Class;" } : Jvm.MethodName)) ∈ lw_all := lw_g (lw_at lw_m4 39 rfl) rfl
theorem q947 : (Jvm.Cond.instantiable "ObligingPosts$Walker" (2 : Nat)) ∈ lw_all := lw_g (lw_at lw_m4 87 rfl) rfl
theorem q950 : (Jvm.Cond.instanceMethod ({ cls := "ObligingPosts$Walker", name := "<init>", desc := "(II)V" } : Jvm.MethodName)) ∈ lw_all := lw_g (lw_at lw_m4 90 rfl) rfl
theorem q951 : (Jvm.Cond.code ({ cls := "ObligingPosts$Walker", name := "<init>", desc := "(II)V" } : Jvm.MethodName) prog_11_method_1_code (3 : Nat) (Option.none : Option Jvm.ClassFile.FieldType)) ∈ lw_all := lw_g (lw_at lw_m4 91 rfl) rfl
theorem q952 : (Jvm.Cond.methodLink "ObligingPosts$Walker" (1 : Nat) ({ cls := "java/lang/Object", name := "<init>", desc := "()V" } : Jvm.MethodName)) ∈ lw_all := lw_g (lw_at lw_m4 92 rfl) rfl
theorem q953 : (Jvm.Cond.fieldLink "ObligingPosts$Walker" (7 : Nat) "ObligingPosts$Walker" "post" "I") ∈ lw_all := lw_g (lw_at lw_m4 93 rfl) rfl
theorem q956 : (Jvm.Cond.fieldLink "ObligingPosts$Walker" (13 : Nat) "ObligingPosts$Walker" "hour" "I") ∈ lw_all := lw_g (lw_at lw_m4 96 rfl) rfl
theorem q959 : (Jvm.Cond.laysFinal "ObligingPosts$Walker" "ObligingPosts$Walker" "post" "I") ∈ lw_all := lw_g (lw_at lw_m4 99 rfl) rfl
theorem q960 : (Jvm.Cond.soleField "ObligingPosts$Walker" "post") ∈ lw_all := lw_g (lw_at lw_m4 100 rfl) rfl
theorem q961 : (Jvm.Cond.laysFinal "ObligingPosts$Walker" "ObligingPosts$Walker" "hour" "I") ∈ lw_all := lw_g (lw_at lw_m4 101 rfl) rfl
theorem q962 : (Jvm.Cond.soleField "ObligingPosts$Walker" "hour") ∈ lw_all := lw_g (lw_at lw_m4 102 rfl) rfl
theorem q963 : (Jvm.Cond.superclass "ObligingPosts$Walker" "java/lang/Object") ∈ lw_all := lw_g (lw_at lw_m4 103 rfl) rfl
theorem q2508 : (Jvm.Cond.castable "ObligingPosts$Walker" "java/lang/Object") ∈ lw_tbl := lw_at lw_m10 208 rfl
theorem q168 : (Jvm.Cond.initialized "ObligingPosts$Deed") ∈ lw_all := lw_g (lw_at lw_m1 28 rfl) rfl
theorem q891 : (Jvm.Cond.selects "ObligingPosts$Deed" ({ cls := "java/lang/Object", name := "getClass", desc := "()Ljava/lang/Class;" } : Jvm.MethodName) ({ cls := "java/lang/Object", name := "getClass", desc := "()Ljava/lang/Class;" } : Jvm.MethodName)) ∈ lw_all := lw_g (lw_at lw_m4 31 rfl) rfl
theorem q1512 : (Jvm.Cond.instantiable "ObligingPosts$Deed" (3 : Nat)) ∈ lw_all := lw_g (lw_at lw_m6 172 rfl) rfl
theorem q1514 : (Jvm.Cond.instanceMethod ({ cls := "ObligingPosts$Deed", name := "<init>", desc := "(ZII)V" } : Jvm.MethodName)) ∈ lw_all := lw_g (lw_at lw_m6 174 rfl) rfl
theorem q1515 : (Jvm.Cond.code ({ cls := "ObligingPosts$Deed", name := "<init>", desc := "(ZII)V" } : Jvm.MethodName) prog_3_method_1_code (4 : Nat) (Option.none : Option Jvm.ClassFile.FieldType)) ∈ lw_all := lw_g (lw_at lw_m6 175 rfl) rfl
theorem q1516 : (Jvm.Cond.methodLink "ObligingPosts$Deed" (1 : Nat) ({ cls := "java/lang/Object", name := "<init>", desc := "()V" } : Jvm.MethodName)) ∈ lw_all := lw_g (lw_at lw_m6 176 rfl) rfl
theorem q1517 : (Jvm.Cond.fieldLink "ObligingPosts$Deed" (7 : Nat) "ObligingPosts$Deed" "isTurn" "Z") ∈ lw_all := lw_g (lw_at lw_m6 177 rfl) rfl
theorem q1519 : (Jvm.Cond.fieldLink "ObligingPosts$Deed" (13 : Nat) "ObligingPosts$Deed" "who" "I") ∈ lw_all := lw_g (lw_at lw_m6 179 rfl) rfl
theorem q1521 : (Jvm.Cond.fieldLink "ObligingPosts$Deed" (17 : Nat) "ObligingPosts$Deed" "hour" "I") ∈ lw_all := lw_g (lw_at lw_m6 181 rfl) rfl
theorem q1523 : (Jvm.Cond.laysFinal "ObligingPosts$Deed" "ObligingPosts$Deed" "isTurn" "Z") ∈ lw_all := lw_g (lw_at lw_m6 183 rfl) rfl
theorem q1524 : (Jvm.Cond.soleField "ObligingPosts$Deed" "isTurn") ∈ lw_all := lw_g (lw_at lw_m6 184 rfl) rfl
theorem q1525 : (Jvm.Cond.laysFinal "ObligingPosts$Deed" "ObligingPosts$Deed" "who" "I") ∈ lw_all := lw_g (lw_at lw_m6 185 rfl) rfl
theorem q1526 : (Jvm.Cond.soleField "ObligingPosts$Deed" "who") ∈ lw_all := lw_g (lw_at lw_m6 186 rfl) rfl
theorem q1527 : (Jvm.Cond.laysFinal "ObligingPosts$Deed" "ObligingPosts$Deed" "hour" "I") ∈ lw_all := lw_g (lw_at lw_m6 187 rfl) rfl
theorem q1528 : (Jvm.Cond.soleField "ObligingPosts$Deed" "hour") ∈ lw_all := lw_g (lw_at lw_m6 188 rfl) rfl
theorem q1529 : (Jvm.Cond.superclass "ObligingPosts$Deed" "java/lang/Object") ∈ lw_all := lw_g (lw_at lw_m6 189 rfl) rfl
theorem q2509 : (Jvm.Cond.castable "ObligingPosts$Deed" "java/lang/Object") ∈ lw_tbl := lw_at lw_m10 209 rfl
theorem q140 : (Jvm.Cond.initialized "ObligingPostsLaw") ∈ lw_all := lw_g (lw_at lw_m1 0 rfl) rfl
theorem q175 : (Jvm.Cond.methodLink "ObligingPostsLaw" (309 : Nat) ({ cls := "ObligingPosts", name := "row", desc := "(III)I" } : Jvm.MethodName)) ∈ lw_all := lw_g (lw_at lw_m1 35 rfl) rfl
theorem q281 : (Jvm.Cond.methodLink "ObligingPostsLaw" (315 : Nat) ({ cls := "ObligingPosts", name := "write", desc := "(IIJ)I" } : Jvm.MethodName)) ∈ lw_all := lw_g (lw_at lw_m1 141 rfl) rfl
theorem q360 : (Jvm.Cond.methodLink "ObligingPostsLaw" (320 : Nat) ({ cls := "ObligingPosts", name := "paste", desc := "(IIIII)I" } : Jvm.MethodName)) ∈ lw_all := lw_g (lw_at lw_m1 220 rfl) rfl
theorem q376 : (Jvm.Cond.classLink "ObligingPostsLaw" (7 : Nat) "ObligingPosts") ∈ lw_all := lw_g (lw_at lw_m1 236 rfl) rfl
theorem q378 : (Jvm.Cond.methodLink "ObligingPostsLaw" (9 : Nat) ({ cls := "ObligingPosts", name := "<init>", desc := "()V" } : Jvm.MethodName)) ∈ lw_all := lw_g (lw_at lw_m1 238 rfl) rfl
theorem q636 : (Jvm.Cond.methodLink "ObligingPostsLaw" (13 : Nat) ({ cls := "ObligingPosts", name := "feed", desc := "(IIIII)I" } : Jvm.MethodName)) ∈ lw_all := lw_g (lw_at lw_m3 16 rfl) rfl
theorem q640 : (Jvm.Cond.methodLink "ObligingPostsLaw" (18 : Nat) ({ cls := "ObligingPosts", name := "end", desc := "(I)I" } : Jvm.MethodName)) ∈ lw_all := lw_g (lw_at lw_m3 20 rfl) rfl
theorem q644 : (Jvm.Cond.methodLink "ObligingPostsLaw" (23 : Nat) ({ cls := "ObligingPosts", name := "heath", desc := "()I" } : Jvm.MethodName)) ∈ lw_all := lw_g (lw_at lw_m3 24 rfl) rfl
theorem q968 : (Jvm.Cond.methodLink "ObligingPostsLaw" (28 : Nat) ({ cls := "ObligingPosts", name := "fault", desc := "(I)I" } : Jvm.MethodName)) ∈ lw_all := lw_g (lw_at lw_m4 108 rfl) rfl
theorem q972 : (Jvm.Cond.methodLink "ObligingPostsLaw" (32 : Nat) ({ cls := "ObligingPosts", name := "room", desc := "(I)I" } : Jvm.MethodName)) ∈ lw_all := lw_g (lw_at lw_m4 112 rfl) rfl
theorem q980 : (Jvm.Cond.methodLink "ObligingPostsLaw" (36 : Nat) ({ cls := "ObligingPosts", name := "roads", desc := "(I)I" } : Jvm.MethodName)) ∈ lw_all := lw_g (lw_at lw_m4 120 rfl) rfl
theorem q1001 : (Jvm.Cond.methodLink "ObligingPostsLaw" (40 : Nat) ({ cls := "ObligingPosts", name := "goes", desc := "(II)I" } : Jvm.MethodName)) ∈ lw_all := lw_g (lw_at lw_m4 141 rfl) rfl
theorem q1005 : (Jvm.Cond.methodLink "ObligingPostsLaw" (45 : Nat) ({ cls := "ObligingPosts", name := "told", desc := "(I)I" } : Jvm.MethodName)) ∈ lw_all := lw_g (lw_at lw_m4 145 rfl) rfl
theorem q1009 : (Jvm.Cond.methodLink "ObligingPostsLaw" (49 : Nat) ({ cls := "ObligingPosts", name := "walker", desc := "(II)I" } : Jvm.MethodName)) ∈ lw_all := lw_g (lw_at lw_m4 149 rfl) rfl
theorem q1029 : (Jvm.Cond.methodLink "ObligingPostsLaw" (133 : Nat) ({ cls := "ObligingPosts", name := "armless", desc := "()I" } : Jvm.MethodName)) ∈ lw_all := lw_g (lw_at lw_m4 169 rfl) rfl
theorem q1033 : (Jvm.Cond.methodLink "ObligingPostsLaw" (97 : Nat) ({ cls := "ObligingPosts", name := "lingers", desc := "(I)I" } : Jvm.MethodName)) ∈ lw_all := lw_g (lw_at lw_m4 173 rfl) rfl
theorem q1091 : (Jvm.Cond.methodLink "ObligingPostsLaw" (101 : Nat) ({ cls := "ObligingPosts", name := "doors", desc := "(I)I" } : Jvm.MethodName)) ∈ lw_all := lw_g (lw_at lw_m4 231 rfl) rfl
theorem q1099 : (Jvm.Cond.methodLink "ObligingPostsLaw" (53 : Nat) ({ cls := "ObligingPosts", name := "at", desc := "(II)I" } : Jvm.MethodName)) ∈ lw_all := lw_g (lw_at lw_m4 239 rfl) rfl
theorem q1111 : (Jvm.Cond.methodLink "ObligingPostsLaw" (57 : Nat) ({ cls := "ObligingPosts", name := "arm", desc := "(II)I" } : Jvm.MethodName)) ∈ lw_all := lw_g (lw_at lw_m5 11 rfl) rfl
theorem q1115 : (Jvm.Cond.methodLink "ObligingPostsLaw" (61 : Nat) ({ cls := "ObligingPosts", name := "here", desc := "(II)I" } : Jvm.MethodName)) ∈ lw_all := lw_g (lw_at lw_m5 15 rfl) rfl
theorem q1128 : (Jvm.Cond.methodLink "ObligingPostsLaw" (65 : Nat) ({ cls := "ObligingPosts", name := "sent", desc := "(I)I" } : Jvm.MethodName)) ∈ lw_all := lw_g (lw_at lw_m5 28 rfl) rfl
theorem q1136 : (Jvm.Cond.methodLink "ObligingPostsLaw" (69 : Nat) ({ cls := "ObligingPosts", name := "sends", desc := "(I)I" } : Jvm.MethodName)) ∈ lw_all := lw_g (lw_at lw_m5 36 rfl) rfl
theorem q1144 : (Jvm.Cond.methodLink "ObligingPostsLaw" (73 : Nat) ({ cls := "ObligingPosts", name := "used", desc := "(II)I" } : Jvm.MethodName)) ∈ lw_all := lw_g (lw_at lw_m5 44 rfl) rfl
theorem q1148 : (Jvm.Cond.methodLink "ObligingPostsLaw" (77 : Nat) ({ cls := "ObligingPosts", name := "walks", desc := "(I)I" } : Jvm.MethodName)) ∈ lw_all := lw_g (lw_at lw_m5 48 rfl) rfl
theorem q1152 : (Jvm.Cond.methodLink "ObligingPostsLaw" (81 : Nat) ({ cls := "ObligingPosts", name := "home", desc := "(I)I" } : Jvm.MethodName)) ∈ lw_all := lw_g (lw_at lw_m5 52 rfl) rfl
theorem q1161 : (Jvm.Cond.methodLink "ObligingPostsLaw" (85 : Nat) ({ cls := "ObligingPosts", name := "inn", desc := "(I)I" } : Jvm.MethodName)) ∈ lw_all := lw_g (lw_at lw_m5 61 rfl) rfl
theorem q1165 : (Jvm.Cond.methodLink "ObligingPostsLaw" (89 : Nat) ({ cls := "ObligingPosts", name := "trail", desc := "(I)I" } : Jvm.MethodName)) ∈ lw_all := lw_g (lw_at lw_m5 65 rfl) rfl
theorem q1173 : (Jvm.Cond.methodLink "ObligingPostsLaw" (93 : Nat) ({ cls := "ObligingPosts", name := "again", desc := "(I)I" } : Jvm.MethodName)) ∈ lw_all := lw_g (lw_at lw_m5 73 rfl) rfl
theorem q1178 : (Jvm.Cond.methodLink "ObligingPostsLaw" (105 : Nat) ({ cls := "ObligingPosts", name := "guests", desc := "(II)I" } : Jvm.MethodName)) ∈ lw_all := lw_g (lw_at lw_m5 78 rfl) rfl
theorem q1191 : (Jvm.Cond.methodLink "ObligingPostsLaw" (109 : Nat) ({ cls := "ObligingPosts", name := "full", desc := "(I)I" } : Jvm.MethodName)) ∈ lw_all := lw_g (lw_at lw_m5 91 rfl) rfl
theorem q1195 : (Jvm.Cond.methodLink "ObligingPostsLaw" (113 : Nat) ({ cls := "ObligingPosts", name := "refuses", desc := "(I)I" } : Jvm.MethodName)) ∈ lw_all := lw_g (lw_at lw_m5 95 rfl) rfl
theorem q1199 : (Jvm.Cond.methodLink "ObligingPostsLaw" (117 : Nat) ({ cls := "ObligingPosts", name := "inside", desc := "(I)I" } : Jvm.MethodName)) ∈ lw_all := lw_g (lw_at lw_m5 99 rfl) rfl
theorem q1207 : (Jvm.Cond.methodLink "ObligingPostsLaw" (121 : Nat) ({ cls := "ObligingPosts", name := "outside", desc := "(I)I" } : Jvm.MethodName)) ∈ lw_all := lw_g (lw_at lw_m5 107 rfl) rfl
theorem q1211 : (Jvm.Cond.methodLink "ObligingPostsLaw" (125 : Nat) ({ cls := "ObligingPosts", name := "done", desc := "()I" } : Jvm.MethodName)) ∈ lw_all := lw_g (lw_at lw_m5 111 rfl) rfl
theorem q1215 : (Jvm.Cond.methodLink "ObligingPostsLaw" (129 : Nat) ({ cls := "ObligingPosts", name := "crowd", desc := "(I)I" } : Jvm.MethodName)) ∈ lw_all := lw_g (lw_at lw_m5 115 rfl) rfl
theorem q1220 : (Jvm.Cond.methodLink "ObligingPostsLaw" (137 : Nat) ({ cls := "ObligingPosts", name := "meet", desc := "(II)I" } : Jvm.MethodName)) ∈ lw_all := lw_g (lw_at lw_m5 120 rfl) rfl
theorem q1228 : (Jvm.Cond.methodLink "ObligingPostsLaw" (141 : Nat) ({ cls := "ObligingPosts", name := "busy", desc := "()I" } : Jvm.MethodName)) ∈ lw_all := lw_g (lw_at lw_m5 128 rfl) rfl
theorem q1232 : (Jvm.Cond.methodLink "ObligingPostsLaw" (145 : Nat) ({ cls := "ObligingPosts", name := "idle", desc := "()I" } : Jvm.MethodName)) ∈ lw_all := lw_g (lw_at lw_m5 132 rfl) rfl
theorem q1236 : (Jvm.Cond.methodLink "ObligingPostsLaw" (149 : Nat) ({ cls := "ObligingPosts", name := "reach", desc := "(I)I" } : Jvm.MethodName)) ∈ lw_all := lw_g (lw_at lw_m5 136 rfl) rfl
theorem q1244 : (Jvm.Cond.methodLink "ObligingPostsLaw" (153 : Nat) ({ cls := "ObligingPosts", name := "far", desc := "(II)I" } : Jvm.MethodName)) ∈ lw_all := lw_g (lw_at lw_m5 144 rfl) rfl
theorem q1248 : (Jvm.Cond.methodLink "ObligingPostsLaw" (157 : Nat) ({ cls := "ObligingPosts", name := "setting", desc := "(I)I" } : Jvm.MethodName)) ∈ lw_all := lw_g (lw_at lw_m5 148 rfl) rfl
theorem q1256 : (Jvm.Cond.methodLink "ObligingPostsLaw" (161 : Nat) ({ cls := "ObligingPosts", name := "settings", desc := "()I" } : Jvm.MethodName)) ∈ lw_all := lw_g (lw_at lw_m5 156 rfl) rfl
theorem q1264 : (Jvm.Cond.methodLink "ObligingPostsLaw" (165 : Nat) ({ cls := "ObligingPosts", name := "same", desc := "()I" } : Jvm.MethodName)) ∈ lw_all := lw_g (lw_at lw_m5 164 rfl) rfl
theorem q1268 : (Jvm.Cond.methodLink "ObligingPostsLaw" (169 : Nat) ({ cls := "ObligingPosts", name := "alone", desc := "(I)I" } : Jvm.MethodName)) ∈ lw_all := lw_g (lw_at lw_m5 168 rfl) rfl
theorem q1286 : (Jvm.Cond.methodLink "ObligingPostsLaw" (173 : Nat) ({ cls := "ObligingPosts", name := "steps", desc := "(I)I" } : Jvm.MethodName)) ∈ lw_all := lw_g (lw_at lw_m5 186 rfl) rfl
theorem q1290 : (Jvm.Cond.methodLink "ObligingPostsLaw" (177 : Nat) ({ cls := "ObligingPosts", name := "behind", desc := "(I)I" } : Jvm.MethodName)) ∈ lw_all := lw_g (lw_at lw_m5 190 rfl) rfl
theorem q1299 : (Jvm.Cond.methodLink "ObligingPostsLaw" (181 : Nat) ({ cls := "ObligingPosts", name := "nth", desc := "(II)I" } : Jvm.MethodName)) ∈ lw_all := lw_g (lw_at lw_m5 199 rfl) rfl
theorem q1304 : (Jvm.Cond.methodLink "ObligingPostsLaw" (185 : Nat) ({ cls := "ObligingPosts", name := "round", desc := "(I)I" } : Jvm.MethodName)) ∈ lw_all := lw_g (lw_at lw_m5 204 rfl) rfl
theorem q1308 : (Jvm.Cond.methodLink "ObligingPostsLaw" (189 : Nat) ({ cls := "ObligingPosts", name := "houses", desc := "(III)I" } : Jvm.MethodName)) ∈ lw_all := lw_g (lw_at lw_m5 208 rfl) rfl
theorem q1312 : (Jvm.Cond.methodLink "ObligingPostsLaw" (194 : Nat) ({ cls := "ObligingPosts", name := "tree", desc := "(I)I" } : Jvm.MethodName)) ∈ lw_all := lw_g (lw_at lw_m5 212 rfl) rfl
theorem q1328 : (Jvm.Cond.methodLink "ObligingPostsLaw" (198 : Nat) ({ cls := "ObligingPosts", name := "ring", desc := "(I)I" } : Jvm.MethodName)) ∈ lw_all := lw_g (lw_at lw_m5 228 rfl) rfl
theorem q1332 : (Jvm.Cond.methodLink "ObligingPostsLaw" (202 : Nat) ({ cls := "ObligingPosts", name := "trees", desc := "()I" } : Jvm.MethodName)) ∈ lw_all := lw_g (lw_at lw_m5 232 rfl) rfl
theorem q1336 : (Jvm.Cond.methodLink "ObligingPostsLaw" (206 : Nat) ({ cls := "ObligingPosts", name := "point", desc := "(II)I" } : Jvm.MethodName)) ∈ lw_all := lw_g (lw_at lw_m5 236 rfl) rfl
theorem q1341 : (Jvm.Cond.methodLink "ObligingPostsLaw" (210 : Nat) ({ cls := "ObligingPosts", name := "best", desc := "()I" } : Jvm.MethodName)) ∈ lw_all := lw_g (lw_at lw_m6 1 rfl) rfl
theorem q1350 : (Jvm.Cond.methodLink "ObligingPostsLaw" (214 : Nat) ({ cls := "ObligingPosts", name := "crowds", desc := "()I" } : Jvm.MethodName)) ∈ lw_all := lw_g (lw_at lw_m6 10 rfl) rfl
theorem q1354 : (Jvm.Cond.methodLink "ObligingPostsLaw" (218 : Nat) ({ cls := "ObligingPosts", name := "may", desc := "(II)I" } : Jvm.MethodName)) ∈ lw_all := lw_g (lw_at lw_m6 14 rfl) rfl
theorem q1399 : (Jvm.Cond.methodLink "ObligingPostsLaw" (222 : Nat) ({ cls := "ObligingPosts", name := "ask", desc := "(II)I" } : Jvm.MethodName)) ∈ lw_all := lw_g (lw_at lw_m6 59 rfl) rfl
theorem q1403 : (Jvm.Cond.methodLink "ObligingPostsLaw" (226 : Nat) ({ cls := "ObligingPosts", name := "leaves", desc := "(II)I" } : Jvm.MethodName)) ∈ lw_all := lw_g (lw_at lw_m6 63 rfl) rfl
theorem q1407 : (Jvm.Cond.methodLink "ObligingPostsLaw" (230 : Nat) ({ cls := "ObligingPosts", name := "laws", desc := "(I)I" } : Jvm.MethodName)) ∈ lw_all := lw_g (lw_at lw_m6 67 rfl) rfl
theorem q1416 : (Jvm.Cond.methodLink "ObligingPostsLaw" (234 : Nat) ({ cls := "ObligingPosts", name := "by", desc := "(I)I" } : Jvm.MethodName)) ∈ lw_all := lw_g (lw_at lw_m6 76 rfl) rfl
theorem q1423 : (Jvm.Cond.methodLink "ObligingPostsLaw" (238 : Nat) ({ cls := "ObligingPosts", name := "law", desc := "()I" } : Jvm.MethodName)) ∈ lw_all := lw_g (lw_at lw_m6 83 rfl) rfl
theorem q1427 : (Jvm.Cond.methodLink "ObligingPostsLaw" (242 : Nat) ({ cls := "ObligingPosts", name := "worth", desc := "(I)I" } : Jvm.MethodName)) ∈ lw_all := lw_g (lw_at lw_m6 87 rfl) rfl
theorem q1435 : (Jvm.Cond.methodLink "ObligingPostsLaw" (246 : Nat) ({ cls := "ObligingPosts", name := "share", desc := "(II)I" } : Jvm.MethodName)) ∈ lw_all := lw_g (lw_at lw_m6 95 rfl) rfl
theorem q1451 : (Jvm.Cond.methodLink "ObligingPostsLaw" (250 : Nat) ({ cls := "ObligingPosts", name := "rests", desc := "(II)I" } : Jvm.MethodName)) ∈ lw_all := lw_g (lw_at lw_m6 111 rfl) rfl
theorem q1463 : (Jvm.Cond.methodLink "ObligingPostsLaw" (254 : Nat) ({ cls := "ObligingPosts", name := "gets", desc := "(IIII)I" } : Jvm.MethodName)) ∈ lw_all := lw_g (lw_at lw_m6 123 rfl) rfl
theorem q1467 : (Jvm.Cond.methodLink "ObligingPostsLaw" (259 : Nat) ({ cls := "ObligingPosts", name := "chance", desc := "(III)J" } : Jvm.MethodName)) ∈ lw_all := lw_g (lw_at lw_m6 127 rfl) rfl
theorem q1483 : (Jvm.Cond.methodLink "ObligingPostsLaw" (264 : Nat) ({ cls := "ObligingPosts", name := "mean", desc := "(II)J" } : Jvm.MethodName)) ∈ lw_all := lw_g (lw_at lw_m6 143 rfl) rfl
theorem q1487 : (Jvm.Cond.methodLink "ObligingPostsLaw" (285 : Nat) ({ cls := "ObligingPosts", name := "drawn", desc := "(II)I" } : Jvm.MethodName)) ∈ lw_all := lw_g (lw_at lw_m6 147 rfl) rfl
theorem q1503 : (Jvm.Cond.methodLink "ObligingPostsLaw" (289 : Nat) ({ cls := "ObligingPosts", name := "luck", desc := "(III)I" } : Jvm.MethodName)) ∈ lw_all := lw_g (lw_at lw_m6 163 rfl) rfl
theorem q1507 : (Jvm.Cond.methodLink "ObligingPostsLaw" (269 : Nat) ({ cls := "ObligingPosts", name := "twists", desc := "(II)I" } : Jvm.MethodName)) ∈ lw_all := lw_g (lw_at lw_m6 167 rfl) rfl
theorem q1536 : (Jvm.Cond.methodLink "ObligingPostsLaw" (273 : Nat) ({ cls := "ObligingPosts", name := "holds", desc := "(II)I" } : Jvm.MethodName)) ∈ lw_all := lw_g (lw_at lw_m6 196 rfl) rfl
theorem q1540 : (Jvm.Cond.methodLink "ObligingPostsLaw" (277 : Nat) ({ cls := "ObligingPosts", name := "undo", desc := "()I" } : Jvm.MethodName)) ∈ lw_all := lw_g (lw_at lw_m6 200 rfl) rfl
theorem q1567 : (Jvm.Cond.methodLink "ObligingPostsLaw" (281 : Nat) ({ cls := "ObligingPosts", name := "anew", desc := "()I" } : Jvm.MethodName)) ∈ lw_all := lw_g (lw_at lw_m6 227 rfl) rfl
theorem q1580 : (Jvm.Cond.methodLink "ObligingPostsLaw" (293 : Nat) ({ cls := "ObligingPosts", name := "rate", desc := "(II)I" } : Jvm.MethodName)) ∈ lw_all := lw_g (lw_at lw_m7 0 rfl) rfl
theorem q1584 : (Jvm.Cond.methodLink "ObligingPostsLaw" (297 : Nat) ({ cls := "ObligingPosts", name := "count", desc := "(I)I" } : Jvm.MethodName)) ∈ lw_all := lw_g (lw_at lw_m7 4 rfl) rfl
theorem q1588 : (Jvm.Cond.methodLink "ObligingPostsLaw" (301 : Nat) ({ cls := "ObligingPosts", name := "image", desc := "(I)I" } : Jvm.MethodName)) ∈ lw_all := lw_g (lw_at lw_m7 8 rfl) rfl
theorem q1680 : (Jvm.Cond.methodLink "ObligingPostsLaw" (305 : Nat) ({ cls := "ObligingPosts", name := "back", desc := "(I)I" } : Jvm.MethodName)) ∈ lw_all := lw_g (lw_at lw_m7 100 rfl) rfl
theorem q1684 : (Jvm.Cond.classLink "ObligingPostsLaw" (10 : Nat) "ObligingPostsModel") ∈ lw_all := lw_g (lw_at lw_m7 104 rfl) rfl
theorem q1686 : (Jvm.Cond.methodLink "ObligingPostsLaw" (12 : Nat) ({ cls := "ObligingPostsModel", name := "<init>", desc := "()V" } : Jvm.MethodName)) ∈ lw_all := lw_g (lw_at lw_m7 106 rfl) rfl
theorem q1814 : (Jvm.Cond.methodLink "ObligingPostsLaw" (304 : Nat) ({ cls := "ObligingPostsModel", name := "image", desc := "(I)I" } : Jvm.MethodName)) ∈ lw_all := lw_g (lw_at lw_m7 234 rfl) rfl
theorem q1822 : (Jvm.Cond.methodLink "ObligingPostsLaw" (308 : Nat) ({ cls := "ObligingPostsModel", name := "back", desc := "(I)I" } : Jvm.MethodName)) ∈ lw_all := lw_g (lw_at lw_m8 2 rfl) rfl
theorem q1826 : (Jvm.Cond.methodLink "ObligingPostsLaw" (17 : Nat) ({ cls := "ObligingPostsModel", name := "feed", desc := "(IIIII)I" } : Jvm.MethodName)) ∈ lw_all := lw_g (lw_at lw_m8 6 rfl) rfl
theorem q1830 : (Jvm.Cond.methodLink "ObligingPostsLaw" (22 : Nat) ({ cls := "ObligingPostsModel", name := "end", desc := "(I)I" } : Jvm.MethodName)) ∈ lw_all := lw_g (lw_at lw_m8 10 rfl) rfl
theorem q1834 : (Jvm.Cond.methodLink "ObligingPostsLaw" (31 : Nat) ({ cls := "ObligingPostsModel", name := "fault", desc := "(I)I" } : Jvm.MethodName)) ∈ lw_all := lw_g (lw_at lw_m8 14 rfl) rfl
theorem q1838 : (Jvm.Cond.methodLink "ObligingPostsLaw" (27 : Nat) ({ cls := "ObligingPostsModel", name := "heath", desc := "()I" } : Jvm.MethodName)) ∈ lw_all := lw_g (lw_at lw_m8 18 rfl) rfl
theorem q1931 : (Jvm.Cond.methodLink "ObligingPostsLaw" (35 : Nat) ({ cls := "ObligingPostsModel", name := "room", desc := "(I)I" } : Jvm.MethodName)) ∈ lw_all := lw_g (lw_at lw_m8 111 rfl) rfl
theorem q1939 : (Jvm.Cond.methodLink "ObligingPostsLaw" (39 : Nat) ({ cls := "ObligingPostsModel", name := "roads", desc := "(I)I" } : Jvm.MethodName)) ∈ lw_all := lw_g (lw_at lw_m8 119 rfl) rfl
theorem q1955 : (Jvm.Cond.methodLink "ObligingPostsLaw" (44 : Nat) ({ cls := "ObligingPostsModel", name := "goes", desc := "(II)I" } : Jvm.MethodName)) ∈ lw_all := lw_g (lw_at lw_m8 135 rfl) rfl
theorem q1963 : (Jvm.Cond.methodLink "ObligingPostsLaw" (48 : Nat) ({ cls := "ObligingPostsModel", name := "told", desc := "(I)I" } : Jvm.MethodName)) ∈ lw_all := lw_g (lw_at lw_m8 143 rfl) rfl
theorem q1971 : (Jvm.Cond.methodLink "ObligingPostsLaw" (52 : Nat) ({ cls := "ObligingPostsModel", name := "walker", desc := "(II)I" } : Jvm.MethodName)) ∈ lw_all := lw_g (lw_at lw_m8 151 rfl) rfl
theorem q1983 : (Jvm.Cond.methodLink "ObligingPostsLaw" (104 : Nat) ({ cls := "ObligingPostsModel", name := "doors", desc := "(I)I" } : Jvm.MethodName)) ∈ lw_all := lw_g (lw_at lw_m8 163 rfl) rfl
theorem q1987 : (Jvm.Cond.methodLink "ObligingPostsLaw" (136 : Nat) ({ cls := "ObligingPostsModel", name := "armless", desc := "()I" } : Jvm.MethodName)) ∈ lw_all := lw_g (lw_at lw_m8 167 rfl) rfl
theorem q1995 : (Jvm.Cond.methodLink "ObligingPostsLaw" (56 : Nat) ({ cls := "ObligingPostsModel", name := "at", desc := "(II)I" } : Jvm.MethodName)) ∈ lw_all := lw_g (lw_at lw_m8 175 rfl) rfl
theorem q2050 : (Jvm.Cond.methodLink "ObligingPostsLaw" (60 : Nat) ({ cls := "ObligingPostsModel", name := "arm", desc := "(II)I" } : Jvm.MethodName)) ∈ lw_all := lw_g (lw_at lw_m8 230 rfl) rfl
theorem q2054 : (Jvm.Cond.methodLink "ObligingPostsLaw" (64 : Nat) ({ cls := "ObligingPostsModel", name := "here", desc := "(II)I" } : Jvm.MethodName)) ∈ lw_all := lw_g (lw_at lw_m8 234 rfl) rfl
theorem q2067 : (Jvm.Cond.methodLink "ObligingPostsLaw" (68 : Nat) ({ cls := "ObligingPostsModel", name := "sent", desc := "(I)I" } : Jvm.MethodName)) ∈ lw_all := lw_g (lw_at lw_m9 7 rfl) rfl
theorem q2075 : (Jvm.Cond.methodLink "ObligingPostsLaw" (72 : Nat) ({ cls := "ObligingPostsModel", name := "sends", desc := "(I)I" } : Jvm.MethodName)) ∈ lw_all := lw_g (lw_at lw_m9 15 rfl) rfl
theorem q2087 : (Jvm.Cond.methodLink "ObligingPostsLaw" (76 : Nat) ({ cls := "ObligingPostsModel", name := "used", desc := "(II)I" } : Jvm.MethodName)) ∈ lw_all := lw_g (lw_at lw_m9 27 rfl) rfl
theorem q2091 : (Jvm.Cond.methodLink "ObligingPostsLaw" (80 : Nat) ({ cls := "ObligingPostsModel", name := "walks", desc := "(I)I" } : Jvm.MethodName)) ∈ lw_all := lw_g (lw_at lw_m9 31 rfl) rfl
theorem q2099 : (Jvm.Cond.methodLink "ObligingPostsLaw" (84 : Nat) ({ cls := "ObligingPostsModel", name := "home", desc := "(I)I" } : Jvm.MethodName)) ∈ lw_all := lw_g (lw_at lw_m9 39 rfl) rfl
theorem q2111 : (Jvm.Cond.methodLink "ObligingPostsLaw" (88 : Nat) ({ cls := "ObligingPostsModel", name := "inn", desc := "(I)I" } : Jvm.MethodName)) ∈ lw_all := lw_g (lw_at lw_m9 51 rfl) rfl
theorem q2115 : (Jvm.Cond.methodLink "ObligingPostsLaw" (92 : Nat) ({ cls := "ObligingPostsModel", name := "trail", desc := "(I)I" } : Jvm.MethodName)) ∈ lw_all := lw_g (lw_at lw_m9 55 rfl) rfl
theorem q2124 : (Jvm.Cond.methodLink "ObligingPostsLaw" (96 : Nat) ({ cls := "ObligingPostsModel", name := "again", desc := "(I)I" } : Jvm.MethodName)) ∈ lw_all := lw_g (lw_at lw_m9 64 rfl) rfl
theorem q2128 : (Jvm.Cond.methodLink "ObligingPostsLaw" (100 : Nat) ({ cls := "ObligingPostsModel", name := "lingers", desc := "(I)I" } : Jvm.MethodName)) ∈ lw_all := lw_g (lw_at lw_m9 68 rfl) rfl
theorem q2132 : (Jvm.Cond.methodLink "ObligingPostsLaw" (108 : Nat) ({ cls := "ObligingPostsModel", name := "guests", desc := "(II)I" } : Jvm.MethodName)) ∈ lw_all := lw_g (lw_at lw_m9 72 rfl) rfl
theorem q2143 : (Jvm.Cond.methodLink "ObligingPostsLaw" (112 : Nat) ({ cls := "ObligingPostsModel", name := "full", desc := "(I)I" } : Jvm.MethodName)) ∈ lw_all := lw_g (lw_at lw_m9 83 rfl) rfl
theorem q2147 : (Jvm.Cond.methodLink "ObligingPostsLaw" (116 : Nat) ({ cls := "ObligingPostsModel", name := "refuses", desc := "(I)I" } : Jvm.MethodName)) ∈ lw_all := lw_g (lw_at lw_m9 87 rfl) rfl
theorem q2151 : (Jvm.Cond.methodLink "ObligingPostsLaw" (120 : Nat) ({ cls := "ObligingPostsModel", name := "inside", desc := "(I)I" } : Jvm.MethodName)) ∈ lw_all := lw_g (lw_at lw_m9 91 rfl) rfl
theorem q2159 : (Jvm.Cond.methodLink "ObligingPostsLaw" (124 : Nat) ({ cls := "ObligingPostsModel", name := "outside", desc := "(I)I" } : Jvm.MethodName)) ∈ lw_all := lw_g (lw_at lw_m9 99 rfl) rfl
theorem q2163 : (Jvm.Cond.methodLink "ObligingPostsLaw" (128 : Nat) ({ cls := "ObligingPostsModel", name := "done", desc := "()I" } : Jvm.MethodName)) ∈ lw_all := lw_g (lw_at lw_m9 103 rfl) rfl
theorem q2167 : (Jvm.Cond.methodLink "ObligingPostsLaw" (132 : Nat) ({ cls := "ObligingPostsModel", name := "crowd", desc := "(I)I" } : Jvm.MethodName)) ∈ lw_all := lw_g (lw_at lw_m9 107 rfl) rfl
theorem q2172 : (Jvm.Cond.methodLink "ObligingPostsLaw" (140 : Nat) ({ cls := "ObligingPostsModel", name := "meet", desc := "(II)I" } : Jvm.MethodName)) ∈ lw_all := lw_g (lw_at lw_m9 112 rfl) rfl
theorem q2180 : (Jvm.Cond.methodLink "ObligingPostsLaw" (144 : Nat) ({ cls := "ObligingPostsModel", name := "busy", desc := "()I" } : Jvm.MethodName)) ∈ lw_all := lw_g (lw_at lw_m9 120 rfl) rfl
theorem q2184 : (Jvm.Cond.methodLink "ObligingPostsLaw" (148 : Nat) ({ cls := "ObligingPostsModel", name := "idle", desc := "()I" } : Jvm.MethodName)) ∈ lw_all := lw_g (lw_at lw_m9 124 rfl) rfl
theorem q2188 : (Jvm.Cond.methodLink "ObligingPostsLaw" (152 : Nat) ({ cls := "ObligingPostsModel", name := "reach", desc := "(I)I" } : Jvm.MethodName)) ∈ lw_all := lw_g (lw_at lw_m9 128 rfl) rfl
theorem q2196 : (Jvm.Cond.methodLink "ObligingPostsLaw" (156 : Nat) ({ cls := "ObligingPostsModel", name := "far", desc := "(II)I" } : Jvm.MethodName)) ∈ lw_all := lw_g (lw_at lw_m9 136 rfl) rfl
theorem q2200 : (Jvm.Cond.methodLink "ObligingPostsLaw" (160 : Nat) ({ cls := "ObligingPostsModel", name := "setting", desc := "(I)I" } : Jvm.MethodName)) ∈ lw_all := lw_g (lw_at lw_m9 140 rfl) rfl
theorem q2216 : (Jvm.Cond.methodLink "ObligingPostsLaw" (164 : Nat) ({ cls := "ObligingPostsModel", name := "settings", desc := "()I" } : Jvm.MethodName)) ∈ lw_all := lw_g (lw_at lw_m9 156 rfl) rfl
theorem q2224 : (Jvm.Cond.methodLink "ObligingPostsLaw" (168 : Nat) ({ cls := "ObligingPostsModel", name := "same", desc := "()I" } : Jvm.MethodName)) ∈ lw_all := lw_g (lw_at lw_m9 164 rfl) rfl
theorem q2228 : (Jvm.Cond.methodLink "ObligingPostsLaw" (197 : Nat) ({ cls := "ObligingPostsModel", name := "tree", desc := "(I)I" } : Jvm.MethodName)) ∈ lw_all := lw_g (lw_at lw_m9 168 rfl) rfl
theorem q2244 : (Jvm.Cond.methodLink "ObligingPostsLaw" (201 : Nat) ({ cls := "ObligingPostsModel", name := "ring", desc := "(I)I" } : Jvm.MethodName)) ∈ lw_all := lw_g (lw_at lw_m9 184 rfl) rfl
theorem q2248 : (Jvm.Cond.methodLink "ObligingPostsLaw" (205 : Nat) ({ cls := "ObligingPostsModel", name := "trees", desc := "()I" } : Jvm.MethodName)) ∈ lw_all := lw_g (lw_at lw_m9 188 rfl) rfl
theorem q2252 : (Jvm.Cond.methodLink "ObligingPostsLaw" (172 : Nat) ({ cls := "ObligingPostsModel", name := "alone", desc := "(I)I" } : Jvm.MethodName)) ∈ lw_all := lw_g (lw_at lw_m9 192 rfl) rfl
theorem q2264 : (Jvm.Cond.methodLink "ObligingPostsLaw" (176 : Nat) ({ cls := "ObligingPostsModel", name := "steps", desc := "(I)I" } : Jvm.MethodName)) ∈ lw_all := lw_g (lw_at lw_m9 204 rfl) rfl
theorem q2268 : (Jvm.Cond.methodLink "ObligingPostsLaw" (180 : Nat) ({ cls := "ObligingPostsModel", name := "behind", desc := "(I)I" } : Jvm.MethodName)) ∈ lw_all := lw_g (lw_at lw_m9 208 rfl) rfl
theorem q2276 : (Jvm.Cond.methodLink "ObligingPostsLaw" (184 : Nat) ({ cls := "ObligingPostsModel", name := "nth", desc := "(II)I" } : Jvm.MethodName)) ∈ lw_all := lw_g (lw_at lw_m9 216 rfl) rfl
theorem q2281 : (Jvm.Cond.methodLink "ObligingPostsLaw" (188 : Nat) ({ cls := "ObligingPostsModel", name := "round", desc := "(I)I" } : Jvm.MethodName)) ∈ lw_all := lw_g (lw_at lw_m9 221 rfl) rfl
theorem q2285 : (Jvm.Cond.methodLink "ObligingPostsLaw" (193 : Nat) ({ cls := "ObligingPostsModel", name := "houses", desc := "(III)I" } : Jvm.MethodName)) ∈ lw_all := lw_g (lw_at lw_m9 225 rfl) rfl
theorem q2289 : (Jvm.Cond.methodLink "ObligingPostsLaw" (209 : Nat) ({ cls := "ObligingPostsModel", name := "point", desc := "(II)I" } : Jvm.MethodName)) ∈ lw_all := lw_g (lw_at lw_m9 229 rfl) rfl
theorem q2298 : (Jvm.Cond.methodLink "ObligingPostsLaw" (213 : Nat) ({ cls := "ObligingPostsModel", name := "best", desc := "()I" } : Jvm.MethodName)) ∈ lw_all := lw_g (lw_at lw_m9 238 rfl) rfl
theorem q2306 : (Jvm.Cond.methodLink "ObligingPostsLaw" (217 : Nat) ({ cls := "ObligingPostsModel", name := "crowds", desc := "()I" } : Jvm.MethodName)) ∈ lw_all := lw_g (lw_at lw_m10 6 rfl) rfl
theorem q2310 : (Jvm.Cond.methodLink "ObligingPostsLaw" (221 : Nat) ({ cls := "ObligingPostsModel", name := "may", desc := "(II)I" } : Jvm.MethodName)) ∈ lw_all := lw_g (lw_at lw_m10 10 rfl) rfl
theorem q2342 : (Jvm.Cond.methodLink "ObligingPostsLaw" (225 : Nat) ({ cls := "ObligingPostsModel", name := "ask", desc := "(II)I" } : Jvm.MethodName)) ∈ lw_all := lw_g (lw_at lw_m10 42 rfl) rfl
theorem q2354 : (Jvm.Cond.methodLink "ObligingPostsLaw" (229 : Nat) ({ cls := "ObligingPostsModel", name := "leaves", desc := "(II)I" } : Jvm.MethodName)) ∈ lw_all := lw_g (lw_at lw_m10 54 rfl) rfl
theorem q2358 : (Jvm.Cond.methodLink "ObligingPostsLaw" (233 : Nat) ({ cls := "ObligingPostsModel", name := "laws", desc := "(I)I" } : Jvm.MethodName)) ∈ lw_all := lw_g (lw_at lw_m10 58 rfl) rfl
theorem q2362 : (Jvm.Cond.methodLink "ObligingPostsLaw" (237 : Nat) ({ cls := "ObligingPostsModel", name := "by", desc := "(I)I" } : Jvm.MethodName)) ∈ lw_all := lw_g (lw_at lw_m10 62 rfl) rfl
theorem q2370 : (Jvm.Cond.methodLink "ObligingPostsLaw" (241 : Nat) ({ cls := "ObligingPostsModel", name := "law", desc := "()I" } : Jvm.MethodName)) ∈ lw_all := lw_g (lw_at lw_m10 70 rfl) rfl
theorem q2374 : (Jvm.Cond.methodLink "ObligingPostsLaw" (245 : Nat) ({ cls := "ObligingPostsModel", name := "worth", desc := "(I)I" } : Jvm.MethodName)) ∈ lw_all := lw_g (lw_at lw_m10 74 rfl) rfl
theorem q2386 : (Jvm.Cond.methodLink "ObligingPostsLaw" (249 : Nat) ({ cls := "ObligingPostsModel", name := "share", desc := "(II)I" } : Jvm.MethodName)) ∈ lw_all := lw_g (lw_at lw_m10 86 rfl) rfl
theorem q2400 : (Jvm.Cond.methodLink "ObligingPostsLaw" (253 : Nat) ({ cls := "ObligingPostsModel", name := "rests", desc := "(II)I" } : Jvm.MethodName)) ∈ lw_all := lw_g (lw_at lw_m10 100 rfl) rfl
theorem q2408 : (Jvm.Cond.methodLink "ObligingPostsLaw" (258 : Nat) ({ cls := "ObligingPostsModel", name := "gets", desc := "(IIII)I" } : Jvm.MethodName)) ∈ lw_all := lw_g (lw_at lw_m10 108 rfl) rfl
theorem q2412 : (Jvm.Cond.methodLink "ObligingPostsLaw" (263 : Nat) ({ cls := "ObligingPostsModel", name := "chance", desc := "(III)J" } : Jvm.MethodName)) ∈ lw_all := lw_g (lw_at lw_m10 112 rfl) rfl
theorem q2425 : (Jvm.Cond.methodLink "ObligingPostsLaw" (268 : Nat) ({ cls := "ObligingPostsModel", name := "mean", desc := "(II)J" } : Jvm.MethodName)) ∈ lw_all := lw_g (lw_at lw_m10 125 rfl) rfl
theorem q2429 : (Jvm.Cond.methodLink "ObligingPostsLaw" (272 : Nat) ({ cls := "ObligingPostsModel", name := "twists", desc := "(II)I" } : Jvm.MethodName)) ∈ lw_all := lw_g (lw_at lw_m10 129 rfl) rfl
theorem q2437 : (Jvm.Cond.methodLink "ObligingPostsLaw" (276 : Nat) ({ cls := "ObligingPostsModel", name := "holds", desc := "(II)I" } : Jvm.MethodName)) ∈ lw_all := lw_g (lw_at lw_m10 137 rfl) rfl
theorem q2441 : (Jvm.Cond.methodLink "ObligingPostsLaw" (280 : Nat) ({ cls := "ObligingPostsModel", name := "undo", desc := "()I" } : Jvm.MethodName)) ∈ lw_all := lw_g (lw_at lw_m10 141 rfl) rfl
theorem q2445 : (Jvm.Cond.methodLink "ObligingPostsLaw" (284 : Nat) ({ cls := "ObligingPostsModel", name := "anew", desc := "()I" } : Jvm.MethodName)) ∈ lw_all := lw_g (lw_at lw_m10 145 rfl) rfl
theorem q2449 : (Jvm.Cond.methodLink "ObligingPostsLaw" (288 : Nat) ({ cls := "ObligingPostsModel", name := "drawn", desc := "(II)I" } : Jvm.MethodName)) ∈ lw_all := lw_g (lw_at lw_m10 149 rfl) rfl
theorem q2465 : (Jvm.Cond.methodLink "ObligingPostsLaw" (292 : Nat) ({ cls := "ObligingPostsModel", name := "luck", desc := "(III)I" } : Jvm.MethodName)) ∈ lw_all := lw_g (lw_at lw_m10 165 rfl) rfl
theorem q2469 : (Jvm.Cond.methodLink "ObligingPostsLaw" (296 : Nat) ({ cls := "ObligingPostsModel", name := "rate", desc := "(II)I" } : Jvm.MethodName)) ∈ lw_all := lw_g (lw_at lw_m10 169 rfl) rfl
theorem q2474 : (Jvm.Cond.methodLink "ObligingPostsLaw" (300 : Nat) ({ cls := "ObligingPostsModel", name := "count", desc := "(I)I" } : Jvm.MethodName)) ∈ lw_all := lw_g (lw_at lw_m10 174 rfl) rfl
theorem q2478 : (Jvm.Cond.methodLink "ObligingPostsLaw" (312 : Nat) ({ cls := "ObligingPostsModel", name := "row", desc := "(III)I" } : Jvm.MethodName)) ∈ lw_all := lw_g (lw_at lw_m10 178 rfl) rfl
theorem q2482 : (Jvm.Cond.methodLink "ObligingPostsLaw" (319 : Nat) ({ cls := "ObligingPostsModel", name := "write", desc := "(IIJ)I" } : Jvm.MethodName)) ∈ lw_all := lw_g (lw_at lw_m10 182 rfl) rfl
theorem q2489 : (Jvm.Cond.methodLink "ObligingPostsLaw" (323 : Nat) ({ cls := "ObligingPostsModel", name := "paste", desc := "(IIIII)I" } : Jvm.MethodName)) ∈ lw_all := lw_g (lw_at lw_m10 189 rfl) rfl
theorem q2493 : (Jvm.Cond.constantLong "ObligingPostsLaw" (313 : Nat) (4294967295 : Int64)) ∈ lw_all := lw_g (lw_at lw_m10 193 rfl) rfl
theorem q2520 : (Jvm.Cond.castable "[B" "java/lang/Object") ∈ lw_tbl := lw_at lw_m10 220 rfl
theorem q2522 : (Jvm.Cond.castable "[I" "java/lang/Object") ∈ lw_tbl := lw_at lw_m10 222 rfl
theorem q2523 : (Jvm.Cond.castable "[J" "java/lang/Object") ∈ lw_tbl := lw_at lw_m10 223 rfl
theorem q2526 : (Jvm.Cond.castable "[LObligingPosts$Heath;" "java/lang/Object") ∈ lw_tbl := lw_at lw_m10 226 rfl
theorem q2524 : (Jvm.Cond.castable "[LObligingPosts$Slot;" "java/lang/Object") ∈ lw_tbl := lw_at lw_m10 224 rfl
theorem q2517 : (Jvm.Cond.sameMethod "[Ljava/lang/Object;" "java/lang/Object" "getClass" "()Ljava/lang/Class;") ∈ lw_all := lw_g (lw_at lw_m10 217 rfl) rfl
theorem q2518 : (Jvm.Cond.selects "[Ljava/lang/Object;" ({ cls := "java/lang/Object", name := "getClass", desc := "()Ljava/lang/Class;" } : Jvm.MethodName) ({ cls := "java/lang/Object", name := "getClass", desc := "()Ljava/lang/Class;" } : Jvm.MethodName)) ∈ lw_all := lw_g (lw_at lw_m10 218 rfl) rfl
theorem q2525 : (Jvm.Cond.castable "[Ljava/lang/Object;" "java/lang/Object") ∈ lw_tbl := lw_at lw_m10 225 rfl
theorem q2521 : (Jvm.Cond.castable "[S" "java/lang/Object") ∈ lw_tbl := lw_at lw_m10 221 rfl
theorem q2527 : (Jvm.Cond.castable "[Z" "java/lang/Object") ∈ lw_tbl := lw_at lw_m10 227 rfl
theorem q164 : (Jvm.Cond.initialized "java/lang/System") ∈ lw_all := lw_g (lw_at lw_m1 24 rfl) rfl
theorem q374 : (Jvm.Cond.static ({ cls := "java/lang/System", name := "arraycopy", desc := "(Ljava/lang/Object;ILjava/lang/Object;II)V" } : Jvm.MethodName)) ∈ lw_all := lw_g (lw_at lw_m1 234 rfl) rfl
theorem q375 : (Jvm.Cond.native ({ cls := "java/lang/System", name := "arraycopy", desc := "(Ljava/lang/Object;ILjava/lang/Object;II)V" } : Jvm.MethodName)) ∈ lw_all := lw_g (lw_at lw_m1 235 rfl) rfl
theorem q1672 : (Jvm.Cond.interfaceMethod "java/util/Collection" "java/util/Collection" "toArray" "()[Ljava/lang/Object;") ∈ lw_tbl := lw_at lw_m7 92 rfl
theorem q1673 : (Jvm.Cond.declares ({ cls := "java/util/Collection", name := "toArray", desc := "()[Ljava/lang/Object;" } : Jvm.MethodName)) ∈ lw_tbl := lw_at lw_m7 93 rfl
theorem q1630 : (Jvm.Cond.interfaceMethod "java/util/Iterator" "java/util/Iterator" "hasNext" "()Z") ∈ lw_tbl := lw_at lw_m7 50 rfl
theorem q1631 : (Jvm.Cond.declares ({ cls := "java/util/Iterator", name := "hasNext", desc := "()Z" } : Jvm.MethodName)) ∈ lw_tbl := lw_at lw_m7 51 rfl
theorem q1640 : (Jvm.Cond.interfaceMethod "java/util/Iterator" "java/util/Iterator" "next" "()Ljava/lang/Object;") ∈ lw_tbl := lw_at lw_m7 60 rfl
theorem q1641 : (Jvm.Cond.declares ({ cls := "java/util/Iterator", name := "next", desc := "()Ljava/lang/Object;" } : Jvm.MethodName)) ∈ lw_tbl := lw_at lw_m7 61 rfl
theorem q816 : (Jvm.Cond.interfaceMethod "java/util/List" "java/util/List" "size" "()I") ∈ lw_tbl := lw_at lw_m3 196 rfl
theorem q817 : (Jvm.Cond.declares ({ cls := "java/util/List", name := "size", desc := "()I" } : Jvm.MethodName)) ∈ lw_tbl := lw_at lw_m3 197 rfl
theorem q854 : (Jvm.Cond.interfaceMethod "java/util/List" "java/util/List" "add" "(Ljava/lang/Object;)Z") ∈ lw_tbl := lw_at lw_m3 234 rfl
theorem q855 : (Jvm.Cond.declares ({ cls := "java/util/List", name := "add", desc := "(Ljava/lang/Object;)Z" } : Jvm.MethodName)) ∈ lw_tbl := lw_at lw_m3 235 rfl
theorem q923 : (Jvm.Cond.interfaceMethod "java/util/List" "java/util/List" "get" "(I)Ljava/lang/Object;") ∈ lw_tbl := lw_at lw_m4 63 rfl
theorem q924 : (Jvm.Cond.declares ({ cls := "java/util/List", name := "get", desc := "(I)Ljava/lang/Object;" } : Jvm.MethodName)) ∈ lw_tbl := lw_at lw_m4 64 rfl
theorem q1546 : (Jvm.Cond.interfaceMethod "java/util/List" "java/util/List" "isEmpty" "()Z") ∈ lw_tbl := lw_at lw_m6 206 rfl
theorem q1547 : (Jvm.Cond.declares ({ cls := "java/util/List", name := "isEmpty", desc := "()Z" } : Jvm.MethodName)) ∈ lw_tbl := lw_at lw_m6 207 rfl
theorem q1555 : (Jvm.Cond.interfaceMethod "java/util/List" "java/util/List" "remove" "(I)Ljava/lang/Object;") ∈ lw_tbl := lw_at lw_m6 215 rfl
theorem q1556 : (Jvm.Cond.declares ({ cls := "java/util/List", name := "remove", desc := "(I)Ljava/lang/Object;" } : Jvm.MethodName)) ∈ lw_tbl := lw_at lw_m6 216 rfl
theorem q1573 : (Jvm.Cond.interfaceMethod "java/util/List" "java/util/List" "clear" "()V") ∈ lw_tbl := lw_at lw_m6 233 rfl
theorem q1574 : (Jvm.Cond.declares ({ cls := "java/util/List", name := "clear", desc := "()V" } : Jvm.MethodName)) ∈ lw_tbl := lw_at lw_m6 234 rfl
theorem q1602 : (Jvm.Cond.interfaceMethod "java/util/List" "java/util/List" "iterator" "()Ljava/util/Iterator;") ∈ lw_tbl := lw_at lw_m7 22 rfl
theorem q1603 : (Jvm.Cond.declares ({ cls := "java/util/List", name := "iterator", desc := "()Ljava/util/Iterator;" } : Jvm.MethodName)) ∈ lw_tbl := lw_at lw_m7 23 rfl
theorem q1663 : (Jvm.Cond.interfaceMethod "java/util/List" "java/util/List" "addAll" "(Ljava/util/Collection;)Z") ∈ lw_tbl := lw_at lw_m7 83 rfl
theorem q1664 : (Jvm.Cond.declares ({ cls := "java/util/List", name := "addAll", desc := "(Ljava/util/Collection;)Z" } : Jvm.MethodName)) ∈ lw_tbl := lw_at lw_m7 84 rfl
theorem q273 : (Jvm.Cond.arrayClass Jvm.ClassFile.FieldType.byte) ∈ lw_all := lw_g (lw_at lw_m1 133 rfl) rfl
theorem q278 : (Jvm.Cond.arrayClass Jvm.ClassFile.FieldType.short) ∈ lw_all := lw_g (lw_at lw_m1 138 rfl) rfl
theorem q279 : (Jvm.Cond.arrayClass Jvm.ClassFile.FieldType.int) ∈ lw_all := lw_g (lw_at lw_m1 139 rfl) rfl
theorem q280 : (Jvm.Cond.arrayClass Jvm.ClassFile.FieldType.long) ∈ lw_all := lw_g (lw_at lw_m1 140 rfl) rfl
theorem q383 : (Jvm.Cond.arrayOver (Jvm.ClassFile.FieldType.object "ObligingPosts$Slot")) ∈ lw_tbl := lw_at lw_m2 3 rfl
theorem q412 : (Jvm.Cond.arrayOver (Jvm.ClassFile.FieldType.object "java/lang/Object")) ∈ lw_tbl := lw_at lw_m2 32 rfl
theorem q495 : (Jvm.Cond.arrayOver (Jvm.ClassFile.FieldType.object "ObligingPosts$Heath")) ∈ lw_tbl := lw_at lw_m2 115 rfl
theorem q1813 : (Jvm.Cond.arrayClass Jvm.ClassFile.FieldType.boolean) ∈ lw_all := lw_g (lw_at lw_m7 233 rfl) rfl
theorem in_J2 : ∀ w ∈ wsJ20, w ∈ lw_all := lw_in wsJ20 [427, 423, 425] (by decide +kernel) (by decide +kernel)
theorem in_J4 : ∀ w ∈ wsJ40, w ∈ lw_all := lw_in wsJ40 [274, 276] (by decide +kernel) (by decide +kernel)
theorem in_J8 : ∀ w ∈ wsJ80, w ∈ lw_all := lw_in wsJ80 [263, 264, 265, 266, 267] (by decide +kernel) (by decide +kernel)
theorem in_J15 : ∀ w ∈ wsJ150, w ∈ lw_all := lw_in wsJ150 [1619, 1621, 1623, 1625] (by decide +kernel) (by decide +kernel)
theorem in_J16 : ∀ w ∈ wsJ160, w ∈ lw_all := lw_in wsJ160 [242, 244, 246, 248, 250, 252] (by decide +kernel) (by decide +kernel)
theorem in_J17 : ∀ w ∈ wsJ170, w ∈ lw_all := lw_in wsJ170 [305, 306, 307, 308, 309, 310, 301, 303] (by decide +kernel) (by decide +kernel)
theorem in_J19 : ∀ w ∈ wsJ190, w ∈ lw_all := lw_in wsJ190 [322, 323, 324, 325, 326, 327] (by decide +kernel) (by decide +kernel)
theorem in_J20 : ∀ w ∈ wsJ200, w ∈ lw_all := lw_in wsJ200 [349, 350, 351, 352, 353, 354] (by decide +kernel) (by decide +kernel)
theorem in_X0 : ∀ w ∈ wsX00, w ∈ lw_all := lw_in wsX00 [615, 617, 619, 621, 623, 625, 627, 629, 631, 633] (by decide +kernel) (by decide +kernel)
theorem in_X1 : ∀ w ∈ wsX10, w ∈ lw_all := lw_in wsX10 [390] (by decide +kernel) (by decide +kernel)
theorem in_X2 : ∀ w ∈ wsX20, w ∈ lw_all := lw_in wsX20 [472, 474, 476, 478, 480, 482, 484, 486, 488, 490, 492] (by decide +kernel) (by decide +kernel)
theorem in_X3 : ∀ w ∈ wsX30, w ∈ lw_all := lw_in wsX30 [529, 531, 533, 535, 537, 539, 541, 543, 545, 547, 549, 551, 553, 555] (by decide +kernel) (by decide +kernel)
theorem in_X4 : ∀ w ∈ wsX40, w ∈ lw_all := lw_in wsX40 [569, 571, 573] (by decide +kernel) (by decide +kernel)
theorem in_X5 : ∀ w ∈ wsX50, w ∈ lw_all := lw_in wsX50 [590, 592, 594, 596, 598] (by decide +kernel) (by decide +kernel)
theorem in_X6 : ∀ w ∈ wsX60, w ∈ lw_all := lw_in wsX60 [1730, 1732, 1734, 1736, 1738, 1740, 1742, 1744, 1746, 1748, 1750, 1752, 1754, 1756, 1758, 1760, 1762, 1764, 1766, 1768, 1770, 1772, 1774, 1776, 1778, 1780, 1782, 1784, 1786, 1788, 1790, 1792, 1794, 1796, 1798, 1800, 1802, 1804, 1806, 1808, 1810] (by decide +kernel) (by decide +kernel)
theorem in_X7 : ∀ w ∈ wsX70, w ∈ lw_all := lw_in wsX70 [677, 679, 681, 683, 685, 687, 689] (by decide +kernel) (by decide +kernel)
theorem in_X8 : ∀ w ∈ wsX80, w ∈ lw_all := lw_in wsX80 [765, 766, 767, 768, 769, 790, 786, 788] (by decide +kernel) (by decide +kernel)
theorem in_X9 : ∀ w ∈ wsX90, w ∈ lw_all := lw_in wsX90 [845, 847, 849] (by decide +kernel) (by decide +kernel)
theorem in_X10 : ∀ w ∈ wsX100, w ∈ lw_all := lw_in wsX100 [959, 961] (by decide +kernel) (by decide +kernel)
theorem in_X11 : ∀ w ∈ wsX110, w ∈ lw_all := lw_in wsX110 [1523, 1525, 1527] (by decide +kernel) (by decide +kernel)
