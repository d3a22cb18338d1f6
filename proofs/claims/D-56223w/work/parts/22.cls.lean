set_option maxRecDepth 100000
/-! THE CLASSES BY NUMBER (printed by gen/gentab.py) -/
def F_0 : u_T := fun k => match k with
  | 0 => ("java/lang/String", "value", "[B", true)
  | 1 => ("java/lang/String", "coder", "B", true)
  | 2 => ("java/lang/String", "hash", "I", false)
  | _ => ("java/lang/String", "hashIsZero", "Z", false)
def F_1 : u_T := fun k => match k with
  | 0 => ("UmbrellaBank", "state", "LUmbrellaBank$State;", false)
  | 1 => ("UmbrellaBank", "snapshot", "LUmbrellaBank$State;", false)
  | 2 => ("UmbrellaBank", "history", "Ljava/util/ArrayDeque;", true)
  | 3 => ("UmbrellaBank", "output", "Ljava/lang/String;", false)
  | 4 => ("UmbrellaBank", "buffer", "[C", true)
  | 5 => ("UmbrellaBank", "length", "I", false)
  | 6 => ("UmbrellaBank", "errorPosition", "I", false)
  | _ => ("UmbrellaBank", "failedCommand", "I", false)
def F_2 : u_T := fun k => match k with
  | _ => ("UmbrellaBank$1", "this$0", "LUmbrellaBank;", true)
def F_3 : u_T := fun k => match k with
  | 0 => ("UmbrellaBank$1Window", "first", "I", false)
  | 1 => ("UmbrellaBank$1Window", "rain", "I", false)
  | 2 => ("UmbrellaBank$1Window", "val$days", "I", true)
  | _ => ("UmbrellaBank$1Window", "this$0", "LUmbrellaBank;", true)
def F_4 : u_T := fun k => match k with
  | _ => ("UmbrellaBank$ByDrops", "sign", "I", true)
def F_5 : u_T := fun k => match k with
  | 0 => ("UmbrellaBank$Calling", "of", "LUmbrellaBank$State;", true)
  | _ => ("UmbrellaBank$Calling", "need", "I", true)
def F_6 : u_T := fun k => match k with
  | 0 => ("UmbrellaBank$Claim", "owner", "I", true)
  | _ => ("UmbrellaBank$Claim", "umbrellas", "I", true)
def F_7 : u_T := fun k => match k with
  | 0 => ("UmbrellaBank$Change", "this$0", "LUmbrellaBank;", true)
  | 1 => ("UmbrellaBank$Command", "word", "Ljava/lang/String;", true)
  | 2 => ("UmbrellaBank$Command", "n", "[I", true)
  | _ => ("UmbrellaBank$Command", "this$0", "LUmbrellaBank;", true)
def F_8 : u_T := fun k => match k with
  | 0 => ("UmbrellaBank$Loan", "id", "I", true)
  | 1 => ("UmbrellaBank$Loan", "borrower", "I", true)
  | 2 => ("UmbrellaBank$Loan", "umbrellas", "I", true)
  | 3 => ("UmbrellaBank$Loan", "dueDay", "I", true)
  | _ => ("UmbrellaBank$Loan", "debt", "I", true)
def F_9 : u_T := fun k => match k with
  | 0 => ("UmbrellaBank$LoanSet", "of", "LUmbrellaBank$State;", true)
  | _ => ("UmbrellaBank$LoanSet", "places", "I", true)
def F_10 : u_T := fun k => match k with
  | 0 => ("UmbrellaBank$LoanSet$1", "left", "I", false)
  | _ => ("UmbrellaBank$LoanSet$1", "this$0", "LUmbrellaBank$LoanSet;", true)
def F_11 : u_T := fun k => match k with
  | 0 => ("UmbrellaBank$Net", "owner", "I", true)
  | _ => ("UmbrellaBank$Net", "drops", "I", true)
def F_12 : u_T := fun k => match k with
  | _ => ("UmbrellaBank$Netting", "of", "LUmbrellaBank$State;", true)
def F_13 : u_T := fun k => match k with
  | 0 => ("UmbrellaBank$Netting$1Look", "val$nets", "[I", true)
  | _ => ("UmbrellaBank$Netting$1Look", "this$0", "LUmbrellaBank$Netting;", true)
def F_14 : u_T := fun k => match k with
  | 0 => ("UmbrellaBank$OneDay", "day", "I", true)
  | _ => ("UmbrellaBank$OneDay", "rain", "I", true)
def F_15 : u_T := fun k => match k with
  | 0 => ("UmbrellaBank$Parser", "words", "Ljava/util/List;", true)
  | 1 => ("UmbrellaBank$Parser", "at", "I", false)
  | _ => ("UmbrellaBank$Parser", "this$0", "LUmbrellaBank;", true)
def F_16 : u_T := fun k => match k with
  | 0 => ("UmbrellaBank$Change", "this$0", "LUmbrellaBank;", true)
  | 1 => ("UmbrellaBank$Script", "commands", "Ljava/util/List;", true)
  | _ => ("UmbrellaBank$Script", "this$0", "LUmbrellaBank;", true)
def F_17 : u_T := fun k => match k with
  | 0 => ("UmbrellaBank$State", "deposits", "[I", true)
  | 1 => ("UmbrellaBank$State", "promises", "[[I", true)
  | 2 => ("UmbrellaBank$State", "rains", "[I", true)
  | 3 => ("UmbrellaBank$State", "loans", "Ljava/util/ArrayList;", true)
  | 4 => ("UmbrellaBank$State", "claims", "Ljava/util/ArrayList;", true)
  | 5 => ("UmbrellaBank$State", "owners", "I", false)
  | 6 => ("UmbrellaBank$State", "vault", "I", false)
  | 7 => ("UmbrellaBank$State", "capital", "I", false)
  | 8 => ("UmbrellaBank$State", "ratio", "I", false)
  | 9 => ("UmbrellaBank$State", "gust", "I", false)
  | 10 => ("UmbrellaBank$State", "day", "I", false)
  | 11 => ("UmbrellaBank$State", "nextLoan", "I", false)
  | _ => ("UmbrellaBank$State", "drops", "J", false)
def F_18 : u_T := fun k => match k with
  | 0 => ("java/lang/Throwable", "cause", "Ljava/lang/Throwable;", false)
  | 1 => ("java/lang/Throwable", "stackTrace", "[Ljava/lang/StackTraceElement;", false)
  | 2 => ("java/lang/Throwable", "suppressedExceptions", "Ljava/util/List;", false)
  | 3 => ("java/lang/Throwable", "detailMessage", "Ljava/lang/String;", false)
  | 4 => ("java/lang/Throwable", "backtrace", "Ljava/lang/Object;", false)
  | 5 => ("UmbrellaBank$SyntaxError", "position", "I", true)
  | _ => ("java/lang/Throwable", "depth", "I", false)
def F_19 : u_T := fun k => match k with
  | 0 => ("UmbrellaBank$TwoSpans", "from", "I", true)
  | 1 => ("UmbrellaBank$TwoSpans", "to", "I", true)
  | 2 => ("UmbrellaBank$TwoSpans", "left", "LUmbrellaBank$Span;", true)
  | _ => ("UmbrellaBank$TwoSpans", "right", "LUmbrellaBank$Span;", true)
def F_20 : u_T := fun _ => ("", "", "", false)
def F_21 : u_T := fun k => match k with
  | 0 => ("UmbrellaBankModel", "thrown", "I", false)
  | 1 => ("UmbrellaBankModel", "w", "[I", true)
  | 2 => ("UmbrellaBankModel", "undos", "[I", true)
  | 3 => ("UmbrellaBankModel", "savedRow", "[I", true)
  | 4 => ("UmbrellaBankModel", "before", "[I", true)
  | 5 => ("UmbrellaBankModel", "changes", "I", false)
  | 6 => ("UmbrellaBankModel", "firstChange", "I", false)
  | 7 => ("UmbrellaBankModel", "isSaved", "Z", false)
  | 8 => ("UmbrellaBankModel", "held", "[I", true)
  | 9 => ("UmbrellaBankModel", "nets", "[I", true)
  | 10 => ("UmbrellaBankModel", "line", "[C", true)
  | 11 => ("UmbrellaBankModel", "lineLength", "I", false)
  | 12 => ("UmbrellaBankModel", "text", "[C", true)
  | 13 => ("UmbrellaBankModel", "textLength", "I", false)
  | 14 => ("UmbrellaBankModel", "textAt", "I", false)
  | 15 => ("UmbrellaBankModel", "errorAt", "I", false)
  | 16 => ("UmbrellaBankModel", "failedAt", "I", false)
  | 17 => ("UmbrellaBankModel", "numbers", "[I", true)
  | 18 => ("UmbrellaBankModel", "sort", "I", false)
  | _ => ("UmbrellaBankModel", "done", "I", false)
def F_22 : u_T := fun k => match k with
  | _ => ("java/lang/Integer", "value", "I", true)
def F_23 : u_T := fun k => match k with
  | 0 => ("java/lang/AbstractStringBuilder", "value", "[B", false)
  | 1 => ("java/lang/AbstractStringBuilder", "coder", "B", false)
  | 2 => ("java/lang/AbstractStringBuilder", "maybeLatin1", "Z", false)
  | _ => ("java/lang/AbstractStringBuilder", "count", "I", false)
def F_24 : u_T := fun k => match k with
  | 0 => ("java/util/ArrayDeque", "elements", "[Ljava/lang/Object;", false)
  | 1 => ("java/util/ArrayDeque", "head", "I", false)
  | _ => ("java/util/ArrayDeque", "tail", "I", false)
def F_25 : u_T := fun k => match k with
  | 0 => ("java/util/ArrayDeque$DeqIterator", "cursor", "I", false)
  | 1 => ("java/util/ArrayDeque$DeqIterator", "remaining", "I", false)
  | 2 => ("java/util/ArrayDeque$DeqIterator", "lastRet", "I", false)
  | _ => ("java/util/ArrayDeque$DeqIterator", "this$0", "Ljava/util/ArrayDeque;", true)
def F_26 : u_T := fun k => match k with
  | 0 => ("java/util/ArrayList", "elementData", "[Ljava/lang/Object;", false)
  | 1 => ("java/util/ArrayList", "size", "I", false)
  | _ => ("java/util/AbstractList", "modCount", "I", false)
def F_27 : u_T := fun k => match k with
  | 0 => ("java/util/ArrayList$Itr", "cursor", "I", false)
  | 1 => ("java/util/ArrayList$Itr", "lastRet", "I", false)
  | 2 => ("java/util/ArrayList$Itr", "expectedModCount", "I", false)
  | _ => ("java/util/ArrayList$Itr", "this$0", "Ljava/util/ArrayList;", true)
def F_28 : u_T := fun k => match k with
  | 0 => ("java/util/ImmutableCollections$List12", "e0", "Ljava/lang/Object;", true)
  | _ => ("java/util/ImmutableCollections$List12", "e1", "Ljava/lang/Object;", true)
def F_29 : u_T := fun k => match k with
  | 0 => ("java/util/ImmutableCollections$ListItr", "list", "Ljava/util/List;", true)
  | 1 => ("java/util/ImmutableCollections$ListItr", "size", "I", true)
  | 2 => ("java/util/ImmutableCollections$ListItr", "isListIterator", "Z", true)
  | _ => ("java/util/ImmutableCollections$ListItr", "cursor", "I", false)
def F_30 : u_T := fun k => match k with
  | 0 => ("java/util/ImmutableCollections$ListN", "elements", "[Ljava/lang/Object;", true)
  | _ => ("java/util/ImmutableCollections$ListN", "allowNulls", "Z", true)
def F_31 : u_T := fun k => match k with
  | _ => ("java/util/Optional", "value", "Ljava/lang/Object;", true)
def F_32 : u_T := fun k => match k with
  | 0 => ("java/util/PriorityQueue", "queue", "[Ljava/lang/Object;", false)
  | 1 => ("java/util/PriorityQueue", "size", "I", false)
  | 2 => ("java/util/PriorityQueue", "comparator", "Ljava/util/Comparator;", true)
  | _ => ("java/util/PriorityQueue", "modCount", "I", false)
def F_33 : u_T := fun k => match k with
  | 0 => ("java/util/PriorityQueue$Itr", "cursor", "I", false)
  | 1 => ("java/util/PriorityQueue$Itr", "lastRet", "I", false)
  | 2 => ("java/util/PriorityQueue$Itr", "forgetMeNot", "Ljava/util/ArrayDeque;", false)
  | 3 => ("java/util/PriorityQueue$Itr", "lastRetElt", "Ljava/lang/Object;", false)
  | 4 => ("java/util/PriorityQueue$Itr", "expectedModCount", "I", false)
  | _ => ("java/util/PriorityQueue$Itr", "this$0", "Ljava/util/PriorityQueue;", true)
def F_34 : u_T := fun k => match k with
  | 0 => ("java/util/TreeMap", "comparator", "Ljava/util/Comparator;", true)
  | 1 => ("java/util/TreeMap", "root", "Ljava/util/TreeMap$Entry;", false)
  | 2 => ("java/util/TreeMap", "size", "I", false)
  | 3 => ("java/util/TreeMap", "modCount", "I", false)
  | 4 => ("java/util/TreeMap", "entrySet", "Ljava/util/TreeMap$EntrySet;", false)
  | 5 => ("java/util/TreeMap", "navigableKeySet", "Ljava/util/TreeMap$KeySet;", false)
  | 6 => ("java/util/TreeMap", "descendingMap", "Ljava/util/NavigableMap;", false)
  | 7 => ("java/util/AbstractMap", "keySet", "Ljava/util/Set;", false)
  | _ => ("java/util/AbstractMap", "values", "Ljava/util/Collection;", false)
def F_35 : u_T := fun k => match k with
  | 0 => ("java/util/TreeMap$Entry", "key", "Ljava/lang/Object;", false)
  | 1 => ("java/util/TreeMap$Entry", "value", "Ljava/lang/Object;", false)
  | 2 => ("java/util/TreeMap$Entry", "left", "Ljava/util/TreeMap$Entry;", false)
  | 3 => ("java/util/TreeMap$Entry", "right", "Ljava/util/TreeMap$Entry;", false)
  | 4 => ("java/util/TreeMap$Entry", "parent", "Ljava/util/TreeMap$Entry;", false)
  | _ => ("java/util/TreeMap$Entry", "color", "Z", false)
def F_36 : u_T := fun k => match k with
  | 0 => ("java/util/TreeMap$PrivateEntryIterator", "next", "Ljava/util/TreeMap$Entry;", false)
  | 1 => ("java/util/TreeMap$PrivateEntryIterator", "lastReturned", "Ljava/util/TreeMap$Entry;", false)
  | 2 => ("java/util/TreeMap$PrivateEntryIterator", "expectedModCount", "I", false)
  | _ => ("java/util/TreeMap$PrivateEntryIterator", "this$0", "Ljava/util/TreeMap;", true)
def F_37 : u_T := fun k => match k with
  | _ => ("java/util/TreeMap$KeySet", "m", "Ljava/util/NavigableMap;", true)
def F_38 : u_T := fun _ => ("", "", "", false)
def F_39 : u_T := fun _ => ("", "", "", false)
def F_40 : u_T := fun _ => ("", "", "", false)
def F_41 : u_T := fun _ => ("", "", "", false)
def F_42 : u_T := fun _ => ("", "", "", false)
def F_43 : u_T := fun _ => ("", "", "", false)
def F_44 : u_T := fun k => match k with
  | _ => ("UmbrellaBank$Change", "this$0", "LUmbrellaBank;", true)
def cl_ : List vw_C := [("java/lang/String", F_0, 4), ("UmbrellaBank", F_1, 8), ("UmbrellaBank$1", F_2, 1), ("UmbrellaBank$1Window", F_3, 4), ("UmbrellaBank$ByDrops", F_4, 1), ("UmbrellaBank$Calling", F_5, 2), ("UmbrellaBank$Claim", F_6, 2), ("UmbrellaBank$Command", F_7, 4), ("UmbrellaBank$Loan", F_8, 5), ("UmbrellaBank$LoanSet", F_9, 2), ("UmbrellaBank$LoanSet$1", F_10, 2), ("UmbrellaBank$Net", F_11, 2), ("UmbrellaBank$Netting", F_12, 1), ("UmbrellaBank$Netting$1Look", F_13, 2), ("UmbrellaBank$OneDay", F_14, 2), ("UmbrellaBank$Parser", F_15, 3), ("UmbrellaBank$Script", F_16, 3), ("UmbrellaBank$State", F_17, 13), ("UmbrellaBank$SyntaxError", F_18, 7), ("UmbrellaBank$TwoSpans", F_19, 4), ("UmbrellaBank$Urgency", F_20, 0), ("UmbrellaBankModel", F_21, 20), ("java/lang/Integer", F_22, 1), ("java/lang/StringBuilder", F_23, 4), ("java/util/ArrayDeque", F_24, 3), ("java/util/ArrayDeque$DeqIterator", F_25, 4), ("java/util/ArrayList", F_26, 3), ("java/util/ArrayList$Itr", F_27, 4), ("java/util/ImmutableCollections$List12", F_28, 2), ("java/util/ImmutableCollections$ListItr", F_29, 4), ("java/util/ImmutableCollections$ListN", F_30, 2), ("java/util/Optional", F_31, 1), ("java/util/PriorityQueue", F_32, 4), ("java/util/PriorityQueue$Itr", F_33, 6), ("java/util/TreeMap", F_34, 9), ("java/util/TreeMap$Entry", F_35, 6), ("java/util/TreeMap$KeyIterator", F_36, 4), ("java/util/TreeMap$KeySet", F_37, 1), ("java/util/NoSuchElementException", F_38, 0), ("java/lang/IllegalStateException", F_39, 0), ("java/lang/IllegalArgumentException", F_40, 0), ("java/lang/IndexOutOfBoundsException", F_41, 0), ("java/lang/UnsupportedOperationException", F_42, 0), ("java/lang/ArithmeticException", F_43, 0), ("UmbrellaBank$Script", F_44, 1)]
/-- which kinds are under which: itself, or the two changes under the part that they share -/
def sub_ (k c : Nat) : Bool := k == c || (c == 44 && (k == 7 || k == 16))
def xsl_ : List (Nat × Nat × Bool) := [(18, 18, true), (18, 38, false), (18, 39, false), (18, 40, false), (18, 41, false), (18, 42, false), (18, 43, false), (38, 18, false), (38, 38, true), (38, 39, false), (38, 40, false), (38, 41, false), (38, 42, false), (38, 43, false), (39, 18, false), (39, 38, false), (39, 39, true), (39, 40, false), (39, 41, false), (39, 42, false), (39, 43, false), (40, 18, false), (40, 38, false), (40, 39, false), (40, 40, true), (40, 41, false), (40, 42, false), (40, 43, false), (41, 18, false), (41, 38, false), (41, 39, false), (41, 40, false), (41, 41, true), (41, 42, false), (41, 43, false), (42, 18, false), (42, 38, false), (42, 39, false), (42, 40, false), (42, 41, false), (42, 42, true), (42, 43, false), (43, 18, false), (43, 38, false), (43, 39, false), (43, 40, false), (43, 41, false), (43, 42, false), (43, 43, true)]
def am_xf : List (Nat × Nat × Bool) → Nat → Nat → Option Bool
  | [], _, _ => none
  | q :: r, k, c => if k = q.1 ∧ c = q.2.1 then some q.2.2 else am_xf r k c
theorem am_xf_mem : ∀ {l : List (Nat × Nat × Bool)} {k c : Nat} {b : Bool}, am_xf l k c = some b → (k, c, b) ∈ l
  | q :: r, k, c, b, h => by
    unfold am_xf at h
    split at h
    · rename_i e
      cases h
      rw [e.1, e.2]
      exact List.mem_cons_self
    · exact List.mem_cons_of_mem _ (am_xf_mem h)
def xs_ : Nat → Nat → Option Bool := am_xf xsl_
def xnm (c : Nat) : String := match cl_[c]? with
  | some r => r.1
  | none => ""
theorem xs_998 (k : Nat) : xs_ k 998 = none := by
  cases h : xs_ k 998 with
  | none => rfl
  | some b => exact absurd rfl ((show ∀ q ∈ xsl_, q.2.1 ≠ 998 by decide) _ (am_xf_mem h))
def ncs_ : List (String × String) := [("UmbrellaBank$SyntaxError", "java/util/NoSuchElementException"), ("UmbrellaBank$SyntaxError", "java/lang/IllegalStateException"), ("UmbrellaBank$SyntaxError", "java/lang/IllegalArgumentException"), ("UmbrellaBank$SyntaxError", "java/lang/IndexOutOfBoundsException"), ("UmbrellaBank$SyntaxError", "java/lang/UnsupportedOperationException"), ("UmbrellaBank$SyntaxError", "java/lang/ArithmeticException"), ("java/util/NoSuchElementException", "UmbrellaBank$SyntaxError"), ("java/util/NoSuchElementException", "java/lang/IllegalStateException"), ("java/util/NoSuchElementException", "java/lang/IllegalArgumentException"), ("java/util/NoSuchElementException", "java/lang/IndexOutOfBoundsException"), ("java/util/NoSuchElementException", "java/lang/UnsupportedOperationException"), ("java/util/NoSuchElementException", "java/lang/ArithmeticException"), ("java/lang/IllegalStateException", "UmbrellaBank$SyntaxError"), ("java/lang/IllegalStateException", "java/util/NoSuchElementException"), ("java/lang/IllegalStateException", "java/lang/IllegalArgumentException"), ("java/lang/IllegalStateException", "java/lang/IndexOutOfBoundsException"), ("java/lang/IllegalStateException", "java/lang/UnsupportedOperationException"), ("java/lang/IllegalStateException", "java/lang/ArithmeticException"), ("java/lang/IllegalArgumentException", "UmbrellaBank$SyntaxError"), ("java/lang/IllegalArgumentException", "java/util/NoSuchElementException"), ("java/lang/IllegalArgumentException", "java/lang/IllegalStateException"), ("java/lang/IllegalArgumentException", "java/lang/IndexOutOfBoundsException"), ("java/lang/IllegalArgumentException", "java/lang/UnsupportedOperationException"), ("java/lang/IllegalArgumentException", "java/lang/ArithmeticException"), ("java/lang/IndexOutOfBoundsException", "UmbrellaBank$SyntaxError"), ("java/lang/IndexOutOfBoundsException", "java/util/NoSuchElementException"), ("java/lang/IndexOutOfBoundsException", "java/lang/IllegalStateException"), ("java/lang/IndexOutOfBoundsException", "java/lang/IllegalArgumentException"), ("java/lang/IndexOutOfBoundsException", "java/lang/UnsupportedOperationException"), ("java/lang/IndexOutOfBoundsException", "java/lang/ArithmeticException"), ("java/lang/UnsupportedOperationException", "UmbrellaBank$SyntaxError"), ("java/lang/UnsupportedOperationException", "java/util/NoSuchElementException"), ("java/lang/UnsupportedOperationException", "java/lang/IllegalStateException"), ("java/lang/UnsupportedOperationException", "java/lang/IllegalArgumentException"), ("java/lang/UnsupportedOperationException", "java/lang/IndexOutOfBoundsException"), ("java/lang/UnsupportedOperationException", "java/lang/ArithmeticException"), ("java/lang/ArithmeticException", "UmbrellaBank$SyntaxError"), ("java/lang/ArithmeticException", "java/util/NoSuchElementException"), ("java/lang/ArithmeticException", "java/lang/IllegalStateException"), ("java/lang/ArithmeticException", "java/lang/IllegalArgumentException"), ("java/lang/ArithmeticException", "java/lang/IndexOutOfBoundsException"), ("java/lang/ArithmeticException", "java/lang/UnsupportedOperationException")]
def strs_ : List (String × Nat × String × Nat) := [("jdk/internal/util/ArraysSupport", 92, "unrecognized basic type: ", 0), ("java/util/Optional", 28, "No value present", 1), ("java/util/ArrayDeque", 35, "Sorry, deque too big", 2), ("java/lang/ArrayIndexOutOfBoundsException", 13, "Array index out of range: ", 3), ("java/util/ImmutableCollections$AbstractImmutableList", 116, "Index: ", 4), ("java/util/ImmutableCollections$AbstractImmutableList", 118, " Size: ", 5), ("java/util/Arrays", 337, " > ", 6), ("java/util/Arrays", 48, "fromIndex(", 7), ("java/util/Arrays", 57, ") > toIndex(", 8), ("java/util/Arrays", 59, ")", 9), ("UmbrellaBank", 84, "claim", 10), ("UmbrellaBank", 82, "call", 11), ("UmbrellaBank", 74, "put", 12), ("UmbrellaBank", 80, "back", 13), ("UmbrellaBank", 46, "", 14), ("UmbrellaBank", 65, "join", 15), ("UmbrellaBank", 78, "lend", 16), ("UmbrellaBank", 90, "net", 17), ("UmbrellaBank", 98, "day", 18), ("UmbrellaBank", 86, "pay", 19), ("UmbrellaBank", 88, "promise", 20), ("UmbrellaBank", 397, ",", 21), ("UmbrellaBank", 94, "gust", 22), ("UmbrellaBank", 92, "rain", 23), ("UmbrellaBank", 96, "ratio", 24), ("UmbrellaBank", 76, "take", 25), ("UmbrellaBank$Parser", 15, "join", 26), ("UmbrellaBank$Parser", 29, "pay", 27), ("UmbrellaBank$Parser", 33, "net", 28), ("UmbrellaBank$Parser", 17, "put", 29), ("UmbrellaBank$Parser", 19, "take", 30), ("UmbrellaBank$Parser", 27, "claim", 31), ("UmbrellaBank$Parser", 21, "lend", 32), ("UmbrellaBank$Parser", 31, "promise", 33), ("UmbrellaBank$Parser", 35, "rain", 34), ("UmbrellaBank$Parser", 37, "gust", 35), ("UmbrellaBank$Parser", 41, "day", 36), ("UmbrellaBank$Parser", 23, "back", 37), ("UmbrellaBank$Parser", 25, "call", 38), ("UmbrellaBank$Parser", 39, "ratio", 39), ("UmbrellaBank$Command", 66, "lend", 40), ("UmbrellaBank$Command", 68, "back", 41), ("UmbrellaBank$Command", 70, "call", 42), ("UmbrellaBank$Command", 72, "rain", 43), ("UmbrellaBank$Command", 74, "gust", 44), ("UmbrellaBank$Command", 76, "ratio", 45), ("UmbrellaBank$Command", 78, "day", 46), ("UmbrellaBank$Command", 27, "join", 47), ("UmbrellaBank$Command", 33, "put", 48), ("UmbrellaBank$Command", 35, "take", 49), ("UmbrellaBank$Command", 37, "claim", 50), ("UmbrellaBank$Command", 39, "pay", 51), ("UmbrellaBank$Command", 41, "promise", 52)]
def stats_ : List (String × String × String × List Nat) := [("jdk/internal/util/Preconditions", "SIOOBE_FORMATTER", "Ljava/util/function/BiFunction;", [3, 66]), ("java/lang/String", "COMPACT_STRINGS", "Z", [0, 1]), ("java/lang/Integer", "DigitOnes", "[B", [1, 60]), ("java/lang/Integer", "DigitTens", "[B", [1, 61]), ("java/lang/Integer$IntegerCache", "high", "I", [0, 127]), ("java/lang/Integer$IntegerCache", "cache", "[Ljava/lang/Integer;", [1, 62]), ("java/util/ArrayList", "DEFAULTCAPACITY_EMPTY_ELEMENTDATA", "[Ljava/lang/Object;", [1, 63]), ("java/util/Optional", "EMPTY", "Ljava/util/Optional;", [1, 64]), ("java/util/ImmutableCollections", "EMPTY_LIST", "Ljava/util/ImmutableCollections$ListN;", [1, 65]), ("java/lang/Throwable", "UNASSIGNED_STACK", "[Ljava/lang/StackTraceElement;", [3, 67]), ("java/lang/Throwable", "SUPPRESSED_SENTINEL", "Ljava/util/List;", [3, 68])]
/-- what the run's start says of constants and statics -/
def am_S0 (Y : am_Y) (E : Nat → Nat) : Prop := (∀ q ∈ strs_, vk_R q.1 q.2.1 q.2.2.1 (E q.2.2.2) Y.s0) ∧ (∀ q ∈ stats_, ∀ v, am_cv E q.2.2.2 = some v → va_Z q.1 q.2.1 q.2.2.1 v (fun z => Y.base ≤ z) Y.s0 Y.s0.heap) ∧ va_Mi "[Ljava/lang/Object;" (E 69) Y.s0 ∧ va_Dc Y.s0
def am_S1 (Y : am_Y) : Prop := ∀ q ∈ ncs_, va_Nc q.1 q.2 Y.s0
abbrev am_Yc (s0 : State) (D : va_G) (aC : Nat → ClassId) : am_Y := (s0, D, aC, cl_)
