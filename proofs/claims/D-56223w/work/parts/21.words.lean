set_option maxRecDepth 100000
/-! WORDS USED, by their places (printed by gen/gentab.py) -/
theorem w_0 : Cond.selects "java/util/ArrayDeque" ⟨"java/util/ArrayDeque", "toArray", "(Ljava/lang/Class;)[Ljava/lang/Object;"⟩ ⟨"java/util/ArrayDeque", "toArray", "(Ljava/lang/Class;)[Ljava/lang/Object;"⟩ ∈ lw_all := am_wa 0 rfl rfl
theorem w_1 : Cond.selects "java/lang/Throwable" ⟨"java/lang/Throwable", "fillInStackTrace", "(I)Ljava/lang/Throwable;"⟩ ⟨"java/lang/Throwable", "fillInStackTrace", "(I)Ljava/lang/Throwable;"⟩ ∈ lw_all := am_wa 1 rfl rfl
theorem w_2 : Cond.selects "java/util/ArrayList" ⟨"java/util/ArrayList", "grow", "(I)[Ljava/lang/Object;"⟩ ⟨"java/util/ArrayList", "grow", "(I)[Ljava/lang/Object;"⟩ ∈ lw_all := am_wa 2 rfl rfl
theorem w_3 : Cond.selects "java/util/ArrayList" ⟨"java/util/ArrayList", "add", "(Ljava/lang/Object;[Ljava/lang/Object;I)V"⟩ ⟨"java/util/ArrayList", "add", "(Ljava/lang/Object;[Ljava/lang/Object;I)V"⟩ ∈ lw_all := am_wa 3 rfl rfl
theorem w_4 : Cond.selects "java/util/ArrayList" ⟨"java/util/ArrayList", "grow", "()[Ljava/lang/Object;"⟩ ⟨"java/util/ArrayList", "grow", "()[Ljava/lang/Object;"⟩ ∈ lw_all := am_wa 4 rfl rfl
theorem w_5 : Cond.selects "java/util/ArrayList" ⟨"java/util/ArrayList", "fastRemove", "([Ljava/lang/Object;I)V"⟩ ⟨"java/util/ArrayList", "fastRemove", "([Ljava/lang/Object;I)V"⟩ ∈ lw_all := am_wa 5 rfl rfl
theorem w_6 : Cond.selects "UmbrellaBank$Calling" ⟨"UmbrellaBank$Calling", "umbrellas", "(I)I"⟩ ⟨"UmbrellaBank$Calling", "umbrellas", "(I)I"⟩ ∈ lw_all := am_wa 6 rfl rfl
theorem w_7 : Cond.selects "UmbrellaBank$Calling" ⟨"UmbrellaBank$Calling", "isBetter", "(II)Z"⟩ ⟨"UmbrellaBank$Calling", "isBetter", "(II)Z"⟩ ∈ lw_all := am_wa 7 rfl rfl
theorem w_8 : Cond.selects "UmbrellaBank$Calling" ⟨"UmbrellaBank$Calling", "debts", "(I)I"⟩ ⟨"UmbrellaBank$Calling", "debts", "(I)I"⟩ ∈ lw_all := am_wa 8 rfl rfl
theorem w_9 : Cond.selects "java/util/PriorityQueue" ⟨"java/util/PriorityQueue", "indexOf", "(Ljava/lang/Object;)I"⟩ ⟨"java/util/PriorityQueue", "indexOf", "(Ljava/lang/Object;)I"⟩ ∈ lw_all := am_wa 9 rfl rfl
theorem w_10 : Cond.selects "java/util/ArrayList" ⟨"java/util/ArrayList", "shiftTailOverGap", "([Ljava/lang/Object;II)V"⟩ ⟨"java/util/ArrayList", "shiftTailOverGap", "([Ljava/lang/Object;II)V"⟩ ∈ lw_all := am_wa 10 rfl rfl
theorem w_11 : Cond.selects "UmbrellaBank$State" ⟨"UmbrellaBank$State", "passDay", "()I"⟩ ⟨"UmbrellaBank$State", "passDay", "()I"⟩ ∈ lw_all := am_wa 11 rfl rfl
theorem w_12 : Cond.selects "UmbrellaBank$State" ⟨"UmbrellaBank$State", "fail", "(LUmbrellaBank$Loan;)V"⟩ ⟨"UmbrellaBank$State", "fail", "(LUmbrellaBank$Loan;)V"⟩ ∈ lw_all := am_wa 12 rfl rfl
theorem w_13 : Cond.selects "java/util/PriorityQueue" ⟨"java/util/PriorityQueue", "siftDown", "(ILjava/lang/Object;)V"⟩ ⟨"java/util/PriorityQueue", "siftDown", "(ILjava/lang/Object;)V"⟩ ∈ lw_all := am_wa 13 rfl rfl
theorem w_14 : Cond.selects "java/util/PriorityQueue" ⟨"java/util/PriorityQueue", "siftUp", "(ILjava/lang/Object;)V"⟩ ⟨"java/util/PriorityQueue", "siftUp", "(ILjava/lang/Object;)V"⟩ ∈ lw_all := am_wa 14 rfl rfl
theorem w_15 : Cond.selects "java/util/ArrayDeque" ⟨"java/util/ArrayDeque", "grow", "(I)V"⟩ ⟨"java/util/ArrayDeque", "grow", "(I)V"⟩ ∈ lw_all := am_wa 15 rfl rfl
theorem w_16 : Cond.selects "java/util/ArrayDeque" ⟨"java/util/ArrayDeque", "newCapacity", "(II)I"⟩ ⟨"java/util/ArrayDeque", "newCapacity", "(II)I"⟩ ∈ lw_all := am_wa 16 rfl rfl
theorem w_17 : Cond.selects "java/util/TreeMap" ⟨"java/util/TreeMap", "deleteEntry", "(Ljava/util/TreeMap$Entry;)V"⟩ ⟨"java/util/TreeMap", "deleteEntry", "(Ljava/util/TreeMap$Entry;)V"⟩ ∈ lw_all := am_wa 17 rfl rfl
theorem w_18 : Cond.selects "java/util/TreeMap" ⟨"java/util/TreeMap", "fixAfterDeletion", "(Ljava/util/TreeMap$Entry;)V"⟩ ⟨"java/util/TreeMap", "fixAfterDeletion", "(Ljava/util/TreeMap$Entry;)V"⟩ ∈ lw_all := am_wa 18 rfl rfl
theorem w_19 : Cond.selects "java/util/TreeMap" ⟨"java/util/TreeMap", "rotateLeft", "(Ljava/util/TreeMap$Entry;)V"⟩ ⟨"java/util/TreeMap", "rotateLeft", "(Ljava/util/TreeMap$Entry;)V"⟩ ∈ lw_all := am_wa 19 rfl rfl
theorem w_20 : Cond.selects "java/util/TreeMap" ⟨"java/util/TreeMap", "rotateRight", "(Ljava/util/TreeMap$Entry;)V"⟩ ⟨"java/util/TreeMap", "rotateRight", "(Ljava/util/TreeMap$Entry;)V"⟩ ∈ lw_all := am_wa 20 rfl rfl
theorem w_21 : Cond.selects "UmbrellaBank$Command" ⟨"UmbrellaBank$Command", "applyToOwners", "(LUmbrellaBank$State;)I"⟩ ⟨"UmbrellaBank$Command", "applyToOwners", "(LUmbrellaBank$State;)I"⟩ ∈ lw_all := am_wa 21 rfl rfl
theorem w_22 : Cond.selects "UmbrellaBank$State" ⟨"UmbrellaBank$State", "pays", "(LUmbrellaBank$Claim;)Z"⟩ ⟨"UmbrellaBank$State", "pays", "(LUmbrellaBank$Claim;)Z"⟩ ∈ lw_all := am_wa 22 rfl rfl
theorem w_23 : Cond.selects "java/util/PriorityQueue" ⟨"java/util/PriorityQueue", "grow", "(I)V"⟩ ⟨"java/util/PriorityQueue", "grow", "(I)V"⟩ ∈ lw_all := am_wa 23 rfl rfl
theorem w_24 : Cond.selects "UmbrellaBank" ⟨"UmbrellaBank", "arePayable", "(I)Z"⟩ ⟨"UmbrellaBank", "arePayable", "(I)Z"⟩ ∈ lw_all := am_wa 24 rfl rfl
theorem w_25 : Cond.selects "java/util/TreeMap" ⟨"java/util/TreeMap", "put", "(Ljava/lang/Object;Ljava/lang/Object;Z)Ljava/lang/Object;"⟩ ⟨"java/util/TreeMap", "put", "(Ljava/lang/Object;Ljava/lang/Object;Z)Ljava/lang/Object;"⟩ ∈ lw_all := am_wa 25 rfl rfl
theorem w_26 : Cond.selects "java/util/TreeMap" ⟨"java/util/TreeMap", "addEntryToEmptyMap", "(Ljava/lang/Object;Ljava/lang/Object;)V"⟩ ⟨"java/util/TreeMap", "addEntryToEmptyMap", "(Ljava/lang/Object;Ljava/lang/Object;)V"⟩ ∈ lw_all := am_wa 26 rfl rfl
theorem w_27 : Cond.selects "java/util/TreeMap" ⟨"java/util/TreeMap", "addEntry", "(Ljava/lang/Object;Ljava/lang/Object;Ljava/util/TreeMap$Entry;Z)V"⟩ ⟨"java/util/TreeMap", "addEntry", "(Ljava/lang/Object;Ljava/lang/Object;Ljava/util/TreeMap$Entry;Z)V"⟩ ∈ lw_all := am_wa 27 rfl rfl
theorem w_28 : Cond.selects "java/util/TreeMap" ⟨"java/util/TreeMap", "fixAfterInsertion", "(Ljava/util/TreeMap$Entry;)V"⟩ ⟨"java/util/TreeMap", "fixAfterInsertion", "(Ljava/util/TreeMap$Entry;)V"⟩ ∈ lw_all := am_wa 28 rfl rfl
theorem w_29 : Cond.selects "UmbrellaBank" ⟨"UmbrellaBank", "areCallsAlike", "()Z"⟩ ⟨"UmbrellaBank", "areCallsAlike", "()Z"⟩ ∈ lw_all := am_wa 29 rfl rfl
theorem w_30 : Cond.selects "UmbrellaBank" ⟨"UmbrellaBank", "show", "(Ljava/lang/String;)I"⟩ ⟨"UmbrellaBank", "show", "(Ljava/lang/String;)I"⟩ ∈ lw_all := am_wa 30 rfl rfl
theorem w_31 : Cond.selects "UmbrellaBank$Parser" ⟨"UmbrellaBank$Parser", "command", "()LUmbrellaBank$Command;"⟩ ⟨"UmbrellaBank$Parser", "command", "()LUmbrellaBank$Command;"⟩ ∈ lw_all := am_wa 31 rfl rfl
theorem w_32 : Cond.selects "UmbrellaBank$Parser" ⟨"UmbrellaBank$Parser", "word", "()Ljava/lang/String;"⟩ ⟨"UmbrellaBank$Parser", "word", "()Ljava/lang/String;"⟩ ∈ lw_all := am_wa 32 rfl rfl
theorem w_33 : Cond.selects "UmbrellaBank$Parser" ⟨"UmbrellaBank$Parser", "matchingPrefix", "(Ljava/lang/String;)I"⟩ ⟨"UmbrellaBank$Parser", "matchingPrefix", "(Ljava/lang/String;)I"⟩ ∈ lw_all := am_wa 33 rfl rfl
theorem w_34 : Cond.selects "UmbrellaBank$Parser" ⟨"UmbrellaBank$Parser", "number", "(I)I"⟩ ⟨"UmbrellaBank$Parser", "number", "(I)I"⟩ ∈ lw_all := am_wa 34 rfl rfl
theorem w_35 : Cond.selects "UmbrellaBank$Parser" ⟨"UmbrellaBank$Parser", "isAt", "(C)Z"⟩ ⟨"UmbrellaBank$Parser", "isAt", "(C)Z"⟩ ∈ lw_all := am_wa 35 rfl rfl
theorem w_36 : Cond.selects "UmbrellaBank$Parser" ⟨"UmbrellaBank$Parser", "digits", "(I)I"⟩ ⟨"UmbrellaBank$Parser", "digits", "(I)I"⟩ ∈ lw_all := am_wa 36 rfl rfl
theorem w_37 : Cond.selects "UmbrellaBank$Parser" ⟨"UmbrellaBank$Parser", "isDigit", "()Z"⟩ ⟨"UmbrellaBank$Parser", "isDigit", "()Z"⟩ ∈ lw_all := am_wa 37 rfl rfl
theorem w_38 : Cond.selects "UmbrellaBankModel" ⟨"UmbrellaBankModel", "notJoin", "()I"⟩ ⟨"UmbrellaBankModel", "notJoin", "()I"⟩ ∈ lw_all := am_wa 38 rfl rfl
theorem w_39 : Cond.selects "UmbrellaBankModel" ⟨"UmbrellaBankModel", "fails", "(I)I"⟩ ⟨"UmbrellaBankModel", "fails", "(I)I"⟩ ∈ lw_all := am_wa 39 rfl rfl
theorem w_40 : Cond.selects "UmbrellaBankModel" ⟨"UmbrellaBankModel", "remembers", "()V"⟩ ⟨"UmbrellaBankModel", "remembers", "()V"⟩ ∈ lw_all := am_wa 40 rfl rfl
theorem w_41 : Cond.selects "UmbrellaBankModel" ⟨"UmbrellaBankModel", "copies", "()V"⟩ ⟨"UmbrellaBankModel", "copies", "()V"⟩ ∈ lw_all := am_wa 41 rfl rfl
theorem w_42 : Cond.selects "UmbrellaBankModel" ⟨"UmbrellaBankModel", "keeps", "()V"⟩ ⟨"UmbrellaBankModel", "keeps", "()V"⟩ ∈ lw_all := am_wa 42 rfl rfl
theorem w_43 : Cond.selects "UmbrellaBankModel" ⟨"UmbrellaBankModel", "joins", "()I"⟩ ⟨"UmbrellaBankModel", "joins", "()I"⟩ ∈ lw_all := am_wa 43 rfl rfl
theorem w_44 : Cond.selects "UmbrellaBankModel" ⟨"UmbrellaBankModel", "notDeposit", "(II)I"⟩ ⟨"UmbrellaBankModel", "notDeposit", "(II)I"⟩ ∈ lw_all := am_wa 44 rfl rfl
theorem w_45 : Cond.selects "UmbrellaBankModel" ⟨"UmbrellaBankModel", "isOwner", "(I)Z"⟩ ⟨"UmbrellaBankModel", "isOwner", "(I)Z"⟩ ∈ lw_all := am_wa 45 rfl rfl
theorem w_46 : Cond.selects "UmbrellaBankModel" ⟨"UmbrellaBankModel", "adds", "(II)I"⟩ ⟨"UmbrellaBankModel", "adds", "(II)I"⟩ ∈ lw_all := am_wa 46 rfl rfl
theorem w_47 : Cond.selects "UmbrellaBankModel" ⟨"UmbrellaBankModel", "notWithdraw", "(II)I"⟩ ⟨"UmbrellaBankModel", "notWithdraw", "(II)I"⟩ ∈ lw_all := am_wa 47 rfl rfl
theorem w_48 : Cond.selects "UmbrellaBankModel" ⟨"UmbrellaBankModel", "deposits", "()I"⟩ ⟨"UmbrellaBankModel", "deposits", "()I"⟩ ∈ lw_all := am_wa 48 rfl rfl
theorem w_49 : Cond.selects "UmbrellaBankModel" ⟨"UmbrellaBankModel", "notLend", "(III)I"⟩ ⟨"UmbrellaBankModel", "notLend", "(III)I"⟩ ∈ lw_all := am_wa 49 rfl rfl
theorem w_50 : Cond.selects "UmbrellaBankModel" ⟨"UmbrellaBankModel", "lends", "(III)I"⟩ ⟨"UmbrellaBankModel", "lends", "(III)I"⟩ ∈ lw_all := am_wa 50 rfl rfl
theorem w_51 : Cond.selects "UmbrellaBankModel" ⟨"UmbrellaBankModel", "puts", "(III)V"⟩ ⟨"UmbrellaBankModel", "puts", "(III)V"⟩ ∈ lw_all := am_wa 51 rfl rfl
theorem w_52 : Cond.selects "UmbrellaBankModel" ⟨"UmbrellaBankModel", "notBack", "(I)I"⟩ ⟨"UmbrellaBankModel", "notBack", "(I)I"⟩ ∈ lw_all := am_wa 52 rfl rfl
theorem w_53 : Cond.selects "UmbrellaBankModel" ⟨"UmbrellaBankModel", "place", "(I)I"⟩ ⟨"UmbrellaBankModel", "place", "(I)I"⟩ ∈ lw_all := am_wa 53 rfl rfl
theorem w_54 : Cond.selects "UmbrellaBankModel" ⟨"UmbrellaBankModel", "loan", "(II)I"⟩ ⟨"UmbrellaBankModel", "loan", "(II)I"⟩ ∈ lw_all := am_wa 54 rfl rfl
theorem w_55 : Cond.selects "UmbrellaBankModel" ⟨"UmbrellaBankModel", "givesBack", "(I)I"⟩ ⟨"UmbrellaBankModel", "givesBack", "(I)I"⟩ ∈ lw_all := am_wa 55 rfl rfl
theorem w_56 : Cond.selects "UmbrellaBankModel" ⟨"UmbrellaBankModel", "closes", "(I)V"⟩ ⟨"UmbrellaBankModel", "closes", "(I)V"⟩ ∈ lw_all := am_wa 56 rfl rfl
theorem w_57 : Cond.selects "UmbrellaBankModel" ⟨"UmbrellaBankModel", "notCall", "(I)I"⟩ ⟨"UmbrellaBankModel", "notCall", "(I)I"⟩ ∈ lw_all := am_wa 57 rfl rfl
theorem w_58 : Cond.selects "UmbrellaBankModel" ⟨"UmbrellaBankModel", "bestSet", "(I)I"⟩ ⟨"UmbrellaBankModel", "bestSet", "(I)I"⟩ ∈ lw_all := am_wa 58 rfl rfl
theorem w_59 : Cond.selects "UmbrellaBankModel" ⟨"UmbrellaBankModel", "inSet", "(II)I"⟩ ⟨"UmbrellaBankModel", "inSet", "(II)I"⟩ ∈ lw_all := am_wa 59 rfl rfl
theorem w_60 : Cond.selects "UmbrellaBankModel" ⟨"UmbrellaBankModel", "isBetter", "(II)Z"⟩ ⟨"UmbrellaBankModel", "isBetter", "(II)Z"⟩ ∈ lw_all := am_wa 60 rfl rfl
theorem w_61 : Cond.selects "UmbrellaBankModel" ⟨"UmbrellaBankModel", "calls", "(I)I"⟩ ⟨"UmbrellaBankModel", "calls", "(I)I"⟩ ∈ lw_all := am_wa 61 rfl rfl
theorem w_62 : Cond.selects "UmbrellaBankModel" ⟨"UmbrellaBankModel", "notClaim", "(II)I"⟩ ⟨"UmbrellaBankModel", "notClaim", "(II)I"⟩ ∈ lw_all := am_wa 62 rfl rfl
theorem w_63 : Cond.selects "UmbrellaBankModel" ⟨"UmbrellaBankModel", "claims", "(II)I"⟩ ⟨"UmbrellaBankModel", "claims", "(II)I"⟩ ∈ lw_all := am_wa 63 rfl rfl
theorem w_64 : Cond.selects "UmbrellaBankModel" ⟨"UmbrellaBankModel", "pays", "()I"⟩ ⟨"UmbrellaBankModel", "pays", "()I"⟩ ∈ lw_all := am_wa 64 rfl rfl
theorem w_65 : Cond.selects "UmbrellaBankModel" ⟨"UmbrellaBankModel", "payable", "()I"⟩ ⟨"UmbrellaBankModel", "payable", "()I"⟩ ∈ lw_all := am_wa 65 rfl rfl
theorem w_66 : Cond.selects "UmbrellaBankModel" ⟨"UmbrellaBankModel", "notPromise", "(III)I"⟩ ⟨"UmbrellaBankModel", "notPromise", "(III)I"⟩ ∈ lw_all := am_wa 66 rfl rfl
theorem w_67 : Cond.selects "UmbrellaBankModel" ⟨"UmbrellaBankModel", "promises", "(III)I"⟩ ⟨"UmbrellaBankModel", "promises", "(III)I"⟩ ∈ lw_all := am_wa 67 rfl rfl
theorem w_68 : Cond.selects "UmbrellaBankModel" ⟨"UmbrellaBankModel", "settles", "()I"⟩ ⟨"UmbrellaBankModel", "settles", "()I"⟩ ∈ lw_all := am_wa 68 rfl rfl
theorem w_69 : Cond.selects "UmbrellaBankModel" ⟨"UmbrellaBankModel", "netting", "()I"⟩ ⟨"UmbrellaBankModel", "netting", "()I"⟩ ∈ lw_all := am_wa 69 rfl rfl
theorem w_70 : Cond.selects "UmbrellaBankModel" ⟨"UmbrellaBankModel", "net", "(I)I"⟩ ⟨"UmbrellaBankModel", "net", "(I)I"⟩ ∈ lw_all := am_wa 70 rfl rfl
theorem w_71 : Cond.selects "UmbrellaBankModel" ⟨"UmbrellaBankModel", "sets", "(II)I"⟩ ⟨"UmbrellaBankModel", "sets", "(II)I"⟩ ∈ lw_all := am_wa 71 rfl rfl
theorem w_72 : Cond.selects "UmbrellaBankModel" ⟨"UmbrellaBankModel", "notPass", "(I)I"⟩ ⟨"UmbrellaBankModel", "notPass", "(I)I"⟩ ∈ lw_all := am_wa 72 rfl rfl
theorem w_73 : Cond.selects "UmbrellaBankModel" ⟨"UmbrellaBankModel", "passes", "(I)I"⟩ ⟨"UmbrellaBankModel", "passes", "(I)I"⟩ ∈ lw_all := am_wa 73 rfl rfl
theorem w_74 : Cond.selects "UmbrellaBankModel" ⟨"UmbrellaBankModel", "rain", "(I)I"⟩ ⟨"UmbrellaBankModel", "rain", "(I)I"⟩ ∈ lw_all := am_wa 74 rfl rfl
theorem w_75 : Cond.selects "UmbrellaBankModel" ⟨"UmbrellaBankModel", "defaults", "(I)V"⟩ ⟨"UmbrellaBankModel", "defaults", "(I)V"⟩ ∈ lw_all := am_wa 75 rfl rfl
theorem w_76 : Cond.selects "UmbrellaBankModel" ⟨"UmbrellaBankModel", "told", "(I)I"⟩ ⟨"UmbrellaBankModel", "told", "(I)I"⟩ ∈ lw_all := am_wa 76 rfl rfl
theorem w_77 : Cond.selects "UmbrellaBankModel" ⟨"UmbrellaBankModel", "lent", "()I"⟩ ⟨"UmbrellaBankModel", "lent", "()I"⟩ ∈ lw_all := am_wa 77 rfl rfl
theorem w_78 : Cond.selects "UmbrellaBankModel" ⟨"UmbrellaBankModel", "span", "(II)I"⟩ ⟨"UmbrellaBankModel", "span", "(II)I"⟩ ∈ lw_all := am_wa 78 rfl rfl
theorem w_79 : Cond.selects "UmbrellaBankModel" ⟨"UmbrellaBankModel", "isAhead", "(II)Z"⟩ ⟨"UmbrellaBankModel", "isAhead", "(II)Z"⟩ ∈ lw_all := am_wa 79 rfl rfl
theorem w_80 : Cond.selects "UmbrellaBankModel" ⟨"UmbrellaBankModel", "tells", "(II)I"⟩ ⟨"UmbrellaBankModel", "tells", "(II)I"⟩ ∈ lw_all := am_wa 80 rfl rfl
theorem w_81 : Cond.selects "UmbrellaBankModel" ⟨"UmbrellaBankModel", "writesNumber", "(I)V"⟩ ⟨"UmbrellaBankModel", "writesNumber", "(I)V"⟩ ∈ lw_all := am_wa 81 rfl rfl
theorem w_82 : Cond.selects "UmbrellaBankModel" ⟨"UmbrellaBankModel", "writes", "(I)V"⟩ ⟨"UmbrellaBankModel", "writes", "(I)V"⟩ ∈ lw_all := am_wa 82 rfl rfl
theorem w_83 : Cond.selects "UmbrellaBankModel" ⟨"UmbrellaBankModel", "readsAll", "()Z"⟩ ⟨"UmbrellaBankModel", "readsAll", "()Z"⟩ ∈ lw_all := am_wa 83 rfl rfl
theorem w_84 : Cond.selects "UmbrellaBankModel" ⟨"UmbrellaBankModel", "readsCommand", "()Z"⟩ ⟨"UmbrellaBankModel", "readsCommand", "()Z"⟩ ∈ lw_all := am_wa 84 rfl rfl
theorem w_85 : Cond.selects "UmbrellaBankModel" ⟨"UmbrellaBankModel", "nextChar", "()I"⟩ ⟨"UmbrellaBankModel", "nextChar", "()I"⟩ ∈ lw_all := am_wa 85 rfl rfl
theorem w_86 : Cond.selects "UmbrellaBankModel" ⟨"UmbrellaBankModel", "reads", "(I)Z"⟩ ⟨"UmbrellaBankModel", "reads", "(I)Z"⟩ ∈ lw_all := am_wa 86 rfl rfl
theorem w_87 : Cond.selects "UmbrellaBankModel" ⟨"UmbrellaBankModel", "readsP", "()Z"⟩ ⟨"UmbrellaBankModel", "readsP", "()Z"⟩ ∈ lw_all := am_wa 87 rfl rfl
theorem w_88 : Cond.selects "UmbrellaBankModel" ⟨"UmbrellaBankModel", "readsTwo", "()Z"⟩ ⟨"UmbrellaBankModel", "readsTwo", "()Z"⟩ ∈ lw_all := am_wa 88 rfl rfl
theorem w_89 : Cond.selects "UmbrellaBankModel" ⟨"UmbrellaBankModel", "readsDigit", "(I)Z"⟩ ⟨"UmbrellaBankModel", "readsDigit", "(I)Z"⟩ ∈ lw_all := am_wa 89 rfl rfl
theorem w_90 : Cond.selects "UmbrellaBankModel" ⟨"UmbrellaBankModel", "readsNumber", "(I)Z"⟩ ⟨"UmbrellaBankModel", "readsNumber", "(I)Z"⟩ ∈ lw_all := am_wa 90 rfl rfl
theorem w_91 : Cond.selects "UmbrellaBankModel" ⟨"UmbrellaBankModel", "readsC", "()Z"⟩ ⟨"UmbrellaBankModel", "readsC", "()Z"⟩ ∈ lw_all := am_wa 91 rfl rfl
theorem w_92 : Cond.selects "UmbrellaBankModel" ⟨"UmbrellaBankModel", "readsR", "()Z"⟩ ⟨"UmbrellaBankModel", "readsR", "()Z"⟩ ∈ lw_all := am_wa 92 rfl rfl
theorem w_93 : Cond.selects "UmbrellaBankModel" ⟨"UmbrellaBankModel", "readsDay", "()Z"⟩ ⟨"UmbrellaBankModel", "readsDay", "()Z"⟩ ∈ lw_all := am_wa 93 rfl rfl
theorem w_94 : Cond.selects "UmbrellaBankModel" ⟨"UmbrellaBankModel", "doesAll", "()Z"⟩ ⟨"UmbrellaBankModel", "doesAll", "()Z"⟩ ∈ lw_all := am_wa 94 rfl rfl
theorem w_95 : Cond.selects "UmbrellaBankModel" ⟨"UmbrellaBankModel", "notNow", "()I"⟩ ⟨"UmbrellaBankModel", "notNow", "()I"⟩ ∈ lw_all := am_wa 95 rfl rfl
theorem w_96 : Cond.selects "UmbrellaBankModel" ⟨"UmbrellaBankModel", "doesNow", "()I"⟩ ⟨"UmbrellaBankModel", "doesNow", "()I"⟩ ∈ lw_all := am_wa 96 rfl rfl
theorem w_97 : Cond.selects "UmbrellaBankModel" ⟨"UmbrellaBankModel", "goesBack", "()V"⟩ ⟨"UmbrellaBankModel", "goesBack", "()V"⟩ ∈ lw_all := am_wa 97 rfl rfl
theorem w_98 : Cond.initialized "UmbrellaBankLaw" ∈ lw_all := am_wa 98 rfl rfl
theorem w_99 : Cond.initialized "UmbrellaBank" ∈ lw_all := am_wa 99 rfl rfl
theorem w_100 : Cond.initialized "UmbrellaBank$State" ∈ lw_all := am_wa 100 rfl rfl
theorem w_101 : Cond.initialized "java/util/AbstractCollection" ∈ lw_all := am_wa 101 rfl rfl
theorem w_102 : Cond.initialized "java/util/AbstractList" ∈ lw_all := am_wa 102 rfl rfl
theorem w_103 : Cond.initialized "java/util/ArrayList" ∈ lw_all := am_wa 103 rfl rfl
theorem w_104 : Cond.initialized "java/util/ArrayDeque" ∈ lw_all := am_wa 104 rfl rfl
theorem w_105 : Cond.initialized "UmbrellaBankModel" ∈ lw_all := am_wa 105 rfl rfl
theorem w_106 : Cond.initialized "UmbrellaBank$Change" ∈ lw_all := am_wa 106 rfl rfl
theorem w_107 : Cond.initialized "UmbrellaBank$Command" ∈ lw_all := am_wa 107 rfl rfl
theorem w_108 : Cond.initialized "java/lang/System" ∈ lw_all := am_wa 108 rfl rfl
theorem w_109 : Cond.initialized "java/util/Arrays" ∈ lw_all := am_wa 109 rfl rfl
theorem w_110 : Cond.initialized "java/lang/Throwable" ∈ lw_all := am_wa 110 rfl rfl
theorem w_111 : Cond.initialized "java/lang/Exception" ∈ lw_all := am_wa 111 rfl rfl
theorem w_112 : Cond.initialized "java/lang/RuntimeException" ∈ lw_all := am_wa 112 rfl rfl
theorem w_113 : Cond.initialized "java/lang/IllegalArgumentException" ∈ lw_all := am_wa 113 rfl rfl
theorem w_114 : Cond.initialized "java/lang/AbstractStringBuilder" ∈ lw_all := am_wa 114 rfl rfl
theorem w_115 : Cond.initialized "java/lang/StringBuilder" ∈ lw_all := am_wa 115 rfl rfl
theorem w_116 : Cond.initialized "java/lang/String" ∈ lw_all := am_wa 116 rfl rfl
theorem w_117 : Cond.initialized "java/lang/StringUTF16" ∈ lw_all := am_wa 117 rfl rfl
theorem w_118 : Cond.initialized "java/lang/Number" ∈ lw_all := am_wa 118 rfl rfl
theorem w_119 : Cond.initialized "java/lang/Integer" ∈ lw_all := am_wa 119 rfl rfl
theorem w_120 : Cond.initialized "jdk/internal/util/ArraysSupport" ∈ lw_all := am_wa 120 rfl rfl
theorem w_121 : Cond.initialized "java/lang/Math" ∈ lw_all := am_wa 121 rfl rfl
theorem w_122 : Cond.initialized "jdk/internal/util/Preconditions" ∈ lw_all := am_wa 122 rfl rfl
theorem w_123 : Cond.initialized "java/lang/StringLatin1" ∈ lw_all := am_wa 123 rfl rfl
theorem w_124 : Cond.initialized "java/util/ImmutableCollections" ∈ lw_all := am_wa 124 rfl rfl
theorem w_125 : Cond.initialized "java/util/ArrayDeque$DeqIterator" ∈ lw_all := am_wa 125 rfl rfl
theorem w_126 : Cond.initialized "java/util/ArrayList$Itr" ∈ lw_all := am_wa 126 rfl rfl
theorem w_127 : Cond.initialized "java/util/ImmutableCollections$ListItr" ∈ lw_all := am_wa 127 rfl rfl
theorem w_128 : Cond.initialized "java/util/PriorityQueue$Itr" ∈ lw_all := am_wa 128 rfl rfl
theorem w_129 : Cond.initialized "java/util/TreeMap$PrivateEntryIterator" ∈ lw_all := am_wa 129 rfl rfl
theorem w_130 : Cond.initialized "java/util/TreeMap$KeyIterator" ∈ lw_all := am_wa 130 rfl rfl
theorem w_131 : Cond.initialized "java/util/NoSuchElementException" ∈ lw_all := am_wa 131 rfl rfl
theorem w_132 : Cond.initialized "java/util/Objects" ∈ lw_all := am_wa 132 rfl rfl
theorem w_133 : Cond.initialized "java/lang/IndexOutOfBoundsException" ∈ lw_all := am_wa 133 rfl rfl
theorem w_134 : Cond.initialized "java/util/AbstractMap" ∈ lw_all := am_wa 134 rfl rfl
theorem w_135 : Cond.initialized "java/util/TreeMap" ∈ lw_all := am_wa 135 rfl rfl
theorem w_136 : Cond.initialized "java/lang/IllegalStateException" ∈ lw_all := am_wa 136 rfl rfl
theorem w_137 : Cond.initialized "java/lang/UnsupportedOperationException" ∈ lw_all := am_wa 137 rfl rfl
theorem w_138 : Cond.initialized "java/lang/Record" ∈ lw_all := am_wa 138 rfl rfl
theorem w_139 : Cond.initialized "UmbrellaBank$Loan" ∈ lw_all := am_wa 139 rfl rfl
theorem w_140 : Cond.initialized "UmbrellaBank$Calling" ∈ lw_all := am_wa 140 rfl rfl
theorem w_141 : Cond.initialized "java/util/Optional" ∈ lw_all := am_wa 141 rfl rfl
theorem w_142 : Cond.initialized "UmbrellaBank$LoanSet" ∈ lw_all := am_wa 142 rfl rfl
theorem w_143 : Cond.initialized "UmbrellaBank$LoanSet$1" ∈ lw_all := am_wa 143 rfl rfl
theorem w_144 : Cond.initialized "jdk/internal/misc/Unsafe" ∈ lw_all := am_wa 144 rfl rfl
theorem w_145 : Cond.initialized "jdk/internal/misc/UnsafeConstants" ∈ lw_all := am_wa 145 rfl rfl
theorem w_146 : Cond.initialized "java/lang/Long" ∈ lw_all := am_wa 146 rfl rfl
theorem w_147 : Cond.initialized "java/util/ConcurrentModificationException" ∈ lw_all := am_wa 147 rfl rfl
theorem w_148 : Cond.initialized "java/util/AbstractQueue" ∈ lw_all := am_wa 148 rfl rfl
theorem w_149 : Cond.initialized "java/util/PriorityQueue" ∈ lw_all := am_wa 149 rfl rfl
theorem w_150 : Cond.initialized "UmbrellaBank$Claim" ∈ lw_all := am_wa 150 rfl rfl
theorem w_151 : Cond.initialized "UmbrellaBank$Netting" ∈ lw_all := am_wa 151 rfl rfl
theorem w_152 : Cond.initialized "UmbrellaBank$ByDrops" ∈ lw_all := am_wa 152 rfl rfl
theorem w_153 : Cond.initialized "UmbrellaBank$Net" ∈ lw_all := am_wa 153 rfl rfl
theorem w_154 : Cond.initialized "java/lang/ArrayIndexOutOfBoundsException" ∈ lw_all := am_wa 154 rfl rfl
theorem w_155 : Cond.initialized "UmbrellaBank$Span" ∈ lw_all := am_wa 155 rfl rfl
theorem w_156 : Cond.initialized "UmbrellaBank$OneDay" ∈ lw_all := am_wa 156 rfl rfl
theorem w_157 : Cond.initialized "UmbrellaBank$TwoSpans" ∈ lw_all := am_wa 157 rfl rfl
theorem w_158 : Cond.initialized "UmbrellaBank$1Window" ∈ lw_all := am_wa 158 rfl rfl
theorem w_159 : Cond.initialized "UmbrellaBank$Urgency" ∈ lw_all := am_wa 159 rfl rfl
theorem w_160 : Cond.initialized "java/lang/Integer$IntegerCache" ∈ lw_all := am_wa 160 rfl rfl
theorem w_161 : Cond.initialized "java/util/TreeMap$Entry" ∈ lw_all := am_wa 161 rfl rfl
theorem w_162 : Cond.initialized "java/util/AbstractSet" ∈ lw_all := am_wa 162 rfl rfl
theorem w_163 : Cond.initialized "java/util/TreeMap$KeySet" ∈ lw_all := am_wa 163 rfl rfl
theorem w_164 : Cond.initialized "UmbrellaBank$Netting$1Look" ∈ lw_all := am_wa 164 rfl rfl
theorem w_165 : Cond.initialized "java/lang/ArithmeticException" ∈ lw_all := am_wa 165 rfl rfl
theorem w_166 : Cond.initialized "UmbrellaBank$Agreement" ∈ lw_all := am_wa 166 rfl rfl
theorem w_167 : Cond.initialized "UmbrellaBank$1" ∈ lw_all := am_wa 167 rfl rfl
theorem w_168 : Cond.initialized "UmbrellaBank$Script" ∈ lw_all := am_wa 168 rfl rfl
theorem w_169 : Cond.initialized "UmbrellaBank$Parser" ∈ lw_all := am_wa 169 rfl rfl
theorem w_170 : Cond.initialized "java/util/List" ∈ lw_all := am_wa 170 rfl rfl
theorem w_171 : Cond.initialized "java/util/ImmutableCollections$AbstractImmutableCollection" ∈ lw_all := am_wa 171 rfl rfl
theorem w_172 : Cond.initialized "java/util/ImmutableCollections$AbstractImmutableList" ∈ lw_all := am_wa 172 rfl rfl
theorem w_173 : Cond.initialized "java/util/ImmutableCollections$List12" ∈ lw_all := am_wa 173 rfl rfl
theorem w_174 : Cond.initialized "java/util/ImmutableCollections$ListN" ∈ lw_all := am_wa 174 rfl rfl
theorem w_175 : Cond.initialized "UmbrellaBank$SyntaxError" ∈ lw_all := am_wa 175 rfl rfl
theorem w_176 : Cond.classLink "UmbrellaBankLaw" (8 : Nat) "UmbrellaBank" ∈ lw_all := am_wa 176 rfl rfl
theorem w_177 : Cond.instantiable "UmbrellaBank" (8 : Nat) ∈ lw_all := am_wa 177 rfl rfl
theorem w_178 : Cond.methodLink "UmbrellaBankLaw" (144 : Nat) ({ cls := "UmbrellaBank", name := "<init>", desc := "()V" }) ∈ lw_all := am_wa 178 rfl rfl
theorem w_179 : Cond.instanceMethod ({ cls := "UmbrellaBank", name := "<init>", desc := "()V" }) ∈ lw_all := am_wa 179 rfl rfl
theorem w_180 : Cond.code ({ cls := "UmbrellaBank", name := "<init>", desc := "()V" }) prog_1_method_10_code (1 : Nat) (Option.none : Option FieldType) ∈ lw_all := am_wa 180 rfl rfl
theorem w_181 : Cond.methodLink "UmbrellaBank" (29 : Nat) ({ cls := "java/lang/Object", name := "<init>", desc := "()V" }) ∈ lw_all := am_wa 181 rfl rfl
theorem w_182 : Cond.instanceMethod ({ cls := "java/lang/Object", name := "<init>", desc := "()V" }) ∈ lw_all := am_wa 182 rfl rfl
theorem w_183 : Cond.code ({ cls := "java/lang/Object", name := "<init>", desc := "()V" }) object_method_1_code (1 : Nat) (Option.none : Option FieldType) ∈ lw_all := am_wa 183 rfl rfl
theorem w_184 : Cond.classLink "UmbrellaBank" (32 : Nat) "UmbrellaBank$State" ∈ lw_all := am_wa 184 rfl rfl
theorem w_185 : Cond.instantiable "UmbrellaBank$State" (13 : Nat) ∈ lw_all := am_wa 185 rfl rfl
theorem w_186 : Cond.methodLink "UmbrellaBank" (34 : Nat) ({ cls := "UmbrellaBank$State", name := "<init>", desc := "()V" }) ∈ lw_all := am_wa 186 rfl rfl
theorem w_187 : Cond.instanceMethod ({ cls := "UmbrellaBank$State", name := "<init>", desc := "()V" }) ∈ lw_all := am_wa 187 rfl rfl
theorem w_188 : Cond.code ({ cls := "UmbrellaBank$State", name := "<init>", desc := "()V" }) prog_20_method_1_code (1 : Nat) (Option.none : Option FieldType) ∈ lw_all := am_wa 188 rfl rfl
theorem w_189 : Cond.methodLink "UmbrellaBank$State" (3 : Nat) ({ cls := "java/lang/Object", name := "<init>", desc := "()V" }) ∈ lw_all := am_wa 189 rfl rfl
theorem w_190 : Cond.classLink "UmbrellaBank$State" (15 : Nat) "[[I" ∈ lw_all := am_wa 190 rfl rfl
theorem v_191 : Cond.arrayOver (FieldType.array FieldType.int) ∈ lw_tbl := am_wv 191 rfl
theorem w_192 : Cond.classLink "UmbrellaBank$State" (23 : Nat) "java/util/ArrayList" ∈ lw_all := am_wa 192 rfl rfl
theorem w_193 : Cond.instantiable "java/util/ArrayList" (3 : Nat) ∈ lw_all := am_wa 193 rfl rfl
theorem w_194 : Cond.methodLink "UmbrellaBank$State" (25 : Nat) ({ cls := "java/util/ArrayList", name := "<init>", desc := "()V" }) ∈ lw_all := am_wa 194 rfl rfl
theorem w_195 : Cond.instanceMethod ({ cls := "java/util/ArrayList", name := "<init>", desc := "()V" }) ∈ lw_all := am_wa 195 rfl rfl
theorem w_196 : Cond.code ({ cls := "java/util/ArrayList", name := "<init>", desc := "()V" }) prog_63_method_2_code (1 : Nat) (Option.none : Option FieldType) ∈ lw_all := am_wa 196 rfl rfl
theorem w_197 : Cond.methodLink "java/util/ArrayList" (1 : Nat) ({ cls := "java/util/AbstractList", name := "<init>", desc := "()V" }) ∈ lw_all := am_wa 197 rfl rfl
theorem w_198 : Cond.instanceMethod ({ cls := "java/util/AbstractList", name := "<init>", desc := "()V" }) ∈ lw_all := am_wa 198 rfl rfl
theorem w_199 : Cond.code ({ cls := "java/util/AbstractList", name := "<init>", desc := "()V" }) prog_57_method_1_code (1 : Nat) (Option.none : Option FieldType) ∈ lw_all := am_wa 199 rfl rfl
theorem w_200 : Cond.methodLink "java/util/AbstractList" (1 : Nat) ({ cls := "java/util/AbstractCollection", name := "<init>", desc := "()V" }) ∈ lw_all := am_wa 200 rfl rfl
theorem w_201 : Cond.instanceMethod ({ cls := "java/util/AbstractCollection", name := "<init>", desc := "()V" }) ∈ lw_all := am_wa 201 rfl rfl
theorem w_202 : Cond.code ({ cls := "java/util/AbstractCollection", name := "<init>", desc := "()V" }) prog_56_method_1_code (1 : Nat) (Option.none : Option FieldType) ∈ lw_all := am_wa 202 rfl rfl
theorem w_203 : Cond.methodLink "java/util/AbstractCollection" (1 : Nat) ({ cls := "java/lang/Object", name := "<init>", desc := "()V" }) ∈ lw_all := am_wa 203 rfl rfl
theorem w_204 : Cond.fieldLink "java/util/ArrayList" (39 : Nat) "java/util/ArrayList" "DEFAULTCAPACITY_EMPTY_ELEMENTDATA" "[Ljava/lang/Object;" ∈ lw_all := am_wa 204 rfl rfl
theorem w_206 : Cond.fieldLink "java/util/ArrayList" (9 : Nat) "java/util/ArrayList" "elementData" "[Ljava/lang/Object;" ∈ lw_all := am_wa 206 rfl rfl
theorem w_207 : Cond.fieldLink "java/util/ArrayList$Itr" (37 : Nat) "java/util/ArrayList" "elementData" "[Ljava/lang/Object;" ∈ lw_all := am_wa 207 rfl rfl
theorem v_208 : Cond.fieldLinkNest "java/util/ArrayList$Itr" (28 : Nat) "java/util/ArrayList" "size" "I" "java/util/ArrayList" ∈ lw_tbl := am_wv 208 rfl
theorem w_209 : Cond.fieldLink "java/util/ArrayList" (48 : Nat) "java/util/ArrayList" "size" "I" ∈ lw_all := am_wa 209 rfl rfl
theorem w_210 : Cond.fieldLink "java/util/AbstractList" (7 : Nat) "java/util/AbstractList" "modCount" "I" ∈ lw_all := am_wa 210 rfl rfl
theorem w_211 : Cond.fieldLink "java/util/ArrayList$Itr" (17 : Nat) "java/util/ArrayList" "modCount" "I" ∈ lw_all := am_wa 211 rfl rfl
theorem w_212 : Cond.sameField "java/util/ArrayList" "java/util/AbstractList" "modCount" "I" ∈ lw_all := am_wa 212 rfl rfl
theorem w_213 : Cond.fieldLink "java/util/ArrayList" (63 : Nat) "java/util/ArrayList" "modCount" "I" ∈ lw_all := am_wa 213 rfl rfl
theorem w_220 : Cond.superclass "java/util/ArrayList" "java/util/AbstractList" ∈ lw_all := am_wa 220 rfl rfl
theorem w_221 : Cond.arrayClass FieldType.int ∈ lw_all := am_wa 221 rfl rfl
theorem w_222 : Cond.fieldLink "UmbrellaBank$State" (9 : Nat) "UmbrellaBank$State" "deposits" "[I" ∈ lw_all := am_wa 222 rfl rfl
theorem v_223 : Cond.fieldLinkNest "UmbrellaBank" (107 : Nat) "UmbrellaBank$State" "deposits" "[I" "UmbrellaBank" ∈ lw_tbl := am_wv 223 rfl
theorem w_224 : Cond.fieldLink "UmbrellaBank$State" (17 : Nat) "UmbrellaBank$State" "promises" "[[I" ∈ lw_all := am_wa 224 rfl rfl
theorem v_225 : Cond.fieldLinkNest "UmbrellaBank" (327 : Nat) "UmbrellaBank$State" "promises" "[[I" "UmbrellaBank" ∈ lw_tbl := am_wv 225 rfl
theorem w_226 : Cond.fieldLink "UmbrellaBank$State" (20 : Nat) "UmbrellaBank$State" "rains" "[I" ∈ lw_all := am_wa 226 rfl rfl
theorem v_227 : Cond.fieldLinkNest "UmbrellaBank$1Window" (26 : Nat) "UmbrellaBank$State" "rains" "[I" "UmbrellaBank" ∈ lw_tbl := am_wv 227 rfl
theorem v_228 : Cond.fieldLinkNest "UmbrellaBank" (175 : Nat) "UmbrellaBank$State" "rains" "[I" "UmbrellaBank" ∈ lw_tbl := am_wv 228 rfl
theorem w_229 : Cond.fieldLink "UmbrellaBank$State" (26 : Nat) "UmbrellaBank$State" "loans" "Ljava/util/ArrayList;" ∈ lw_all := am_wa 229 rfl rfl
theorem v_230 : Cond.fieldLinkNest "UmbrellaBank$Calling" (19 : Nat) "UmbrellaBank$State" "loans" "Ljava/util/ArrayList;" "UmbrellaBank" ∈ lw_tbl := am_wv 230 rfl
theorem v_231 : Cond.fieldLinkNest "UmbrellaBank$LoanSet$1" (38 : Nat) "UmbrellaBank$State" "loans" "Ljava/util/ArrayList;" "UmbrellaBank" ∈ lw_tbl := am_wv 231 rfl
theorem v_232 : Cond.fieldLinkNest "UmbrellaBank" (111 : Nat) "UmbrellaBank$State" "loans" "Ljava/util/ArrayList;" "UmbrellaBank" ∈ lw_tbl := am_wv 232 rfl
theorem w_233 : Cond.fieldLink "UmbrellaBank$State" (30 : Nat) "UmbrellaBank$State" "claims" "Ljava/util/ArrayList;" ∈ lw_all := am_wa 233 rfl rfl
theorem v_234 : Cond.fieldLinkNest "UmbrellaBank" (281 : Nat) "UmbrellaBank$State" "claims" "Ljava/util/ArrayList;" "UmbrellaBank" ∈ lw_tbl := am_wv 234 rfl
theorem v_235 : Cond.fieldLinkNest "UmbrellaBank$Netting" (25 : Nat) "UmbrellaBank$State" "owners" "I" "UmbrellaBank" ∈ lw_tbl := am_wv 235 rfl
theorem w_236 : Cond.fieldLink "UmbrellaBank$State" (56 : Nat) "UmbrellaBank$State" "owners" "I" ∈ lw_all := am_wa 236 rfl rfl
theorem v_237 : Cond.fieldLinkNest "UmbrellaBank" (100 : Nat) "UmbrellaBank$State" "owners" "I" "UmbrellaBank" ∈ lw_tbl := am_wv 237 rfl
theorem w_238 : Cond.fieldLink "UmbrellaBank$State" (33 : Nat) "UmbrellaBank$State" "vault" "I" ∈ lw_all := am_wa 238 rfl rfl
theorem v_239 : Cond.fieldLinkNest "UmbrellaBank" (139 : Nat) "UmbrellaBank$State" "vault" "I" "UmbrellaBank" ∈ lw_tbl := am_wv 239 rfl
theorem w_240 : Cond.fieldLink "UmbrellaBank$State" (37 : Nat) "UmbrellaBank$State" "capital" "I" ∈ lw_all := am_wa 240 rfl rfl
theorem v_241 : Cond.fieldLinkNest "UmbrellaBank" (142 : Nat) "UmbrellaBank$State" "capital" "I" "UmbrellaBank" ∈ lw_tbl := am_wv 241 rfl
theorem w_242 : Cond.fieldLink "UmbrellaBank$State" (40 : Nat) "UmbrellaBank$State" "ratio" "I" ∈ lw_all := am_wa 242 rfl rfl
theorem v_243 : Cond.fieldLinkNest "UmbrellaBank" (165 : Nat) "UmbrellaBank$State" "ratio" "I" "UmbrellaBank" ∈ lw_tbl := am_wv 243 rfl
theorem w_244 : Cond.fieldLink "UmbrellaBank$State" (43 : Nat) "UmbrellaBank$State" "gust" "I" ∈ lw_all := am_wa 244 rfl rfl
theorem v_245 : Cond.fieldLinkNest "UmbrellaBank" (167 : Nat) "UmbrellaBank$State" "gust" "I" "UmbrellaBank" ∈ lw_tbl := am_wv 245 rfl
theorem w_246 : Cond.fieldLink "UmbrellaBank$State" (59 : Nat) "UmbrellaBank$State" "day" "I" ∈ lw_all := am_wa 246 rfl rfl
theorem v_247 : Cond.fieldLinkNest "UmbrellaBank" (169 : Nat) "UmbrellaBank$State" "day" "I" "UmbrellaBank" ∈ lw_tbl := am_wv 247 rfl
theorem w_248 : Cond.fieldLink "UmbrellaBank$State" (62 : Nat) "UmbrellaBank$State" "nextLoan" "I" ∈ lw_all := am_wa 248 rfl rfl
theorem w_249 : Cond.fieldLink "UmbrellaBank$State" (65 : Nat) "UmbrellaBank$State" "drops" "J" ∈ lw_all := am_wa 249 rfl rfl
theorem v_250 : Cond.fieldLinkNest "UmbrellaBank" (151 : Nat) "UmbrellaBank$State" "drops" "J" "UmbrellaBank" ∈ lw_tbl := am_wv 250 rfl
theorem w_277 : Cond.superclass "UmbrellaBank$State" "java/lang/Object" ∈ lw_all := am_wa 277 rfl rfl
theorem w_278 : Cond.classLink "UmbrellaBank" (39 : Nat) "java/util/ArrayDeque" ∈ lw_all := am_wa 278 rfl rfl
theorem w_279 : Cond.instantiable "java/util/ArrayDeque" (3 : Nat) ∈ lw_all := am_wa 279 rfl rfl
theorem w_280 : Cond.methodLink "UmbrellaBank" (41 : Nat) ({ cls := "java/util/ArrayDeque", name := "<init>", desc := "()V" }) ∈ lw_all := am_wa 280 rfl rfl
theorem w_281 : Cond.instanceMethod ({ cls := "java/util/ArrayDeque", name := "<init>", desc := "()V" }) ∈ lw_all := am_wa 281 rfl rfl
theorem w_282 : Cond.code ({ cls := "java/util/ArrayDeque", name := "<init>", desc := "()V" }) prog_61_method_3_code (1 : Nat) (Option.none : Option FieldType) ∈ lw_all := am_wa 282 rfl rfl
theorem w_283 : Cond.methodLink "java/util/ArrayDeque" (42 : Nat) ({ cls := "java/util/AbstractCollection", name := "<init>", desc := "()V" }) ∈ lw_all := am_wa 283 rfl rfl
theorem w_284 : Cond.classLink "java/util/ArrayDeque" (47 : Nat) "java/lang/Object" ∈ lw_all := am_wa 284 rfl rfl
theorem v_285 : Cond.arrayOver (FieldType.object "java/lang/Object") ∈ lw_tbl := am_wv 285 rfl
theorem w_286 : Cond.fieldLink "java/util/ArrayDeque" (3 : Nat) "java/util/ArrayDeque" "elements" "[Ljava/lang/Object;" ∈ lw_all := am_wa 286 rfl rfl
theorem w_287 : Cond.fieldLink "java/util/ArrayDeque$DeqIterator" (35 : Nat) "java/util/ArrayDeque" "elements" "[Ljava/lang/Object;" ∈ lw_all := am_wa 287 rfl rfl
theorem w_288 : Cond.fieldLink "java/util/ArrayDeque$DeqIterator" (26 : Nat) "java/util/ArrayDeque" "head" "I" ∈ lw_all := am_wa 288 rfl rfl
theorem w_289 : Cond.fieldLink "java/util/ArrayDeque" (24 : Nat) "java/util/ArrayDeque" "head" "I" ∈ lw_all := am_wa 289 rfl rfl
theorem w_290 : Cond.fieldLink "java/util/ArrayDeque" (20 : Nat) "java/util/ArrayDeque" "tail" "I" ∈ lw_all := am_wa 290 rfl rfl
theorem w_297 : Cond.superclass "java/util/ArrayDeque" "java/util/AbstractCollection" ∈ lw_all := am_wa 297 rfl rfl
theorem v_299 : Cond.fieldLinkNest "UmbrellaBank$1Window" (22 : Nat) "UmbrellaBank" "state" "LUmbrellaBank$State;" "UmbrellaBank" ∈ lw_tbl := am_wv 299 rfl
theorem v_300 : Cond.fieldLinkNest "UmbrellaBank$1" (17 : Nat) "UmbrellaBank" "state" "LUmbrellaBank$State;" "UmbrellaBank" ∈ lw_tbl := am_wv 300 rfl
theorem v_301 : Cond.fieldLinkNest "UmbrellaBank$Change" (17 : Nat) "UmbrellaBank" "state" "LUmbrellaBank$State;" "UmbrellaBank" ∈ lw_tbl := am_wv 301 rfl
theorem w_302 : Cond.fieldLink "UmbrellaBank" (35 : Nat) "UmbrellaBank" "state" "LUmbrellaBank$State;" ∈ lw_all := am_wa 302 rfl rfl
theorem w_303 : Cond.fieldLink "UmbrellaBank" (439 : Nat) "UmbrellaBank" "snapshot" "LUmbrellaBank$State;" ∈ lw_all := am_wa 303 rfl rfl
theorem v_304 : Cond.fieldLinkNest "UmbrellaBank$Change" (28 : Nat) "UmbrellaBank" "history" "Ljava/util/ArrayDeque;" "UmbrellaBank" ∈ lw_tbl := am_wv 304 rfl
theorem w_305 : Cond.fieldLink "UmbrellaBank" (42 : Nat) "UmbrellaBank" "history" "Ljava/util/ArrayDeque;" ∈ lw_all := am_wa 305 rfl rfl
theorem w_306 : Cond.fieldLink "UmbrellaBank" (48 : Nat) "UmbrellaBank" "output" "Ljava/lang/String;" ∈ lw_all := am_wa 306 rfl rfl
theorem v_307 : Cond.fieldLinkNest "UmbrellaBank$Parser" (62 : Nat) "UmbrellaBank" "buffer" "[C" "UmbrellaBank" ∈ lw_tbl := am_wv 307 rfl
theorem w_308 : Cond.fieldLink "UmbrellaBank" (52 : Nat) "UmbrellaBank" "buffer" "[C" ∈ lw_all := am_wa 308 rfl rfl
theorem v_309 : Cond.fieldLinkNest "UmbrellaBank$Parser" (57 : Nat) "UmbrellaBank" "length" "I" "UmbrellaBank" ∈ lw_tbl := am_wv 309 rfl
theorem w_310 : Cond.fieldLink "UmbrellaBank" (412 : Nat) "UmbrellaBank" "length" "I" ∈ lw_all := am_wa 310 rfl rfl
theorem w_311 : Cond.fieldLink "UmbrellaBank" (56 : Nat) "UmbrellaBank" "errorPosition" "I" ∈ lw_all := am_wa 311 rfl rfl
theorem v_312 : Cond.fieldLinkNest "UmbrellaBank$Script" (39 : Nat) "UmbrellaBank" "failedCommand" "I" "UmbrellaBank" ∈ lw_tbl := am_wv 312 rfl
theorem w_313 : Cond.fieldLink "UmbrellaBank" (60 : Nat) "UmbrellaBank" "failedCommand" "I" ∈ lw_all := am_wa 313 rfl rfl
theorem w_330 : Cond.superclass "UmbrellaBank" "java/lang/Object" ∈ lw_all := am_wa 330 rfl rfl
theorem w_331 : Cond.arrayClass FieldType.byte ∈ lw_all := am_wa 331 rfl rfl
theorem w_332 : Cond.arrayClass FieldType.char ∈ lw_all := am_wa 332 rfl rfl
theorem w_333 : Cond.methodLink "UmbrellaBankLaw" (178 : Nat) ({ cls := "UmbrellaBank", name := "payClaims", desc := "()I" }) ∈ lw_all := am_wa 333 rfl rfl
theorem w_334 : Cond.instanceMethod ({ cls := "UmbrellaBank", name := "payClaims", desc := "()I" }) ∈ lw_all := am_wa 334 rfl rfl
theorem w_335 : Cond.selects "UmbrellaBank" ({ cls := "UmbrellaBank", name := "payClaims", desc := "()I" }) ({ cls := "UmbrellaBank", name := "payClaims", desc := "()I" }) ∈ lw_all := am_wa 335 rfl rfl
theorem w_336 : Cond.code ({ cls := "UmbrellaBank", name := "payClaims", desc := "()I" }) prog_1_method_18_code (1 : Nat) (Option.some FieldType.int) ∈ lw_all := am_wa 336 rfl rfl
theorem w_337 : Cond.classLink "UmbrellaBank" (63 : Nat) "UmbrellaBank$Command" ∈ lw_all := am_wa 337 rfl rfl
theorem w_338 : Cond.instantiable "UmbrellaBank$Command" (4 : Nat) ∈ lw_all := am_wa 338 rfl rfl
theorem w_340 : Cond.methodLink "UmbrellaBank" (67 : Nat) ({ cls := "UmbrellaBank$Command", name := "<init>", desc := "(LUmbrellaBank;Ljava/lang/String;[I)V" }) ∈ lw_all := am_wa 340 rfl rfl
theorem w_341 : Cond.instanceMethod ({ cls := "UmbrellaBank$Command", name := "<init>", desc := "(LUmbrellaBank;Ljava/lang/String;[I)V" }) ∈ lw_all := am_wa 341 rfl rfl
theorem w_342 : Cond.code ({ cls := "UmbrellaBank$Command", name := "<init>", desc := "(LUmbrellaBank;Ljava/lang/String;[I)V" }) prog_9_method_1_code (4 : Nat) (Option.none : Option FieldType) ∈ lw_all := am_wa 342 rfl rfl
theorem v_343 : Cond.methodLinkNest "UmbrellaBank$Command" (7 : Nat) ({ cls := "UmbrellaBank$Change", name := "<init>", desc := "(LUmbrellaBank;)V" }) "UmbrellaBank" ∈ lw_tbl := am_wv 343 rfl
theorem w_344 : Cond.instanceMethod ({ cls := "UmbrellaBank$Change", name := "<init>", desc := "(LUmbrellaBank;)V" }) ∈ lw_all := am_wa 344 rfl rfl
theorem w_345 : Cond.code ({ cls := "UmbrellaBank$Change", name := "<init>", desc := "(LUmbrellaBank;)V" }) prog_7_method_1_code (2 : Nat) (Option.none : Option FieldType) ∈ lw_all := am_wa 345 rfl rfl
theorem w_346 : Cond.methodLink "UmbrellaBank$Change" (9 : Nat) ({ cls := "java/lang/Object", name := "<init>", desc := "()V" }) ∈ lw_all := am_wa 346 rfl rfl
theorem w_347 : Cond.fieldLink "UmbrellaBank$Command" (13 : Nat) "UmbrellaBank$Command" "word" "Ljava/lang/String;" ∈ lw_all := am_wa 347 rfl rfl
theorem w_348 : Cond.fieldLink "UmbrellaBank$Command" (17 : Nat) "UmbrellaBank$Command" "n" "[I" ∈ lw_all := am_wa 348 rfl rfl
theorem w_349 : Cond.fieldLink "UmbrellaBank$Command" (1 : Nat) "UmbrellaBank$Command" "this$0" "LUmbrellaBank;" ∈ lw_all := am_wa 349 rfl rfl
theorem w_350 : Cond.fieldLink "UmbrellaBank$Change" (3 : Nat) "UmbrellaBank$Change" "this$0" "LUmbrellaBank;" ∈ lw_all := am_wa 350 rfl rfl
theorem w_359 : Cond.superclass "UmbrellaBank$Command" "UmbrellaBank$Change" ∈ lw_all := am_wa 359 rfl rfl
theorem w_360 : Cond.methodLink "UmbrellaBank" (70 : Nat) ({ cls := "UmbrellaBank$Command", name := "run", desc := "()I" }) ∈ lw_all := am_wa 360 rfl rfl
theorem w_361 : Cond.sameMethod "UmbrellaBank$Command" "UmbrellaBank$Change" "run" "()I" ∈ lw_all := am_wa 361 rfl rfl
theorem v_362 : Cond.declares ({ cls := "UmbrellaBank$Change", name := "run", desc := "()I" }) ∈ lw_tbl := am_wv 362 rfl
theorem w_363 : Cond.selects "UmbrellaBank$Command" ({ cls := "UmbrellaBank$Command", name := "run", desc := "()I" }) ({ cls := "UmbrellaBank$Change", name := "run", desc := "()I" }) ∈ lw_all := am_wa 363 rfl rfl
theorem w_364 : Cond.instanceMethod ({ cls := "UmbrellaBank$Change", name := "run", desc := "()I" }) ∈ lw_all := am_wa 364 rfl rfl
theorem w_365 : Cond.code ({ cls := "UmbrellaBank$Change", name := "run", desc := "()I" }) prog_7_method_3_code (4 : Nat) (Option.some FieldType.int) ∈ lw_all := am_wa 365 rfl rfl
theorem w_366 : Cond.classLink "UmbrellaBank$Change" (15 : Nat) "UmbrellaBank$State" ∈ lw_all := am_wa 366 rfl rfl
theorem w_367 : Cond.methodLink "UmbrellaBank$Change" (21 : Nat) ({ cls := "UmbrellaBank$State", name := "<init>", desc := "(LUmbrellaBank$State;)V" }) ∈ lw_all := am_wa 367 rfl rfl
theorem w_368 : Cond.instanceMethod ({ cls := "UmbrellaBank$State", name := "<init>", desc := "(LUmbrellaBank$State;)V" }) ∈ lw_all := am_wa 368 rfl rfl
theorem w_369 : Cond.code ({ cls := "UmbrellaBank$State", name := "<init>", desc := "(LUmbrellaBank$State;)V" }) prog_20_method_2_code (4 : Nat) (Option.none : Option FieldType) ∈ lw_all := am_wa 369 rfl rfl
theorem w_370 : Cond.methodLink "UmbrellaBank$State" (46 : Nat) ({ cls := "java/lang/System", name := "arraycopy", desc := "(Ljava/lang/Object;ILjava/lang/Object;II)V" }) ∈ lw_all := am_wa 370 rfl rfl
theorem w_371 : Cond.static ({ cls := "java/lang/System", name := "arraycopy", desc := "(Ljava/lang/Object;ILjava/lang/Object;II)V" }) ∈ lw_all := am_wa 371 rfl rfl
theorem w_372 : Cond.native ({ cls := "java/lang/System", name := "arraycopy", desc := "(Ljava/lang/Object;ILjava/lang/Object;II)V" }) ∈ lw_all := am_wa 372 rfl rfl
theorem w_373 : Cond.methodLink "UmbrellaBank$State" (52 : Nat) ({ cls := "java/util/ArrayList", name := "addAll", desc := "(Ljava/util/Collection;)Z" }) ∈ lw_all := am_wa 373 rfl rfl
theorem w_374 : Cond.instanceMethod ({ cls := "java/util/ArrayList", name := "addAll", desc := "(Ljava/util/Collection;)Z" }) ∈ lw_all := am_wa 374 rfl rfl
theorem w_375 : Cond.selects "java/util/ArrayList" ({ cls := "java/util/ArrayList", name := "addAll", desc := "(Ljava/util/Collection;)Z" }) ({ cls := "java/util/ArrayList", name := "addAll", desc := "(Ljava/util/Collection;)Z" }) ∈ lw_all := am_wa 375 rfl rfl
theorem w_376 : Cond.code ({ cls := "java/util/ArrayList", name := "addAll", desc := "(Ljava/util/Collection;)Z" }) prog_63_method_41_code (6 : Nat) (Option.some FieldType.boolean) ∈ lw_all := am_wa 376 rfl rfl
theorem w_378 : Cond.methodLink "java/util/ArrayList" (42 : Nat) ({ cls := "java/util/Collection", name := "toArray", desc := "()[Ljava/lang/Object;" }) ∈ lw_all := am_wa 378 rfl rfl
theorem v_379 : Cond.interfaceMethod "java/util/Collection" "java/util/Collection" "toArray" "()[Ljava/lang/Object;" ∈ lw_tbl := am_wv 379 rfl
theorem v_380 : Cond.declares ({ cls := "java/util/Collection", name := "toArray", desc := "()[Ljava/lang/Object;" }) ∈ lw_tbl := am_wv 380 rfl
theorem v_381 : Cond.castable "java/util/ArrayDeque" "java/util/Collection" ∈ lw_tbl := am_wv 381 rfl
theorem w_382 : Cond.selects "java/util/ArrayDeque" ({ cls := "java/util/Collection", name := "toArray", desc := "()[Ljava/lang/Object;" }) ({ cls := "java/util/ArrayDeque", name := "toArray", desc := "()[Ljava/lang/Object;" }) ∈ lw_all := am_wa 382 rfl rfl
theorem v_383 : Cond.unhidden "java/util/ArrayDeque" "toArray" "()[Ljava/lang/Object;" ∈ lw_tbl := am_wv 383 rfl
theorem w_384 : Cond.instanceMethod ({ cls := "java/util/ArrayDeque", name := "toArray", desc := "()[Ljava/lang/Object;" }) ∈ lw_all := am_wa 384 rfl rfl
theorem v_385 : Cond.publicMethod ({ cls := "java/util/ArrayDeque", name := "toArray", desc := "()[Ljava/lang/Object;" }) ∈ lw_tbl := am_wv 385 rfl
theorem w_386 : Cond.code ({ cls := "java/util/ArrayDeque", name := "toArray", desc := "()[Ljava/lang/Object;" }) prog_61_method_55_code (1 : Nat) (Option.some (FieldType.array (FieldType.object "java/lang/Object"))) ∈ lw_all := am_wa 386 rfl rfl
theorem w_387 : Cond.classLink "java/util/ArrayDeque" (188 : Nat) "[Ljava/lang/Object;" ∈ lw_all := am_wa 387 rfl rfl
theorem w_388 : Cond.methodLink "java/util/ArrayDeque" (189 : Nat) ({ cls := "java/util/ArrayDeque", name := "toArray", desc := "(Ljava/lang/Class;)[Ljava/lang/Object;" }) ∈ lw_all := am_wa 388 rfl rfl
theorem v_389 : Cond.privateMethod ({ cls := "java/util/ArrayDeque", name := "toArray", desc := "(Ljava/lang/Class;)[Ljava/lang/Object;" }) ∈ lw_tbl := am_wv 389 rfl
theorem w_390 : Cond.instanceMethod ({ cls := "java/util/ArrayDeque", name := "toArray", desc := "(Ljava/lang/Class;)[Ljava/lang/Object;" }) ∈ lw_all := am_wa 390 rfl rfl
theorem w_391 : Cond.code ({ cls := "java/util/ArrayDeque", name := "toArray", desc := "(Ljava/lang/Class;)[Ljava/lang/Object;" }) prog_61_method_56_code (7 : Nat) (Option.some (FieldType.array (FieldType.object "java/lang/Object"))) ∈ lw_all := am_wa 391 rfl rfl
theorem w_392 : Cond.methodLink "java/util/ArrayDeque" (193 : Nat) ({ cls := "java/util/Arrays", name := "copyOfRange", desc := "([Ljava/lang/Object;IILjava/lang/Class;)[Ljava/lang/Object;" }) ∈ lw_all := am_wa 392 rfl rfl
theorem w_393 : Cond.static ({ cls := "java/util/Arrays", name := "copyOfRange", desc := "([Ljava/lang/Object;IILjava/lang/Class;)[Ljava/lang/Object;" }) ∈ lw_all := am_wa 393 rfl rfl
theorem w_394 : Cond.code ({ cls := "java/util/Arrays", name := "copyOfRange", desc := "([Ljava/lang/Object;IILjava/lang/Class;)[Ljava/lang/Object;" }) prog_65_method_130_code (6 : Nat) (Option.some (FieldType.array (FieldType.object "java/lang/Object"))) ∈ lw_all := am_wa 394 rfl rfl
theorem w_395 : Cond.classLink "java/util/Arrays" (43 : Nat) "java/lang/IllegalArgumentException" ∈ lw_all := am_wa 395 rfl rfl
theorem w_396 : Cond.instantiable "java/lang/IllegalArgumentException" (6 : Nat) ∈ lw_all := am_wa 396 rfl rfl
theorem v_397 : Cond.castable "java/lang/IllegalArgumentException" "java/lang/IllegalArgumentException" ∈ lw_tbl := am_wv 397 rfl
theorem v_398 : Cond.declares ({ cls := "java/lang/RuntimeException", name := "<init>", desc := "()V" }) ∈ lw_tbl := am_wv 398 rfl
theorem v_399 : Cond.declares ({ cls := "java/lang/RuntimeException", name := "<init>", desc := "(Ljava/lang/String;)V" }) ∈ lw_tbl := am_wv 399 rfl
theorem v_400 : Cond.declares ({ cls := "java/lang/Exception", name := "<init>", desc := "()V" }) ∈ lw_tbl := am_wv 400 rfl
theorem v_401 : Cond.declares ({ cls := "java/lang/Exception", name := "<init>", desc := "(Ljava/lang/String;)V" }) ∈ lw_tbl := am_wv 401 rfl
theorem v_402 : Cond.declares ({ cls := "java/lang/Throwable", name := "<init>", desc := "()V" }) ∈ lw_tbl := am_wv 402 rfl
theorem v_403 : Cond.declares ({ cls := "java/lang/Throwable", name := "<init>", desc := "(Ljava/lang/String;)V" }) ∈ lw_tbl := am_wv 403 rfl
theorem w_404 : Cond.selects "java/lang/IllegalArgumentException" ({ cls := "java/lang/Throwable", name := "fillInStackTrace", desc := "(I)Ljava/lang/Throwable;" }) ({ cls := "java/lang/Throwable", name := "fillInStackTrace", desc := "(I)Ljava/lang/Throwable;" }) ∈ lw_all := am_wa 404 rfl rfl
theorem w_405 : Cond.selects "java/lang/IllegalArgumentException" ({ cls := "java/lang/Throwable", name := "fillInStackTrace", desc := "()Ljava/lang/Throwable;" }) ({ cls := "java/lang/Throwable", name := "fillInStackTrace", desc := "()Ljava/lang/Throwable;" }) ∈ lw_all := am_wa 405 rfl rfl
theorem w_416 : Cond.fieldLink "java/lang/Throwable" (198 : Nat) "java/lang/Throwable" "backtrace" "Ljava/lang/Object;" ∈ lw_all := am_wa 416 rfl rfl
theorem w_417 : Cond.superclass "java/lang/Throwable" "java/lang/Object" ∈ lw_all := am_wa 417 rfl rfl
theorem w_418 : Cond.instanceMethod ({ cls := "java/lang/Throwable", name := "<init>", desc := "()V" }) ∈ lw_all := am_wa 418 rfl rfl
theorem w_419 : Cond.code ({ cls := "java/lang/Throwable", name := "<init>", desc := "()V" }) prog_52_method_1_code (1 : Nat) (Option.none : Option FieldType) ∈ lw_all := am_wa 419 rfl rfl
theorem w_420 : Cond.methodLink "java/lang/Throwable" (1 : Nat) ({ cls := "java/lang/Object", name := "<init>", desc := "()V" }) ∈ lw_all := am_wa 420 rfl rfl
theorem w_421 : Cond.fieldLink "java/lang/Throwable" (13 : Nat) "java/lang/Throwable" "UNASSIGNED_STACK" "[Ljava/lang/StackTraceElement;" ∈ lw_all := am_wa 421 rfl rfl
theorem w_423 : Cond.fieldLink "java/lang/Throwable" (20 : Nat) "java/lang/Throwable" "SUPPRESSED_SENTINEL" "Ljava/util/List;" ∈ lw_all := am_wa 423 rfl rfl
theorem w_425 : Cond.methodLink "java/lang/Throwable" (27 : Nat) ({ cls := "java/lang/Throwable", name := "fillInStackTrace", desc := "()Ljava/lang/Throwable;" }) ∈ lw_all := am_wa 425 rfl rfl
theorem w_426 : Cond.instanceMethod ({ cls := "java/lang/Throwable", name := "fillInStackTrace", desc := "()Ljava/lang/Throwable;" }) ∈ lw_all := am_wa 426 rfl rfl
theorem w_427 : Cond.sameMethod "java/lang/Throwable" "java/lang/Throwable" "fillInStackTrace" "()Ljava/lang/Throwable;" ∈ lw_all := am_wa 427 rfl rfl
theorem w_428 : Cond.selects "UmbrellaBank$SyntaxError" ({ cls := "java/lang/Throwable", name := "fillInStackTrace", desc := "()Ljava/lang/Throwable;" }) ({ cls := "java/lang/Throwable", name := "fillInStackTrace", desc := "()Ljava/lang/Throwable;" }) ∈ lw_all := am_wa 428 rfl rfl
theorem w_429 : Cond.selects "java/lang/ArithmeticException" ({ cls := "java/lang/Throwable", name := "fillInStackTrace", desc := "()Ljava/lang/Throwable;" }) ({ cls := "java/lang/Throwable", name := "fillInStackTrace", desc := "()Ljava/lang/Throwable;" }) ∈ lw_all := am_wa 429 rfl rfl
theorem w_430 : Cond.selects "java/lang/ArrayIndexOutOfBoundsException" ({ cls := "java/lang/Throwable", name := "fillInStackTrace", desc := "()Ljava/lang/Throwable;" }) ({ cls := "java/lang/Throwable", name := "fillInStackTrace", desc := "()Ljava/lang/Throwable;" }) ∈ lw_all := am_wa 430 rfl rfl
theorem w_431 : Cond.selects "java/lang/IllegalStateException" ({ cls := "java/lang/Throwable", name := "fillInStackTrace", desc := "()Ljava/lang/Throwable;" }) ({ cls := "java/lang/Throwable", name := "fillInStackTrace", desc := "()Ljava/lang/Throwable;" }) ∈ lw_all := am_wa 431 rfl rfl
theorem w_432 : Cond.selects "java/lang/IndexOutOfBoundsException" ({ cls := "java/lang/Throwable", name := "fillInStackTrace", desc := "()Ljava/lang/Throwable;" }) ({ cls := "java/lang/Throwable", name := "fillInStackTrace", desc := "()Ljava/lang/Throwable;" }) ∈ lw_all := am_wa 432 rfl rfl
theorem w_433 : Cond.selects "java/lang/UnsupportedOperationException" ({ cls := "java/lang/Throwable", name := "fillInStackTrace", desc := "()Ljava/lang/Throwable;" }) ({ cls := "java/lang/Throwable", name := "fillInStackTrace", desc := "()Ljava/lang/Throwable;" }) ∈ lw_all := am_wa 433 rfl rfl
theorem w_434 : Cond.selects "java/util/ConcurrentModificationException" ({ cls := "java/lang/Throwable", name := "fillInStackTrace", desc := "()Ljava/lang/Throwable;" }) ({ cls := "java/lang/Throwable", name := "fillInStackTrace", desc := "()Ljava/lang/Throwable;" }) ∈ lw_all := am_wa 434 rfl rfl
theorem w_435 : Cond.selects "java/util/NoSuchElementException" ({ cls := "java/lang/Throwable", name := "fillInStackTrace", desc := "()Ljava/lang/Throwable;" }) ({ cls := "java/lang/Throwable", name := "fillInStackTrace", desc := "()Ljava/lang/Throwable;" }) ∈ lw_all := am_wa 435 rfl rfl
theorem w_437 : Cond.methodLink "java/lang/Throwable" (202 : Nat) ({ cls := "java/lang/Throwable", name := "fillInStackTrace", desc := "(I)Ljava/lang/Throwable;" }) ∈ lw_all := am_wa 437 rfl rfl
theorem v_438 : Cond.privateMethod ({ cls := "java/lang/Throwable", name := "fillInStackTrace", desc := "(I)Ljava/lang/Throwable;" }) ∈ lw_tbl := am_wv 438 rfl
theorem w_439 : Cond.instanceMethod ({ cls := "java/lang/Throwable", name := "fillInStackTrace", desc := "(I)Ljava/lang/Throwable;" }) ∈ lw_all := am_wa 439 rfl rfl
theorem w_440 : Cond.instantiable "java/lang/Throwable" (6 : Nat) ∈ lw_all := am_wa 440 rfl rfl
theorem w_441 : Cond.native ({ cls := "java/lang/Throwable", name := "fillInStackTrace", desc := "(I)Ljava/lang/Throwable;" }) ∈ lw_all := am_wa 441 rfl rfl
theorem w_442 : Cond.classLink "java/util/Arrays" (45 : Nat) "java/lang/StringBuilder" ∈ lw_all := am_wa 442 rfl rfl
theorem w_443 : Cond.instantiable "java/lang/StringBuilder" (4 : Nat) ∈ lw_all := am_wa 443 rfl rfl
theorem w_444 : Cond.methodLink "java/util/Arrays" (47 : Nat) ({ cls := "java/lang/StringBuilder", name := "<init>", desc := "()V" }) ∈ lw_all := am_wa 444 rfl rfl
theorem w_445 : Cond.instanceMethod ({ cls := "java/lang/StringBuilder", name := "<init>", desc := "()V" }) ∈ lw_all := am_wa 445 rfl rfl
theorem w_446 : Cond.code ({ cls := "java/lang/StringBuilder", name := "<init>", desc := "()V" }) prog_47_method_1_code (1 : Nat) (Option.none : Option FieldType) ∈ lw_all := am_wa 446 rfl rfl
theorem w_447 : Cond.methodLink "java/lang/StringBuilder" (1 : Nat) ({ cls := "java/lang/AbstractStringBuilder", name := "<init>", desc := "(I)V" }) ∈ lw_all := am_wa 447 rfl rfl
theorem w_448 : Cond.instanceMethod ({ cls := "java/lang/AbstractStringBuilder", name := "<init>", desc := "(I)V" }) ∈ lw_all := am_wa 448 rfl rfl
theorem w_449 : Cond.code ({ cls := "java/lang/AbstractStringBuilder", name := "<init>", desc := "(I)V" }) prog_27_method_2_code (2 : Nat) (Option.none : Option FieldType) ∈ lw_all := am_wa 449 rfl rfl
theorem w_450 : Cond.methodLink "java/lang/AbstractStringBuilder" (3 : Nat) ({ cls := "java/lang/Object", name := "<init>", desc := "()V" }) ∈ lw_all := am_wa 450 rfl rfl
theorem w_451 : Cond.fieldLink "java/lang/AbstractStringBuilder" (18 : Nat) "java/lang/String" "COMPACT_STRINGS" "Z" ∈ lw_all := am_wa 451 rfl rfl
theorem w_453 : Cond.methodLink "java/lang/AbstractStringBuilder" (26 : Nat) ({ cls := "java/lang/StringUTF16", name := "newBytesFor", desc := "(I)[B" }) ∈ lw_all := am_wa 453 rfl rfl
theorem w_454 : Cond.static ({ cls := "java/lang/StringUTF16", name := "newBytesFor", desc := "(I)[B" }) ∈ lw_all := am_wa 454 rfl rfl
theorem w_455 : Cond.code ({ cls := "java/lang/StringUTF16", name := "newBytesFor", desc := "(I)[B" }) prog_49_method_2_code (1 : Nat) (Option.some (FieldType.array FieldType.byte)) ∈ lw_all := am_wa 455 rfl rfl
theorem w_456 : Cond.methodLink "java/lang/StringUTF16" (11 : Nat) ({ cls := "java/lang/StringUTF16", name := "newBytesLength", desc := "(I)I" }) ∈ lw_all := am_wa 456 rfl rfl
theorem w_457 : Cond.static ({ cls := "java/lang/StringUTF16", name := "newBytesLength", desc := "(I)I" }) ∈ lw_all := am_wa 457 rfl rfl
theorem w_458 : Cond.code ({ cls := "java/lang/StringUTF16", name := "newBytesLength", desc := "(I)I" }) prog_49_method_3_code (1 : Nat) (Option.some FieldType.int) ∈ lw_all := am_wa 458 rfl rfl
theorem w_459 : Cond.constant "java/lang/StringUTF16" (20 : Nat) (1073741823 : Int32) ∈ lw_all := am_wa 459 rfl rfl
theorem w_460 : Cond.fieldLink "java/lang/AbstractStringBuilder" (15 : Nat) "java/lang/AbstractStringBuilder" "value" "[B" ∈ lw_all := am_wa 460 rfl rfl
theorem w_461 : Cond.fieldLink "java/lang/AbstractStringBuilder" (22 : Nat) "java/lang/AbstractStringBuilder" "coder" "B" ∈ lw_all := am_wa 461 rfl rfl
theorem w_462 : Cond.fieldLink "java/lang/String" (1048 : Nat) "java/lang/AbstractStringBuilder" "maybeLatin1" "Z" ∈ lw_all := am_wa 462 rfl rfl
theorem w_463 : Cond.fieldLink "java/lang/AbstractStringBuilder" (79 : Nat) "java/lang/AbstractStringBuilder" "count" "I" ∈ lw_all := am_wa 463 rfl rfl
theorem w_472 : Cond.superclass "java/lang/StringBuilder" "java/lang/AbstractStringBuilder" ∈ lw_all := am_wa 472 rfl rfl
theorem w_473 : Cond.methodLink "java/util/Arrays" (54 : Nat) ({ cls := "java/lang/StringBuilder", name := "append", desc := "(I)Ljava/lang/StringBuilder;" }) ∈ lw_all := am_wa 473 rfl rfl
theorem w_474 : Cond.instanceMethod ({ cls := "java/lang/StringBuilder", name := "append", desc := "(I)Ljava/lang/StringBuilder;" }) ∈ lw_all := am_wa 474 rfl rfl
theorem w_475 : Cond.selects "java/lang/StringBuilder" ({ cls := "java/lang/StringBuilder", name := "append", desc := "(I)Ljava/lang/StringBuilder;" }) ({ cls := "java/lang/StringBuilder", name := "append", desc := "(I)Ljava/lang/StringBuilder;" }) ∈ lw_all := am_wa 475 rfl rfl
theorem w_476 : Cond.code ({ cls := "java/lang/StringBuilder", name := "append", desc := "(I)Ljava/lang/StringBuilder;" }) prog_47_method_15_code (2 : Nat) (Option.some (FieldType.object "java/lang/StringBuilder")) ∈ lw_all := am_wa 476 rfl rfl
theorem w_477 : Cond.methodLink "java/lang/StringBuilder" (53 : Nat) ({ cls := "java/lang/AbstractStringBuilder", name := "append", desc := "(I)Ljava/lang/AbstractStringBuilder;" }) ∈ lw_all := am_wa 477 rfl rfl
theorem w_478 : Cond.instanceMethod ({ cls := "java/lang/AbstractStringBuilder", name := "append", desc := "(I)Ljava/lang/AbstractStringBuilder;" }) ∈ lw_all := am_wa 478 rfl rfl
theorem w_479 : Cond.code ({ cls := "java/lang/AbstractStringBuilder", name := "append", desc := "(I)Ljava/lang/AbstractStringBuilder;" }) prog_27_method_32_code (4 : Nat) (Option.some (FieldType.object "java/lang/AbstractStringBuilder")) ∈ lw_all := am_wa 479 rfl rfl
theorem w_480 : Cond.methodLink "java/lang/AbstractStringBuilder" (245 : Nat) ({ cls := "java/lang/Integer", name := "stringSize", desc := "(I)I" }) ∈ lw_all := am_wa 480 rfl rfl
theorem w_481 : Cond.static ({ cls := "java/lang/Integer", name := "stringSize", desc := "(I)I" }) ∈ lw_all := am_wa 481 rfl rfl
theorem w_482 : Cond.code ({ cls := "java/lang/Integer", name := "stringSize", desc := "(I)I" }) prog_38_method_13_code (4 : Nat) (Option.some FieldType.int) ∈ lw_all := am_wa 482 rfl rfl
theorem w_483 : Cond.methodLink "java/lang/AbstractStringBuilder" (100 : Nat) ({ cls := "java/lang/AbstractStringBuilder", name := "ensureCapacityInternal", desc := "(I)V" }) ∈ lw_all := am_wa 483 rfl rfl
theorem v_484 : Cond.privateMethod ({ cls := "java/lang/AbstractStringBuilder", name := "ensureCapacityInternal", desc := "(I)V" }) ∈ lw_tbl := am_wv 484 rfl
theorem w_485 : Cond.instanceMethod ({ cls := "java/lang/AbstractStringBuilder", name := "ensureCapacityInternal", desc := "(I)V" }) ∈ lw_all := am_wa 485 rfl rfl
theorem w_486 : Cond.code ({ cls := "java/lang/AbstractStringBuilder", name := "ensureCapacityInternal", desc := "(I)V" }) prog_27_method_9_code (3 : Nat) (Option.none : Option FieldType) ∈ lw_all := am_wa 486 rfl rfl
theorem w_487 : Cond.methodLink "java/lang/AbstractStringBuilder" (104 : Nat) ({ cls := "java/lang/AbstractStringBuilder", name := "newCapacity", desc := "(I)I" }) ∈ lw_all := am_wa 487 rfl rfl
theorem v_488 : Cond.privateMethod ({ cls := "java/lang/AbstractStringBuilder", name := "newCapacity", desc := "(I)I" }) ∈ lw_tbl := am_wv 488 rfl
theorem w_489 : Cond.instanceMethod ({ cls := "java/lang/AbstractStringBuilder", name := "newCapacity", desc := "(I)I" }) ∈ lw_all := am_wa 489 rfl rfl
theorem w_490 : Cond.code ({ cls := "java/lang/AbstractStringBuilder", name := "newCapacity", desc := "(I)I" }) prog_27_method_10_code (6 : Nat) (Option.some FieldType.int) ∈ lw_all := am_wa 490 rfl rfl
theorem w_491 : Cond.methodLink "java/lang/AbstractStringBuilder" (114 : Nat) ({ cls := "jdk/internal/util/ArraysSupport", name := "newLength", desc := "(III)I" }) ∈ lw_all := am_wa 491 rfl rfl
theorem w_492 : Cond.static ({ cls := "jdk/internal/util/ArraysSupport", name := "newLength", desc := "(III)I" }) ∈ lw_all := am_wa 492 rfl rfl
theorem w_493 : Cond.code ({ cls := "jdk/internal/util/ArraysSupport", name := "newLength", desc := "(III)I" }) prog_105_method_27_code (4 : Nat) (Option.some FieldType.int) ∈ lw_all := am_wa 493 rfl rfl
theorem w_494 : Cond.methodLink "jdk/internal/util/ArraysSupport" (194 : Nat) ({ cls := "java/lang/Math", name := "max", desc := "(II)I" }) ∈ lw_all := am_wa 494 rfl rfl
theorem w_495 : Cond.static ({ cls := "java/lang/Math", name := "max", desc := "(II)I" }) ∈ lw_all := am_wa 495 rfl rfl
theorem w_496 : Cond.code ({ cls := "java/lang/Math", name := "max", desc := "(II)I" }) prog_42_method_65_code (2 : Nat) (Option.some FieldType.int) ∈ lw_all := am_wa 496 rfl rfl
theorem w_497 : Cond.constant "jdk/internal/util/ArraysSupport" (200 : Nat) (2147483639 : Int32) ∈ lw_all := am_wa 497 rfl rfl
theorem w_498 : Cond.methodLink "jdk/internal/util/ArraysSupport" (201 : Nat) ({ cls := "jdk/internal/util/ArraysSupport", name := "hugeLength", desc := "(II)I" }) ∈ lw_all := am_wa 498 rfl rfl
theorem w_499 : Cond.static ({ cls := "jdk/internal/util/ArraysSupport", name := "hugeLength", desc := "(II)I" }) ∈ lw_all := am_wa 499 rfl rfl
theorem w_500 : Cond.code ({ cls := "jdk/internal/util/ArraysSupport", name := "hugeLength", desc := "(II)I" }) prog_105_method_28_code (3 : Nat) (Option.some FieldType.int) ∈ lw_all := am_wa 500 rfl rfl
theorem w_501 : Cond.constant "java/lang/AbstractStringBuilder" (39 : Nat) (2147483647 : Int32) ∈ lw_all := am_wa 501 rfl rfl
theorem w_502 : Cond.methodLink "java/lang/AbstractStringBuilder" (108 : Nat) ({ cls := "java/util/Arrays", name := "copyOf", desc := "([BI)[B" }) ∈ lw_all := am_wa 502 rfl rfl
theorem w_503 : Cond.static ({ cls := "java/util/Arrays", name := "copyOf", desc := "([BI)[B" }) ∈ lw_all := am_wa 503 rfl rfl
theorem w_504 : Cond.code ({ cls := "java/util/Arrays", name := "copyOf", desc := "([BI)[B" }) prog_65_method_121_code (3 : Nat) (Option.some (FieldType.array FieldType.byte)) ∈ lw_all := am_wa 504 rfl rfl
theorem w_505 : Cond.methodLink "java/util/Arrays" (310 : Nat) ({ cls := "[B", name := "clone", desc := "()Ljava/lang/Object;" }) ∈ lw_all := am_wa 505 rfl rfl
theorem w_506 : Cond.sameMethod "[B" "java/lang/Object" "clone" "()Ljava/lang/Object;" ∈ lw_all := am_wa 506 rfl rfl
theorem w_507 : Cond.native ({ cls := "java/lang/Object", name := "clone", desc := "()Ljava/lang/Object;" }) ∈ lw_all := am_wa 507 rfl rfl
theorem w_508 : Cond.instanceMethod ({ cls := "java/lang/Object", name := "clone", desc := "()Ljava/lang/Object;" }) ∈ lw_all := am_wa 508 rfl rfl
theorem w_509 : Cond.selects "[B" ({ cls := "[B", name := "clone", desc := "()Ljava/lang/Object;" }) ({ cls := "java/lang/Object", name := "clone", desc := "()Ljava/lang/Object;" }) ∈ lw_all := am_wa 509 rfl rfl
theorem v_510 : Cond.castable "[B" "java/lang/Cloneable" ∈ lw_tbl := am_wv 510 rfl
theorem w_511 : Cond.classLink "java/util/Arrays" (311 : Nat) "[B" ∈ lw_all := am_wa 511 rfl rfl
theorem w_512 : Cond.methodLink "java/util/Arrays" (304 : Nat) ({ cls := "java/lang/Math", name := "min", desc := "(II)I" }) ∈ lw_all := am_wa 512 rfl rfl
theorem w_513 : Cond.static ({ cls := "java/lang/Math", name := "min", desc := "(II)I" }) ∈ lw_all := am_wa 513 rfl rfl
theorem w_514 : Cond.code ({ cls := "java/lang/Math", name := "min", desc := "(II)I" }) prog_42_method_69_code (2 : Nat) (Option.some FieldType.int) ∈ lw_all := am_wa 514 rfl rfl
theorem w_515 : Cond.methodLink "java/util/Arrays" (150 : Nat) ({ cls := "java/lang/System", name := "arraycopy", desc := "(Ljava/lang/Object;ILjava/lang/Object;II)V" }) ∈ lw_all := am_wa 515 rfl rfl
theorem w_516 : Cond.methodLink "java/lang/AbstractStringBuilder" (83 : Nat) ({ cls := "java/lang/AbstractStringBuilder", name := "isLatin1", desc := "()Z" }) ∈ lw_all := am_wa 516 rfl rfl
theorem w_517 : Cond.instanceMethod ({ cls := "java/lang/AbstractStringBuilder", name := "isLatin1", desc := "()Z" }) ∈ lw_all := am_wa 517 rfl rfl
theorem w_518 : Cond.sameMethod "java/lang/AbstractStringBuilder" "java/lang/AbstractStringBuilder" "isLatin1" "()Z" ∈ lw_all := am_wa 518 rfl rfl
theorem w_519 : Cond.selects "java/lang/StringBuilder" ({ cls := "java/lang/AbstractStringBuilder", name := "isLatin1", desc := "()Z" }) ({ cls := "java/lang/AbstractStringBuilder", name := "isLatin1", desc := "()Z" }) ∈ lw_all := am_wa 519 rfl rfl
theorem w_520 : Cond.code ({ cls := "java/lang/AbstractStringBuilder", name := "isLatin1", desc := "()Z" }) prog_27_method_68_code (1 : Nat) (Option.some FieldType.boolean) ∈ lw_all := am_wa 520 rfl rfl
theorem w_521 : Cond.methodLink "java/lang/AbstractStringBuilder" (248 : Nat) ({ cls := "java/lang/Integer", name := "getChars", desc := "(II[B)I" }) ∈ lw_all := am_wa 521 rfl rfl
theorem w_522 : Cond.static ({ cls := "java/lang/Integer", name := "getChars", desc := "(II[B)I" }) ∈ lw_all := am_wa 522 rfl rfl
theorem w_523 : Cond.code ({ cls := "java/lang/Integer", name := "getChars", desc := "(II[B)I" }) prog_38_method_12_code (7 : Nat) (Option.some FieldType.int) ∈ lw_all := am_wa 523 rfl rfl
theorem w_524 : Cond.fieldLink "java/lang/Integer" (83 : Nat) "java/lang/Integer" "DigitOnes" "[B" ∈ lw_all := am_wa 524 rfl rfl
theorem w_526 : Cond.fieldLink "java/lang/Integer" (87 : Nat) "java/lang/Integer" "DigitTens" "[B" ∈ lw_all := am_wa 526 rfl rfl
theorem w_528 : Cond.methodLink "java/lang/AbstractStringBuilder" (251 : Nat) ({ cls := "java/lang/StringUTF16", name := "getChars", desc := "(III[B)I" }) ∈ lw_all := am_wa 528 rfl rfl
theorem w_529 : Cond.static ({ cls := "java/lang/StringUTF16", name := "getChars", desc := "(III[B)I" }) ∈ lw_all := am_wa 529 rfl rfl
theorem w_530 : Cond.code ({ cls := "java/lang/StringUTF16", name := "getChars", desc := "(III[B)I" }) prog_49_method_77_code (5 : Nat) (Option.some FieldType.int) ∈ lw_all := am_wa 530 rfl rfl
theorem w_531 : Cond.methodLink "java/lang/StringUTF16" (96 : Nat) ({ cls := "java/lang/StringUTF16", name := "checkBoundsBeginEnd", desc := "(II[B)V" }) ∈ lw_all := am_wa 531 rfl rfl
theorem w_532 : Cond.static ({ cls := "java/lang/StringUTF16", name := "checkBoundsBeginEnd", desc := "(II[B)V" }) ∈ lw_all := am_wa 532 rfl rfl
theorem w_533 : Cond.code ({ cls := "java/lang/StringUTF16", name := "checkBoundsBeginEnd", desc := "(II[B)V" }) prog_49_method_93_code (3 : Nat) (Option.none : Option FieldType) ∈ lw_all := am_wa 533 rfl rfl
theorem w_534 : Cond.methodLink "java/lang/StringUTF16" (48 : Nat) ({ cls := "java/lang/StringUTF16", name := "length", desc := "([B)I" }) ∈ lw_all := am_wa 534 rfl rfl
theorem w_535 : Cond.static ({ cls := "java/lang/StringUTF16", name := "length", desc := "([B)I" }) ∈ lw_all := am_wa 535 rfl rfl
theorem w_536 : Cond.code ({ cls := "java/lang/StringUTF16", name := "length", desc := "([B)I" }) prog_49_method_6_code (1 : Nat) (Option.some FieldType.int) ∈ lw_all := am_wa 536 rfl rfl
theorem w_537 : Cond.methodLink "java/lang/StringUTF16" (241 : Nat) ({ cls := "java/lang/String", name := "checkBoundsBeginEnd", desc := "(III)V" }) ∈ lw_all := am_wa 537 rfl rfl
theorem w_538 : Cond.static ({ cls := "java/lang/String", name := "checkBoundsBeginEnd", desc := "(III)V" }) ∈ lw_all := am_wa 538 rfl rfl
theorem w_539 : Cond.code ({ cls := "java/lang/String", name := "checkBoundsBeginEnd", desc := "(III)V" }) prog_46_method_158_code (3 : Nat) (Option.none : Option FieldType) ∈ lw_all := am_wa 539 rfl rfl
theorem w_540 : Cond.fieldLink "java/lang/String" (1053 : Nat) "jdk/internal/util/Preconditions" "SIOOBE_FORMATTER" "Ljava/util/function/BiFunction;" ∈ lw_all := am_wa 540 rfl rfl
theorem w_542 : Cond.methodLink "java/lang/String" (1062 : Nat) ({ cls := "jdk/internal/util/Preconditions", name := "checkFromToIndex", desc := "(IIILjava/util/function/BiFunction;)I" }) ∈ lw_all := am_wa 542 rfl rfl
theorem w_543 : Cond.static ({ cls := "jdk/internal/util/Preconditions", name := "checkFromToIndex", desc := "(IIILjava/util/function/BiFunction;)I" }) ∈ lw_all := am_wa 543 rfl rfl
theorem w_544 : Cond.code ({ cls := "jdk/internal/util/Preconditions", name := "checkFromToIndex", desc := "(IIILjava/util/function/BiFunction;)I" }) prog_106_method_12_code (4 : Nat) (Option.some FieldType.int) ∈ lw_all := am_wa 544 rfl rfl
theorem w_545 : Cond.methodLink "java/lang/StringUTF16" (393 : Nat) ({ cls := "java/lang/StringUTF16", name := "getChars", desc := "(II[B)I" }) ∈ lw_all := am_wa 545 rfl rfl
theorem w_546 : Cond.static ({ cls := "java/lang/StringUTF16", name := "getChars", desc := "(II[B)I" }) ∈ lw_all := am_wa 546 rfl rfl
theorem w_547 : Cond.code ({ cls := "java/lang/StringUTF16", name := "getChars", desc := "(II[B)I" }) prog_49_method_89_code (7 : Nat) (Option.some FieldType.int) ∈ lw_all := am_wa 547 rfl rfl
theorem w_548 : Cond.fieldLink "java/lang/StringUTF16" (403 : Nat) "java/lang/Integer" "DigitOnes" "[B" ∈ lw_all := am_wa 548 rfl rfl
theorem w_549 : Cond.methodLink "java/lang/StringUTF16" (111 : Nat) ({ cls := "java/lang/StringUTF16", name := "putChar", desc := "([BII)V" }) ∈ lw_all := am_wa 549 rfl rfl
theorem w_550 : Cond.static ({ cls := "java/lang/StringUTF16", name := "putChar", desc := "([BII)V" }) ∈ lw_all := am_wa 550 rfl rfl
theorem w_551 : Cond.code ({ cls := "java/lang/StringUTF16", name := "putChar", desc := "([BII)V" }) prog_49_method_4_code (3 : Nat) (Option.none : Option FieldType) ∈ lw_all := am_wa 551 rfl rfl
theorem w_552 : Cond.fieldLink "java/lang/StringUTF16" (44 : Nat) "java/lang/StringUTF16" "$assertionsDisabled" "Z" ∈ lw_all := am_wa 552 rfl rfl
theorem w_554 : Cond.fieldLink "java/lang/StringUTF16" (59 : Nat) "java/lang/StringUTF16" "HI_BYTE_SHIFT" "I" ∈ lw_all := am_wa 554 rfl rfl
theorem w_556 : Cond.fieldLink "java/lang/StringUTF16" (63 : Nat) "java/lang/StringUTF16" "LO_BYTE_SHIFT" "I" ∈ lw_all := am_wa 556 rfl rfl
theorem w_558 : Cond.fieldLink "java/lang/StringUTF16" (407 : Nat) "java/lang/Integer" "DigitTens" "[B" ∈ lw_all := am_wa 558 rfl rfl
theorem w_560 : Cond.methodLink "java/util/Arrays" (50 : Nat) ({ cls := "java/lang/StringBuilder", name := "append", desc := "(Ljava/lang/String;)Ljava/lang/StringBuilder;" }) ∈ lw_all := am_wa 560 rfl rfl
theorem w_561 : Cond.instanceMethod ({ cls := "java/lang/StringBuilder", name := "append", desc := "(Ljava/lang/String;)Ljava/lang/StringBuilder;" }) ∈ lw_all := am_wa 561 rfl rfl
theorem w_562 : Cond.selects "java/lang/StringBuilder" ({ cls := "java/lang/StringBuilder", name := "append", desc := "(Ljava/lang/String;)Ljava/lang/StringBuilder;" }) ({ cls := "java/lang/StringBuilder", name := "append", desc := "(Ljava/lang/String;)Ljava/lang/StringBuilder;" }) ∈ lw_all := am_wa 562 rfl rfl
theorem w_563 : Cond.code ({ cls := "java/lang/StringBuilder", name := "append", desc := "(Ljava/lang/String;)Ljava/lang/StringBuilder;" }) prog_47_method_7_code (2 : Nat) (Option.some (FieldType.object "java/lang/StringBuilder")) ∈ lw_all := am_wa 563 rfl rfl
theorem w_564 : Cond.methodLink "java/lang/StringBuilder" (29 : Nat) ({ cls := "java/lang/AbstractStringBuilder", name := "append", desc := "(Ljava/lang/String;)Ljava/lang/AbstractStringBuilder;" }) ∈ lw_all := am_wa 564 rfl rfl
theorem w_565 : Cond.instanceMethod ({ cls := "java/lang/AbstractStringBuilder", name := "append", desc := "(Ljava/lang/String;)Ljava/lang/AbstractStringBuilder;" }) ∈ lw_all := am_wa 565 rfl rfl
theorem w_566 : Cond.code ({ cls := "java/lang/AbstractStringBuilder", name := "append", desc := "(Ljava/lang/String;)Ljava/lang/AbstractStringBuilder;" }) prog_27_method_22_code (3 : Nat) (Option.some (FieldType.object "java/lang/AbstractStringBuilder")) ∈ lw_all := am_wa 566 rfl rfl
theorem w_567 : Cond.methodLink "java/lang/AbstractStringBuilder" (204 : Nat) ({ cls := "java/lang/AbstractStringBuilder", name := "appendNull", desc := "()Ljava/lang/AbstractStringBuilder;" }) ∈ lw_all := am_wa 567 rfl rfl
theorem v_568 : Cond.privateMethod ({ cls := "java/lang/AbstractStringBuilder", name := "appendNull", desc := "()Ljava/lang/AbstractStringBuilder;" }) ∈ lw_tbl := am_wv 568 rfl
theorem w_569 : Cond.instanceMethod ({ cls := "java/lang/AbstractStringBuilder", name := "appendNull", desc := "()Ljava/lang/AbstractStringBuilder;" }) ∈ lw_all := am_wa 569 rfl rfl
theorem w_570 : Cond.code ({ cls := "java/lang/AbstractStringBuilder", name := "appendNull", desc := "()Ljava/lang/AbstractStringBuilder;" }) prog_27_method_26_code (3 : Nat) (Option.some (FieldType.object "java/lang/AbstractStringBuilder")) ∈ lw_all := am_wa 570 rfl rfl
theorem w_571 : Cond.methodLink "java/lang/AbstractStringBuilder" (226 : Nat) ({ cls := "java/lang/StringUTF16", name := "putCharsAt", desc := "([BICCCC)I" }) ∈ lw_all := am_wa 571 rfl rfl
theorem w_572 : Cond.static ({ cls := "java/lang/StringUTF16", name := "putCharsAt", desc := "([BICCCC)I" }) ∈ lw_all := am_wa 572 rfl rfl
theorem w_573 : Cond.code ({ cls := "java/lang/StringUTF16", name := "putCharsAt", desc := "([BICCCC)I" }) prog_49_method_81_code (7 : Nat) (Option.some FieldType.int) ∈ lw_all := am_wa 573 rfl rfl
theorem w_574 : Cond.methodLink "java/lang/AbstractStringBuilder" (32 : Nat) ({ cls := "java/lang/String", name := "length", desc := "()I" }) ∈ lw_all := am_wa 574 rfl rfl
theorem w_575 : Cond.instanceMethod ({ cls := "java/lang/String", name := "length", desc := "()I" }) ∈ lw_all := am_wa 575 rfl rfl
theorem w_576 : Cond.selects "java/lang/String" ({ cls := "java/lang/String", name := "length", desc := "()I" }) ({ cls := "java/lang/String", name := "length", desc := "()I" }) ∈ lw_all := am_wa 576 rfl rfl
theorem w_577 : Cond.code ({ cls := "java/lang/String", name := "length", desc := "()I" }) prog_46_method_54_code (1 : Nat) (Option.some FieldType.int) ∈ lw_all := am_wa 577 rfl rfl
theorem w_578 : Cond.methodLink "java/lang/String" (335 : Nat) ({ cls := "java/lang/String", name := "coder", desc := "()B" }) ∈ lw_all := am_wa 578 rfl rfl
theorem w_579 : Cond.instanceMethod ({ cls := "java/lang/String", name := "coder", desc := "()B" }) ∈ lw_all := am_wa 579 rfl rfl
theorem w_580 : Cond.selects "java/lang/String" ({ cls := "java/lang/String", name := "coder", desc := "()B" }) ({ cls := "java/lang/String", name := "coder", desc := "()B" }) ∈ lw_all := am_wa 580 rfl rfl
theorem w_581 : Cond.code ({ cls := "java/lang/String", name := "coder", desc := "()B" }) prog_46_method_152_code (1 : Nat) (Option.some FieldType.byte) ∈ lw_all := am_wa 581 rfl rfl
theorem w_582 : Cond.fieldLink "java/lang/String" (38 : Nat) "java/lang/String" "COMPACT_STRINGS" "Z" ∈ lw_all := am_wa 582 rfl rfl
theorem w_583 : Cond.methodLink "java/lang/AbstractStringBuilder" (208 : Nat) ({ cls := "java/lang/AbstractStringBuilder", name := "putStringAt", desc := "(ILjava/lang/String;)V" }) ∈ lw_all := am_wa 583 rfl rfl
theorem v_584 : Cond.privateMethod ({ cls := "java/lang/AbstractStringBuilder", name := "putStringAt", desc := "(ILjava/lang/String;)V" }) ∈ lw_tbl := am_wv 584 rfl
theorem w_585 : Cond.instanceMethod ({ cls := "java/lang/AbstractStringBuilder", name := "putStringAt", desc := "(ILjava/lang/String;)V" }) ∈ lw_all := am_wa 585 rfl rfl
theorem w_586 : Cond.code ({ cls := "java/lang/AbstractStringBuilder", name := "putStringAt", desc := "(ILjava/lang/String;)V" }) prog_27_method_73_code (3 : Nat) (Option.none : Option FieldType) ∈ lw_all := am_wa 586 rfl rfl
theorem w_587 : Cond.methodLink "java/lang/AbstractStringBuilder" (397 : Nat) ({ cls := "java/lang/AbstractStringBuilder", name := "inflateIfNeededFor", desc := "(Ljava/lang/String;)V" }) ∈ lw_all := am_wa 587 rfl rfl
theorem v_588 : Cond.privateMethod ({ cls := "java/lang/AbstractStringBuilder", name := "inflateIfNeededFor", desc := "(Ljava/lang/String;)V" }) ∈ lw_tbl := am_wv 588 rfl
theorem w_589 : Cond.instanceMethod ({ cls := "java/lang/AbstractStringBuilder", name := "inflateIfNeededFor", desc := "(Ljava/lang/String;)V" }) ∈ lw_all := am_wa 589 rfl rfl
theorem w_590 : Cond.code ({ cls := "java/lang/AbstractStringBuilder", name := "inflateIfNeededFor", desc := "(Ljava/lang/String;)V" }) prog_27_method_71_code (2 : Nat) (Option.none : Option FieldType) ∈ lw_all := am_wa 590 rfl rfl
theorem w_591 : Cond.methodLink "java/lang/AbstractStringBuilder" (40 : Nat) ({ cls := "java/lang/String", name := "coder", desc := "()B" }) ∈ lw_all := am_wa 591 rfl rfl
theorem w_592 : Cond.methodLink "java/lang/AbstractStringBuilder" (195 : Nat) ({ cls := "java/lang/AbstractStringBuilder", name := "inflate", desc := "()V" }) ∈ lw_all := am_wa 592 rfl rfl
theorem v_593 : Cond.privateMethod ({ cls := "java/lang/AbstractStringBuilder", name := "inflate", desc := "()V" }) ∈ lw_tbl := am_wv 593 rfl
theorem w_594 : Cond.instanceMethod ({ cls := "java/lang/AbstractStringBuilder", name := "inflate", desc := "()V" }) ∈ lw_all := am_wa 594 rfl rfl
theorem w_595 : Cond.code ({ cls := "java/lang/AbstractStringBuilder", name := "inflate", desc := "()V" }) prog_27_method_11_code (2 : Nat) (Option.none : Option FieldType) ∈ lw_all := am_wa 595 rfl rfl
theorem w_596 : Cond.methodLink "java/lang/AbstractStringBuilder" (125 : Nat) ({ cls := "java/lang/StringLatin1", name := "inflate", desc := "([BI[BII)V" }) ∈ lw_all := am_wa 596 rfl rfl
theorem w_597 : Cond.static ({ cls := "java/lang/StringLatin1", name := "inflate", desc := "([BI[BII)V" }) ∈ lw_all := am_wa 597 rfl rfl
theorem w_598 : Cond.code ({ cls := "java/lang/StringLatin1", name := "inflate", desc := "([BI[BII)V" }) prog_48_method_50_code (5 : Nat) (Option.none : Option FieldType) ∈ lw_all := am_wa 598 rfl rfl
theorem w_599 : Cond.methodLink "java/lang/StringLatin1" (240 : Nat) ({ cls := "java/lang/StringUTF16", name := "inflate", desc := "([BI[BII)V" }) ∈ lw_all := am_wa 599 rfl rfl
theorem w_600 : Cond.static ({ cls := "java/lang/StringUTF16", name := "inflate", desc := "([BI[BII)V" }) ∈ lw_all := am_wa 600 rfl rfl
theorem w_601 : Cond.code ({ cls := "java/lang/StringUTF16", name := "inflate", desc := "([BI[BII)V" }) prog_49_method_86_code (6 : Nat) (Option.none : Option FieldType) ∈ lw_all := am_wa 601 rfl rfl
theorem w_602 : Cond.methodLink "java/lang/StringUTF16" (173 : Nat) ({ cls := "java/lang/StringUTF16", name := "checkBoundsOffCount", desc := "(II[B)V" }) ∈ lw_all := am_wa 602 rfl rfl
theorem w_603 : Cond.static ({ cls := "java/lang/StringUTF16", name := "checkBoundsOffCount", desc := "(II[B)V" }) ∈ lw_all := am_wa 603 rfl rfl
theorem w_604 : Cond.code ({ cls := "java/lang/StringUTF16", name := "checkBoundsOffCount", desc := "(II[B)V" }) prog_49_method_94_code (3 : Nat) (Option.none : Option FieldType) ∈ lw_all := am_wa 604 rfl rfl
theorem w_605 : Cond.methodLink "java/lang/StringUTF16" (419 : Nat) ({ cls := "java/lang/String", name := "checkBoundsOffCount", desc := "(III)I" }) ∈ lw_all := am_wa 605 rfl rfl
theorem w_606 : Cond.static ({ cls := "java/lang/String", name := "checkBoundsOffCount", desc := "(III)I" }) ∈ lw_all := am_wa 606 rfl rfl
theorem w_607 : Cond.code ({ cls := "java/lang/String", name := "checkBoundsOffCount", desc := "(III)I" }) prog_46_method_157_code (3 : Nat) (Option.some FieldType.int) ∈ lw_all := am_wa 607 rfl rfl
theorem w_608 : Cond.methodLink "java/lang/String" (1065 : Nat) ({ cls := "jdk/internal/util/Preconditions", name := "checkFromIndexSize", desc := "(IIILjava/util/function/BiFunction;)I" }) ∈ lw_all := am_wa 608 rfl rfl
theorem w_609 : Cond.static ({ cls := "jdk/internal/util/Preconditions", name := "checkFromIndexSize", desc := "(IIILjava/util/function/BiFunction;)I" }) ∈ lw_all := am_wa 609 rfl rfl
theorem w_610 : Cond.code ({ cls := "jdk/internal/util/Preconditions", name := "checkFromIndexSize", desc := "(IIILjava/util/function/BiFunction;)I" }) prog_106_method_13_code (4 : Nat) (Option.some FieldType.int) ∈ lw_all := am_wa 610 rfl rfl
theorem w_611 : Cond.methodLink "java/lang/AbstractStringBuilder" (399 : Nat) ({ cls := "java/lang/String", name := "getBytes", desc := "([BIB)V" }) ∈ lw_all := am_wa 611 rfl rfl
theorem w_612 : Cond.instanceMethod ({ cls := "java/lang/String", name := "getBytes", desc := "([BIB)V" }) ∈ lw_all := am_wa 612 rfl rfl
theorem w_613 : Cond.selects "java/lang/String" ({ cls := "java/lang/String", name := "getBytes", desc := "([BIB)V" }) ({ cls := "java/lang/String", name := "getBytes", desc := "([BIB)V" }) ∈ lw_all := am_wa 613 rfl rfl
theorem w_614 : Cond.code ({ cls := "java/lang/String", name := "getBytes", desc := "([BIB)V" }) prog_46_method_147_code (4 : Nat) (Option.none : Option FieldType) ∈ lw_all := am_wa 614 rfl rfl
theorem w_615 : Cond.methodLink "java/lang/String" (212 : Nat) ({ cls := "java/lang/System", name := "arraycopy", desc := "(Ljava/lang/Object;ILjava/lang/Object;II)V" }) ∈ lw_all := am_wa 615 rfl rfl
theorem w_616 : Cond.methodLink "java/lang/String" (106 : Nat) ({ cls := "java/lang/StringLatin1", name := "inflate", desc := "([BI[BII)V" }) ∈ lw_all := am_wa 616 rfl rfl
theorem w_617 : Cond.methodLink "java/util/Arrays" (61 : Nat) ({ cls := "java/lang/StringBuilder", name := "toString", desc := "()Ljava/lang/String;" }) ∈ lw_all := am_wa 617 rfl rfl
theorem w_618 : Cond.instanceMethod ({ cls := "java/lang/StringBuilder", name := "toString", desc := "()Ljava/lang/String;" }) ∈ lw_all := am_wa 618 rfl rfl
theorem w_619 : Cond.selects "java/lang/StringBuilder" ({ cls := "java/lang/StringBuilder", name := "toString", desc := "()Ljava/lang/String;" }) ({ cls := "java/lang/StringBuilder", name := "toString", desc := "()Ljava/lang/String;" }) ∈ lw_all := am_wa 619 rfl rfl
theorem w_620 : Cond.code ({ cls := "java/lang/StringBuilder", name := "toString", desc := "()Ljava/lang/String;" }) prog_47_method_42_code (1 : Nat) (Option.some (FieldType.object "java/lang/String")) ∈ lw_all := am_wa 620 rfl rfl
theorem w_621 : Cond.classLink "java/lang/StringBuilder" (18 : Nat) "java/lang/String" ∈ lw_all := am_wa 621 rfl rfl
theorem w_622 : Cond.instantiable "java/lang/String" (4 : Nat) ∈ lw_all := am_wa 622 rfl rfl
theorem w_623 : Cond.methodLink "java/lang/StringBuilder" (137 : Nat) ({ cls := "java/lang/String", name := "<init>", desc := "(Ljava/lang/StringBuilder;)V" }) ∈ lw_all := am_wa 623 rfl rfl
theorem w_624 : Cond.instanceMethod ({ cls := "java/lang/String", name := "<init>", desc := "(Ljava/lang/StringBuilder;)V" }) ∈ lw_all := am_wa 624 rfl rfl
theorem w_625 : Cond.code ({ cls := "java/lang/String", name := "<init>", desc := "(Ljava/lang/StringBuilder;)V" }) prog_46_method_53_code (2 : Nat) (Option.none : Option FieldType) ∈ lw_all := am_wa 625 rfl rfl
theorem w_626 : Cond.methodLink "java/lang/String" (489 : Nat) ({ cls := "java/lang/String", name := "<init>", desc := "(Ljava/lang/AbstractStringBuilder;Ljava/lang/Void;)V" }) ∈ lw_all := am_wa 626 rfl rfl
theorem w_627 : Cond.instanceMethod ({ cls := "java/lang/String", name := "<init>", desc := "(Ljava/lang/AbstractStringBuilder;Ljava/lang/Void;)V" }) ∈ lw_all := am_wa 627 rfl rfl
theorem w_628 : Cond.code ({ cls := "java/lang/String", name := "<init>", desc := "(Ljava/lang/AbstractStringBuilder;Ljava/lang/Void;)V" }) prog_46_method_150_code (5 : Nat) (Option.none : Option FieldType) ∈ lw_all := am_wa 628 rfl rfl
theorem w_629 : Cond.methodLink "java/lang/String" (1 : Nat) ({ cls := "java/lang/Object", name := "<init>", desc := "()V" }) ∈ lw_all := am_wa 629 rfl rfl
theorem w_630 : Cond.methodLink "java/lang/String" (552 : Nat) ({ cls := "java/lang/AbstractStringBuilder", name := "getValue", desc := "()[B" }) ∈ lw_all := am_wa 630 rfl rfl
theorem w_631 : Cond.instanceMethod ({ cls := "java/lang/AbstractStringBuilder", name := "getValue", desc := "()[B" }) ∈ lw_all := am_wa 631 rfl rfl
theorem w_632 : Cond.sameMethod "java/lang/AbstractStringBuilder" "java/lang/AbstractStringBuilder" "getValue" "()[B" ∈ lw_all := am_wa 632 rfl rfl
theorem w_633 : Cond.selects "java/lang/StringBuilder" ({ cls := "java/lang/AbstractStringBuilder", name := "getValue", desc := "()[B" }) ({ cls := "java/lang/AbstractStringBuilder", name := "getValue", desc := "()[B" }) ∈ lw_all := am_wa 633 rfl rfl
theorem w_634 : Cond.code ({ cls := "java/lang/AbstractStringBuilder", name := "getValue", desc := "()[B" }) prog_27_method_64_code (1 : Nat) (Option.some (FieldType.array FieldType.byte)) ∈ lw_all := am_wa 634 rfl rfl
theorem w_635 : Cond.methodLink "java/lang/String" (549 : Nat) ({ cls := "java/lang/AbstractStringBuilder", name := "length", desc := "()I" }) ∈ lw_all := am_wa 635 rfl rfl
theorem w_636 : Cond.instanceMethod ({ cls := "java/lang/AbstractStringBuilder", name := "length", desc := "()I" }) ∈ lw_all := am_wa 636 rfl rfl
theorem w_637 : Cond.sameMethod "java/lang/AbstractStringBuilder" "java/lang/AbstractStringBuilder" "length" "()I" ∈ lw_all := am_wa 637 rfl rfl
theorem w_638 : Cond.selects "java/lang/StringBuilder" ({ cls := "java/lang/AbstractStringBuilder", name := "length", desc := "()I" }) ({ cls := "java/lang/StringBuilder", name := "length", desc := "()I" }) ∈ lw_all := am_wa 638 rfl rfl
theorem w_639 : Cond.instanceMethod ({ cls := "java/lang/StringBuilder", name := "length", desc := "()I" }) ∈ lw_all := am_wa 639 rfl rfl
theorem w_640 : Cond.code ({ cls := "java/lang/StringBuilder", name := "length", desc := "()I" }) prog_47_method_93_code (1 : Nat) (Option.some FieldType.int) ∈ lw_all := am_wa 640 rfl rfl
theorem w_641 : Cond.methodLink "java/lang/StringBuilder" (343 : Nat) ({ cls := "java/lang/AbstractStringBuilder", name := "length", desc := "()I" }) ∈ lw_all := am_wa 641 rfl rfl
theorem w_642 : Cond.code ({ cls := "java/lang/AbstractStringBuilder", name := "length", desc := "()I" }) prog_27_method_6_code (1 : Nat) (Option.some FieldType.int) ∈ lw_all := am_wa 642 rfl rfl
theorem w_643 : Cond.methodLink "java/lang/String" (1047 : Nat) ({ cls := "java/lang/AbstractStringBuilder", name := "isLatin1", desc := "()Z" }) ∈ lw_all := am_wa 643 rfl rfl
theorem w_644 : Cond.methodLink "java/lang/String" (54 : Nat) ({ cls := "java/util/Arrays", name := "copyOfRange", desc := "([BII)[B" }) ∈ lw_all := am_wa 644 rfl rfl
theorem w_645 : Cond.static ({ cls := "java/util/Arrays", name := "copyOfRange", desc := "([BII)[B" }) ∈ lw_all := am_wa 645 rfl rfl
theorem w_646 : Cond.code ({ cls := "java/util/Arrays", name := "copyOfRange", desc := "([BII)[B" }) prog_65_method_132_code (3 : Nat) (Option.some (FieldType.array FieldType.byte)) ∈ lw_all := am_wa 646 rfl rfl
theorem w_647 : Cond.methodLink "java/util/Arrays" (339 : Nat) ({ cls := "java/util/Arrays", name := "copyOfRangeByte", desc := "([BII)[B" }) ∈ lw_all := am_wa 647 rfl rfl
theorem w_648 : Cond.static ({ cls := "java/util/Arrays", name := "copyOfRangeByte", desc := "([BII)[B" }) ∈ lw_all := am_wa 648 rfl rfl
theorem w_649 : Cond.code ({ cls := "java/util/Arrays", name := "copyOfRangeByte", desc := "([BII)[B" }) prog_65_method_133_code (5 : Nat) (Option.some (FieldType.array FieldType.byte)) ∈ lw_all := am_wa 649 rfl rfl
theorem w_650 : Cond.methodLink "java/util/Arrays" (343 : Nat) ({ cls := "java/util/Arrays", name := "checkLength", desc := "(II)V" }) ∈ lw_all := am_wa 650 rfl rfl
theorem w_651 : Cond.static ({ cls := "java/util/Arrays", name := "checkLength", desc := "(II)V" }) ∈ lw_all := am_wa 651 rfl rfl
theorem w_652 : Cond.code ({ cls := "java/util/Arrays", name := "checkLength", desc := "(II)V" }) prog_65_method_131_code (2 : Nat) (Option.none : Option FieldType) ∈ lw_all := am_wa 652 rfl rfl
theorem w_653 : Cond.methodLink "java/util/Arrays" (65 : Nat) ({ cls := "java/lang/IllegalArgumentException", name := "<init>", desc := "(Ljava/lang/String;)V" }) ∈ lw_all := am_wa 653 rfl rfl
theorem w_654 : Cond.instanceMethod ({ cls := "java/lang/IllegalArgumentException", name := "<init>", desc := "(Ljava/lang/String;)V" }) ∈ lw_all := am_wa 654 rfl rfl
theorem w_655 : Cond.code ({ cls := "java/lang/IllegalArgumentException", name := "<init>", desc := "(Ljava/lang/String;)V" }) prog_35_method_2_code (2 : Nat) (Option.none : Option FieldType) ∈ lw_all := am_wa 655 rfl rfl
theorem w_656 : Cond.methodLink "java/lang/IllegalArgumentException" (7 : Nat) ({ cls := "java/lang/RuntimeException", name := "<init>", desc := "(Ljava/lang/String;)V" }) ∈ lw_all := am_wa 656 rfl rfl
theorem w_657 : Cond.instanceMethod ({ cls := "java/lang/RuntimeException", name := "<init>", desc := "(Ljava/lang/String;)V" }) ∈ lw_all := am_wa 657 rfl rfl
theorem w_658 : Cond.code ({ cls := "java/lang/RuntimeException", name := "<init>", desc := "(Ljava/lang/String;)V" }) prog_45_method_2_code (2 : Nat) (Option.none : Option FieldType) ∈ lw_all := am_wa 658 rfl rfl
theorem w_659 : Cond.methodLink "java/lang/RuntimeException" (7 : Nat) ({ cls := "java/lang/Exception", name := "<init>", desc := "(Ljava/lang/String;)V" }) ∈ lw_all := am_wa 659 rfl rfl
theorem w_660 : Cond.instanceMethod ({ cls := "java/lang/Exception", name := "<init>", desc := "(Ljava/lang/String;)V" }) ∈ lw_all := am_wa 660 rfl rfl
theorem w_661 : Cond.code ({ cls := "java/lang/Exception", name := "<init>", desc := "(Ljava/lang/String;)V" }) prog_34_method_2_code (2 : Nat) (Option.none : Option FieldType) ∈ lw_all := am_wa 661 rfl rfl
theorem w_662 : Cond.methodLink "java/lang/Exception" (7 : Nat) ({ cls := "java/lang/Throwable", name := "<init>", desc := "(Ljava/lang/String;)V" }) ∈ lw_all := am_wa 662 rfl rfl
theorem w_663 : Cond.instanceMethod ({ cls := "java/lang/Throwable", name := "<init>", desc := "(Ljava/lang/String;)V" }) ∈ lw_all := am_wa 663 rfl rfl
theorem w_664 : Cond.code ({ cls := "java/lang/Throwable", name := "<init>", desc := "(Ljava/lang/String;)V" }) prog_52_method_2_code (2 : Nat) (Option.none : Option FieldType) ∈ lw_all := am_wa 664 rfl rfl
theorem w_665 : Cond.fieldLink "java/lang/Throwable" (198 : Nat) "java/lang/Throwable" "backtrace" "Ljava/lang/Object;" ∈ lw_all := am_wa 665 rfl rfl
theorem w_666 : Cond.fieldLink "java/lang/Throwable" (31 : Nat) "java/lang/Throwable" "detailMessage" "Ljava/lang/String;" ∈ lw_all := am_wa 666 rfl rfl
theorem w_667 : Cond.fieldLink "java/lang/Throwable" (7 : Nat) "java/lang/Throwable" "cause" "Ljava/lang/Throwable;" ∈ lw_all := am_wa 667 rfl rfl
theorem w_668 : Cond.fieldLink "java/lang/Throwable" (17 : Nat) "java/lang/Throwable" "stackTrace" "[Ljava/lang/StackTraceElement;" ∈ lw_all := am_wa 668 rfl rfl
theorem w_669 : Cond.fieldLink "java/lang/Throwable" (24 : Nat) "java/lang/Throwable" "suppressedExceptions" "Ljava/util/List;" ∈ lw_all := am_wa 669 rfl rfl
theorem w_677 : Cond.superclass "java/lang/IllegalArgumentException" "java/lang/RuntimeException" ∈ lw_all := am_wa 677 rfl rfl
theorem w_678 : Cond.methodLink "java/lang/String" (1051 : Nat) ({ cls := "java/lang/StringUTF16", name := "compress", desc := "([BII)[B" }) ∈ lw_all := am_wa 678 rfl rfl
theorem w_679 : Cond.static ({ cls := "java/lang/StringUTF16", name := "compress", desc := "([BII)[B" }) ∈ lw_all := am_wa 679 rfl rfl
theorem w_680 : Cond.code ({ cls := "java/lang/StringUTF16", name := "compress", desc := "([BII)[B" }) prog_49_method_17_code (6 : Nat) (Option.some (FieldType.array FieldType.byte)) ∈ lw_all := am_wa 680 rfl rfl
theorem w_681 : Cond.methodLink "java/lang/StringUTF16" (123 : Nat) ({ cls := "java/lang/StringUTF16", name := "compress", desc := "([BI[BII)I" }) ∈ lw_all := am_wa 681 rfl rfl
theorem w_682 : Cond.static ({ cls := "java/lang/StringUTF16", name := "compress", desc := "([BI[BII)I" }) ∈ lw_all := am_wa 682 rfl rfl
theorem w_683 : Cond.code ({ cls := "java/lang/StringUTF16", name := "compress", desc := "([BI[BII)I" }) prog_49_method_22_code (7 : Nat) (Option.some FieldType.int) ∈ lw_all := am_wa 683 rfl rfl
theorem w_684 : Cond.methodLink "java/lang/StringUTF16" (71 : Nat) ({ cls := "java/lang/StringUTF16", name := "getChar", desc := "([BI)C" }) ∈ lw_all := am_wa 684 rfl rfl
theorem w_685 : Cond.static ({ cls := "java/lang/StringUTF16", name := "getChar", desc := "([BI)C" }) ∈ lw_all := am_wa 685 rfl rfl
theorem w_686 : Cond.code ({ cls := "java/lang/StringUTF16", name := "getChar", desc := "([BI)C" }) prog_49_method_5_code (2 : Nat) (Option.some FieldType.char) ∈ lw_all := am_wa 686 rfl rfl
theorem w_687 : Cond.methodLink "java/lang/StringUTF16" (126 : Nat) ({ cls := "java/util/Arrays", name := "copyOfRange", desc := "([BII)[B" }) ∈ lw_all := am_wa 687 rfl rfl
theorem w_688 : Cond.methodLink "java/lang/String" (47 : Nat) ({ cls := "java/lang/StringUTF16", name := "coderFromArrayLen", desc := "([BI)B" }) ∈ lw_all := am_wa 688 rfl rfl
theorem w_689 : Cond.static ({ cls := "java/lang/StringUTF16", name := "coderFromArrayLen", desc := "([BI)B" }) ∈ lw_all := am_wa 689 rfl rfl
theorem w_690 : Cond.code ({ cls := "java/lang/StringUTF16", name := "coderFromArrayLen", desc := "([BI)B" }) prog_49_method_15_code (2 : Nat) (Option.some FieldType.byte) ∈ lw_all := am_wa 690 rfl rfl
theorem w_691 : Cond.fieldLink "java/lang/String" (9 : Nat) "java/lang/String" "value" "[B" ∈ lw_all := am_wa 691 rfl rfl
theorem w_692 : Cond.fieldLink "java/lang/String" (15 : Nat) "java/lang/String" "coder" "B" ∈ lw_all := am_wa 692 rfl rfl
theorem w_693 : Cond.fieldLink "java/lang/String" (19 : Nat) "java/lang/String" "hash" "I" ∈ lw_all := am_wa 693 rfl rfl
theorem w_694 : Cond.fieldLink "java/lang/String" (23 : Nat) "java/lang/String" "hashIsZero" "Z" ∈ lw_all := am_wa 694 rfl rfl
theorem w_703 : Cond.superclass "java/lang/String" "java/lang/Object" ∈ lw_all := am_wa 703 rfl rfl
theorem w_704 : Cond.classLink "java/util/Arrays" (110 : Nat) "[Ljava/lang/Object;" ∈ lw_all := am_wa 704 rfl rfl
theorem w_705 : Cond.classLink "java/util/Arrays" (2 : Nat) "java/lang/Object" ∈ lw_all := am_wa 705 rfl rfl
theorem w_706 : Cond.methodLink "java/util/ArrayDeque" (27 : Nat) ({ cls := "java/lang/System", name := "arraycopy", desc := "(Ljava/lang/Object;ILjava/lang/Object;II)V" }) ∈ lw_all := am_wa 706 rfl rfl
theorem v_707 : Cond.castable "java/util/ArrayList" "java/util/Collection" ∈ lw_tbl := am_wv 707 rfl
theorem w_708 : Cond.selects "java/util/ArrayList" ({ cls := "java/util/Collection", name := "toArray", desc := "()[Ljava/lang/Object;" }) ({ cls := "java/util/ArrayList", name := "toArray", desc := "()[Ljava/lang/Object;" }) ∈ lw_all := am_wa 708 rfl rfl
theorem v_709 : Cond.unhidden "java/util/ArrayList" "toArray" "()[Ljava/lang/Object;" ∈ lw_tbl := am_wv 709 rfl
theorem w_710 : Cond.instanceMethod ({ cls := "java/util/ArrayList", name := "toArray", desc := "()[Ljava/lang/Object;" }) ∈ lw_all := am_wa 710 rfl rfl
theorem v_711 : Cond.publicMethod ({ cls := "java/util/ArrayList", name := "toArray", desc := "()[Ljava/lang/Object;" }) ∈ lw_tbl := am_wv 711 rfl
theorem w_712 : Cond.code ({ cls := "java/util/ArrayList", name := "toArray", desc := "()[Ljava/lang/Object;" }) prog_63_method_16_code (1 : Nat) (Option.some (FieldType.array (FieldType.object "java/lang/Object"))) ∈ lw_all := am_wa 712 rfl rfl
theorem w_713 : Cond.methodLink "java/util/ArrayList" (66 : Nat) ({ cls := "java/util/Arrays", name := "copyOf", desc := "([Ljava/lang/Object;I)[Ljava/lang/Object;" }) ∈ lw_all := am_wa 713 rfl rfl
theorem w_714 : Cond.static ({ cls := "java/util/Arrays", name := "copyOf", desc := "([Ljava/lang/Object;I)[Ljava/lang/Object;" }) ∈ lw_all := am_wa 714 rfl rfl
theorem w_715 : Cond.code ({ cls := "java/util/Arrays", name := "copyOf", desc := "([Ljava/lang/Object;I)[Ljava/lang/Object;" }) prog_65_method_119_code (2 : Nat) (Option.some (FieldType.array (FieldType.object "java/lang/Object"))) ∈ lw_all := am_wa 715 rfl rfl
theorem w_716 : Cond.methodLink "java/util/Arrays" (86 : Nat) ({ cls := "java/lang/Object", name := "getClass", desc := "()Ljava/lang/Class;" }) ∈ lw_all := am_wa 716 rfl rfl
theorem w_717 : Cond.instanceMethod ({ cls := "java/lang/Object", name := "getClass", desc := "()Ljava/lang/Class;" }) ∈ lw_all := am_wa 717 rfl rfl
theorem w_718 : Cond.sameMethod "java/lang/Object" "java/lang/Object" "getClass" "()Ljava/lang/Class;" ∈ lw_all := am_wa 718 rfl rfl
theorem w_719 : Cond.selects "UmbrellaBank" ({ cls := "java/lang/Object", name := "getClass", desc := "()Ljava/lang/Class;" }) ({ cls := "java/lang/Object", name := "getClass", desc := "()Ljava/lang/Class;" }) ∈ lw_all := am_wa 719 rfl rfl
theorem w_720 : Cond.selects "UmbrellaBank$1" ({ cls := "java/lang/Object", name := "getClass", desc := "()Ljava/lang/Class;" }) ({ cls := "java/lang/Object", name := "getClass", desc := "()Ljava/lang/Class;" }) ∈ lw_all := am_wa 720 rfl rfl
theorem w_721 : Cond.selects "UmbrellaBank$1Window" ({ cls := "java/lang/Object", name := "getClass", desc := "()Ljava/lang/Class;" }) ({ cls := "java/lang/Object", name := "getClass", desc := "()Ljava/lang/Class;" }) ∈ lw_all := am_wa 721 rfl rfl
theorem w_722 : Cond.selects "UmbrellaBank$ByDrops" ({ cls := "java/lang/Object", name := "getClass", desc := "()Ljava/lang/Class;" }) ({ cls := "java/lang/Object", name := "getClass", desc := "()Ljava/lang/Class;" }) ∈ lw_all := am_wa 722 rfl rfl
theorem w_723 : Cond.selects "UmbrellaBank$Calling" ({ cls := "java/lang/Object", name := "getClass", desc := "()Ljava/lang/Class;" }) ({ cls := "java/lang/Object", name := "getClass", desc := "()Ljava/lang/Class;" }) ∈ lw_all := am_wa 723 rfl rfl
theorem w_724 : Cond.selects "UmbrellaBank$Claim" ({ cls := "java/lang/Object", name := "getClass", desc := "()Ljava/lang/Class;" }) ({ cls := "java/lang/Object", name := "getClass", desc := "()Ljava/lang/Class;" }) ∈ lw_all := am_wa 724 rfl rfl
theorem w_725 : Cond.selects "UmbrellaBank$Command" ({ cls := "java/lang/Object", name := "getClass", desc := "()Ljava/lang/Class;" }) ({ cls := "java/lang/Object", name := "getClass", desc := "()Ljava/lang/Class;" }) ∈ lw_all := am_wa 725 rfl rfl
theorem w_726 : Cond.selects "UmbrellaBank$Loan" ({ cls := "java/lang/Object", name := "getClass", desc := "()Ljava/lang/Class;" }) ({ cls := "java/lang/Object", name := "getClass", desc := "()Ljava/lang/Class;" }) ∈ lw_all := am_wa 726 rfl rfl
theorem w_727 : Cond.selects "UmbrellaBank$LoanSet" ({ cls := "java/lang/Object", name := "getClass", desc := "()Ljava/lang/Class;" }) ({ cls := "java/lang/Object", name := "getClass", desc := "()Ljava/lang/Class;" }) ∈ lw_all := am_wa 727 rfl rfl
theorem w_728 : Cond.selects "UmbrellaBank$LoanSet$1" ({ cls := "java/lang/Object", name := "getClass", desc := "()Ljava/lang/Class;" }) ({ cls := "java/lang/Object", name := "getClass", desc := "()Ljava/lang/Class;" }) ∈ lw_all := am_wa 728 rfl rfl
theorem w_729 : Cond.selects "UmbrellaBank$Net" ({ cls := "java/lang/Object", name := "getClass", desc := "()Ljava/lang/Class;" }) ({ cls := "java/lang/Object", name := "getClass", desc := "()Ljava/lang/Class;" }) ∈ lw_all := am_wa 729 rfl rfl
theorem w_730 : Cond.selects "UmbrellaBank$Netting" ({ cls := "java/lang/Object", name := "getClass", desc := "()Ljava/lang/Class;" }) ({ cls := "java/lang/Object", name := "getClass", desc := "()Ljava/lang/Class;" }) ∈ lw_all := am_wa 730 rfl rfl
theorem w_731 : Cond.selects "UmbrellaBank$Netting$1Look" ({ cls := "java/lang/Object", name := "getClass", desc := "()Ljava/lang/Class;" }) ({ cls := "java/lang/Object", name := "getClass", desc := "()Ljava/lang/Class;" }) ∈ lw_all := am_wa 731 rfl rfl
theorem w_732 : Cond.selects "UmbrellaBank$OneDay" ({ cls := "java/lang/Object", name := "getClass", desc := "()Ljava/lang/Class;" }) ({ cls := "java/lang/Object", name := "getClass", desc := "()Ljava/lang/Class;" }) ∈ lw_all := am_wa 732 rfl rfl
theorem w_733 : Cond.selects "UmbrellaBank$Parser" ({ cls := "java/lang/Object", name := "getClass", desc := "()Ljava/lang/Class;" }) ({ cls := "java/lang/Object", name := "getClass", desc := "()Ljava/lang/Class;" }) ∈ lw_all := am_wa 733 rfl rfl
theorem w_734 : Cond.selects "UmbrellaBank$Script" ({ cls := "java/lang/Object", name := "getClass", desc := "()Ljava/lang/Class;" }) ({ cls := "java/lang/Object", name := "getClass", desc := "()Ljava/lang/Class;" }) ∈ lw_all := am_wa 734 rfl rfl
theorem w_735 : Cond.selects "UmbrellaBank$State" ({ cls := "java/lang/Object", name := "getClass", desc := "()Ljava/lang/Class;" }) ({ cls := "java/lang/Object", name := "getClass", desc := "()Ljava/lang/Class;" }) ∈ lw_all := am_wa 735 rfl rfl
theorem w_736 : Cond.selects "UmbrellaBank$SyntaxError" ({ cls := "java/lang/Object", name := "getClass", desc := "()Ljava/lang/Class;" }) ({ cls := "java/lang/Object", name := "getClass", desc := "()Ljava/lang/Class;" }) ∈ lw_all := am_wa 736 rfl rfl
theorem w_737 : Cond.selects "UmbrellaBank$TwoSpans" ({ cls := "java/lang/Object", name := "getClass", desc := "()Ljava/lang/Class;" }) ({ cls := "java/lang/Object", name := "getClass", desc := "()Ljava/lang/Class;" }) ∈ lw_all := am_wa 737 rfl rfl
theorem w_738 : Cond.selects "UmbrellaBank$Urgency" ({ cls := "java/lang/Object", name := "getClass", desc := "()Ljava/lang/Class;" }) ({ cls := "java/lang/Object", name := "getClass", desc := "()Ljava/lang/Class;" }) ∈ lw_all := am_wa 738 rfl rfl
theorem w_739 : Cond.selects "UmbrellaBankModel" ({ cls := "java/lang/Object", name := "getClass", desc := "()Ljava/lang/Class;" }) ({ cls := "java/lang/Object", name := "getClass", desc := "()Ljava/lang/Class;" }) ∈ lw_all := am_wa 739 rfl rfl
theorem w_740 : Cond.selects "java/lang/ArithmeticException" ({ cls := "java/lang/Object", name := "getClass", desc := "()Ljava/lang/Class;" }) ({ cls := "java/lang/Object", name := "getClass", desc := "()Ljava/lang/Class;" }) ∈ lw_all := am_wa 740 rfl rfl
theorem w_741 : Cond.selects "java/lang/ArrayIndexOutOfBoundsException" ({ cls := "java/lang/Object", name := "getClass", desc := "()Ljava/lang/Class;" }) ({ cls := "java/lang/Object", name := "getClass", desc := "()Ljava/lang/Class;" }) ∈ lw_all := am_wa 741 rfl rfl
theorem w_742 : Cond.selects "java/lang/IllegalArgumentException" ({ cls := "java/lang/Object", name := "getClass", desc := "()Ljava/lang/Class;" }) ({ cls := "java/lang/Object", name := "getClass", desc := "()Ljava/lang/Class;" }) ∈ lw_all := am_wa 742 rfl rfl
theorem w_743 : Cond.selects "java/lang/IllegalStateException" ({ cls := "java/lang/Object", name := "getClass", desc := "()Ljava/lang/Class;" }) ({ cls := "java/lang/Object", name := "getClass", desc := "()Ljava/lang/Class;" }) ∈ lw_all := am_wa 743 rfl rfl
theorem w_744 : Cond.selects "java/lang/IndexOutOfBoundsException" ({ cls := "java/lang/Object", name := "getClass", desc := "()Ljava/lang/Class;" }) ({ cls := "java/lang/Object", name := "getClass", desc := "()Ljava/lang/Class;" }) ∈ lw_all := am_wa 744 rfl rfl
theorem w_745 : Cond.selects "java/lang/Integer" ({ cls := "java/lang/Object", name := "getClass", desc := "()Ljava/lang/Class;" }) ({ cls := "java/lang/Object", name := "getClass", desc := "()Ljava/lang/Class;" }) ∈ lw_all := am_wa 745 rfl rfl
theorem w_746 : Cond.selects "java/lang/String" ({ cls := "java/lang/Object", name := "getClass", desc := "()Ljava/lang/Class;" }) ({ cls := "java/lang/Object", name := "getClass", desc := "()Ljava/lang/Class;" }) ∈ lw_all := am_wa 746 rfl rfl
theorem w_747 : Cond.selects "java/lang/StringBuilder" ({ cls := "java/lang/Object", name := "getClass", desc := "()Ljava/lang/Class;" }) ({ cls := "java/lang/Object", name := "getClass", desc := "()Ljava/lang/Class;" }) ∈ lw_all := am_wa 747 rfl rfl
theorem w_748 : Cond.selects "java/lang/System$2" ({ cls := "java/lang/Object", name := "getClass", desc := "()Ljava/lang/Class;" }) ({ cls := "java/lang/Object", name := "getClass", desc := "()Ljava/lang/Class;" }) ∈ lw_all := am_wa 748 rfl rfl
theorem w_749 : Cond.selects "java/lang/UnsupportedOperationException" ({ cls := "java/lang/Object", name := "getClass", desc := "()Ljava/lang/Class;" }) ({ cls := "java/lang/Object", name := "getClass", desc := "()Ljava/lang/Class;" }) ∈ lw_all := am_wa 749 rfl rfl
theorem w_750 : Cond.selects "java/util/ArrayDeque" ({ cls := "java/lang/Object", name := "getClass", desc := "()Ljava/lang/Class;" }) ({ cls := "java/lang/Object", name := "getClass", desc := "()Ljava/lang/Class;" }) ∈ lw_all := am_wa 750 rfl rfl
theorem w_751 : Cond.selects "java/util/ArrayDeque$DeqIterator" ({ cls := "java/lang/Object", name := "getClass", desc := "()Ljava/lang/Class;" }) ({ cls := "java/lang/Object", name := "getClass", desc := "()Ljava/lang/Class;" }) ∈ lw_all := am_wa 751 rfl rfl
theorem w_752 : Cond.selects "java/util/ArrayList" ({ cls := "java/lang/Object", name := "getClass", desc := "()Ljava/lang/Class;" }) ({ cls := "java/lang/Object", name := "getClass", desc := "()Ljava/lang/Class;" }) ∈ lw_all := am_wa 752 rfl rfl
theorem w_753 : Cond.selects "java/util/ArrayList$Itr" ({ cls := "java/lang/Object", name := "getClass", desc := "()Ljava/lang/Class;" }) ({ cls := "java/lang/Object", name := "getClass", desc := "()Ljava/lang/Class;" }) ∈ lw_all := am_wa 753 rfl rfl
theorem w_754 : Cond.selects "java/util/ConcurrentModificationException" ({ cls := "java/lang/Object", name := "getClass", desc := "()Ljava/lang/Class;" }) ({ cls := "java/lang/Object", name := "getClass", desc := "()Ljava/lang/Class;" }) ∈ lw_all := am_wa 754 rfl rfl
theorem w_755 : Cond.selects "java/util/ImmutableCollections$List12" ({ cls := "java/lang/Object", name := "getClass", desc := "()Ljava/lang/Class;" }) ({ cls := "java/lang/Object", name := "getClass", desc := "()Ljava/lang/Class;" }) ∈ lw_all := am_wa 755 rfl rfl
theorem w_756 : Cond.selects "java/util/ImmutableCollections$ListItr" ({ cls := "java/lang/Object", name := "getClass", desc := "()Ljava/lang/Class;" }) ({ cls := "java/lang/Object", name := "getClass", desc := "()Ljava/lang/Class;" }) ∈ lw_all := am_wa 756 rfl rfl
theorem w_757 : Cond.selects "java/util/ImmutableCollections$ListN" ({ cls := "java/lang/Object", name := "getClass", desc := "()Ljava/lang/Class;" }) ({ cls := "java/lang/Object", name := "getClass", desc := "()Ljava/lang/Class;" }) ∈ lw_all := am_wa 757 rfl rfl
theorem w_758 : Cond.selects "java/util/NoSuchElementException" ({ cls := "java/lang/Object", name := "getClass", desc := "()Ljava/lang/Class;" }) ({ cls := "java/lang/Object", name := "getClass", desc := "()Ljava/lang/Class;" }) ∈ lw_all := am_wa 758 rfl rfl
theorem w_759 : Cond.selects "java/util/Optional" ({ cls := "java/lang/Object", name := "getClass", desc := "()Ljava/lang/Class;" }) ({ cls := "java/lang/Object", name := "getClass", desc := "()Ljava/lang/Class;" }) ∈ lw_all := am_wa 759 rfl rfl
theorem w_760 : Cond.selects "java/util/PriorityQueue" ({ cls := "java/lang/Object", name := "getClass", desc := "()Ljava/lang/Class;" }) ({ cls := "java/lang/Object", name := "getClass", desc := "()Ljava/lang/Class;" }) ∈ lw_all := am_wa 760 rfl rfl
theorem w_761 : Cond.selects "java/util/PriorityQueue$Itr" ({ cls := "java/lang/Object", name := "getClass", desc := "()Ljava/lang/Class;" }) ({ cls := "java/lang/Object", name := "getClass", desc := "()Ljava/lang/Class;" }) ∈ lw_all := am_wa 761 rfl rfl
theorem w_762 : Cond.selects "java/util/TreeMap" ({ cls := "java/lang/Object", name := "getClass", desc := "()Ljava/lang/Class;" }) ({ cls := "java/lang/Object", name := "getClass", desc := "()Ljava/lang/Class;" }) ∈ lw_all := am_wa 762 rfl rfl
theorem w_763 : Cond.selects "java/util/TreeMap$Entry" ({ cls := "java/lang/Object", name := "getClass", desc := "()Ljava/lang/Class;" }) ({ cls := "java/lang/Object", name := "getClass", desc := "()Ljava/lang/Class;" }) ∈ lw_all := am_wa 763 rfl rfl
theorem w_764 : Cond.selects "java/util/TreeMap$KeyIterator" ({ cls := "java/lang/Object", name := "getClass", desc := "()Ljava/lang/Class;" }) ({ cls := "java/lang/Object", name := "getClass", desc := "()Ljava/lang/Class;" }) ∈ lw_all := am_wa 764 rfl rfl
theorem w_765 : Cond.selects "java/util/TreeMap$KeySet" ({ cls := "java/lang/Object", name := "getClass", desc := "()Ljava/lang/Class;" }) ({ cls := "java/lang/Object", name := "getClass", desc := "()Ljava/lang/Class;" }) ∈ lw_all := am_wa 765 rfl rfl
theorem w_766 : Cond.selects "jdk/internal/misc/Unsafe" ({ cls := "java/lang/Object", name := "getClass", desc := "()Ljava/lang/Class;" }) ({ cls := "java/lang/Object", name := "getClass", desc := "()Ljava/lang/Class;" }) ∈ lw_all := am_wa 766 rfl rfl
theorem w_767 : Cond.native ({ cls := "java/lang/Object", name := "getClass", desc := "()Ljava/lang/Class;" }) ∈ lw_all := am_wa 767 rfl rfl
theorem w_768 : Cond.methodLink "java/util/Arrays" (300 : Nat) ({ cls := "java/util/Arrays", name := "copyOf", desc := "([Ljava/lang/Object;ILjava/lang/Class;)[Ljava/lang/Object;" }) ∈ lw_all := am_wa 768 rfl rfl
theorem w_769 : Cond.static ({ cls := "java/util/Arrays", name := "copyOf", desc := "([Ljava/lang/Object;ILjava/lang/Class;)[Ljava/lang/Object;" }) ∈ lw_all := am_wa 769 rfl rfl
theorem w_770 : Cond.code ({ cls := "java/util/Arrays", name := "copyOf", desc := "([Ljava/lang/Object;ILjava/lang/Class;)[Ljava/lang/Object;" }) prog_65_method_120_code (4 : Nat) (Option.some (FieldType.array (FieldType.object "java/lang/Object"))) ∈ lw_all := am_wa 770 rfl rfl
theorem v_771 : Cond.castable "java/util/ImmutableCollections$List12" "java/util/Collection" ∈ lw_tbl := am_wv 771 rfl
theorem w_772 : Cond.selects "java/util/ImmutableCollections$List12" ({ cls := "java/util/Collection", name := "toArray", desc := "()[Ljava/lang/Object;" }) ({ cls := "java/util/ImmutableCollections$List12", name := "toArray", desc := "()[Ljava/lang/Object;" }) ∈ lw_all := am_wa 772 rfl rfl
theorem v_773 : Cond.unhidden "java/util/ImmutableCollections$List12" "toArray" "()[Ljava/lang/Object;" ∈ lw_tbl := am_wv 773 rfl
theorem w_774 : Cond.instanceMethod ({ cls := "java/util/ImmutableCollections$List12", name := "toArray", desc := "()[Ljava/lang/Object;" }) ∈ lw_all := am_wa 774 rfl rfl
theorem v_775 : Cond.publicMethod ({ cls := "java/util/ImmutableCollections$List12", name := "toArray", desc := "()[Ljava/lang/Object;" }) ∈ lw_tbl := am_wv 775 rfl
theorem w_776 : Cond.code ({ cls := "java/util/ImmutableCollections$List12", name := "toArray", desc := "()[Ljava/lang/Object;" }) prog_73_method_10_code (1 : Nat) (Option.some (FieldType.array (FieldType.object "java/lang/Object"))) ∈ lw_all := am_wa 776 rfl rfl
theorem v_777 : Cond.fieldLinkNest "java/util/ImmutableCollections$List12" (19 : Nat) "java/util/ImmutableCollections" "EMPTY" "Ljava/lang/Object;" "java/util/ImmutableCollections" ∈ lw_tbl := am_wv 777 rfl
theorem w_779 : Cond.classLink "java/util/ImmutableCollections$List12" (32 : Nat) "java/lang/Object" ∈ lw_all := am_wa 779 rfl rfl
theorem v_780 : Cond.castable "java/util/ImmutableCollections$ListN" "java/util/Collection" ∈ lw_tbl := am_wv 780 rfl
theorem w_781 : Cond.selects "java/util/ImmutableCollections$ListN" ({ cls := "java/util/Collection", name := "toArray", desc := "()[Ljava/lang/Object;" }) ({ cls := "java/util/ImmutableCollections$ListN", name := "toArray", desc := "()[Ljava/lang/Object;" }) ∈ lw_all := am_wa 781 rfl rfl
theorem v_782 : Cond.unhidden "java/util/ImmutableCollections$ListN" "toArray" "()[Ljava/lang/Object;" ∈ lw_tbl := am_wv 782 rfl
theorem w_783 : Cond.instanceMethod ({ cls := "java/util/ImmutableCollections$ListN", name := "toArray", desc := "()[Ljava/lang/Object;" }) ∈ lw_all := am_wa 783 rfl rfl
theorem v_784 : Cond.publicMethod ({ cls := "java/util/ImmutableCollections$ListN", name := "toArray", desc := "()[Ljava/lang/Object;" }) ∈ lw_tbl := am_wv 784 rfl
theorem w_785 : Cond.code ({ cls := "java/util/ImmutableCollections$ListN", name := "toArray", desc := "()[Ljava/lang/Object;" }) prog_75_method_7_code (1 : Nat) (Option.some (FieldType.array (FieldType.object "java/lang/Object"))) ∈ lw_all := am_wa 785 rfl rfl
theorem w_786 : Cond.methodLink "java/util/ImmutableCollections$ListN" (29 : Nat) ({ cls := "java/util/Arrays", name := "copyOf", desc := "([Ljava/lang/Object;I)[Ljava/lang/Object;" }) ∈ lw_all := am_wa 786 rfl rfl
theorem v_787 : Cond.castable "java/util/PriorityQueue" "java/util/Collection" ∈ lw_tbl := am_wv 787 rfl
theorem w_788 : Cond.selects "java/util/PriorityQueue" ({ cls := "java/util/Collection", name := "toArray", desc := "()[Ljava/lang/Object;" }) ({ cls := "java/util/PriorityQueue", name := "toArray", desc := "()[Ljava/lang/Object;" }) ∈ lw_all := am_wa 788 rfl rfl
theorem v_789 : Cond.unhidden "java/util/PriorityQueue" "toArray" "()[Ljava/lang/Object;" ∈ lw_tbl := am_wv 789 rfl
theorem w_790 : Cond.instanceMethod ({ cls := "java/util/PriorityQueue", name := "toArray", desc := "()[Ljava/lang/Object;" }) ∈ lw_all := am_wa 790 rfl rfl
theorem v_791 : Cond.publicMethod ({ cls := "java/util/PriorityQueue", name := "toArray", desc := "()[Ljava/lang/Object;" }) ∈ lw_tbl := am_wv 791 rfl
theorem w_792 : Cond.code ({ cls := "java/util/PriorityQueue", name := "toArray", desc := "()[Ljava/lang/Object;" }) prog_86_method_20_code (1 : Nat) (Option.some (FieldType.array (FieldType.object "java/lang/Object"))) ∈ lw_all := am_wa 792 rfl rfl
theorem w_793 : Cond.methodLink "java/util/PriorityQueue" (86 : Nat) ({ cls := "java/util/Arrays", name := "copyOf", desc := "([Ljava/lang/Object;I)[Ljava/lang/Object;" }) ∈ lw_all := am_wa 793 rfl rfl
theorem v_794 : Cond.castable "java/util/TreeMap$KeySet" "java/util/Collection" ∈ lw_tbl := am_wv 794 rfl
theorem w_795 : Cond.selects "java/util/TreeMap$KeySet" ({ cls := "java/util/Collection", name := "toArray", desc := "()[Ljava/lang/Object;" }) ({ cls := "java/util/AbstractCollection", name := "toArray", desc := "()[Ljava/lang/Object;" }) ∈ lw_all := am_wa 795 rfl rfl
theorem v_796 : Cond.unhidden "java/util/TreeMap$KeySet" "toArray" "()[Ljava/lang/Object;" ∈ lw_tbl := am_wv 796 rfl
theorem w_797 : Cond.instanceMethod ({ cls := "java/util/AbstractCollection", name := "toArray", desc := "()[Ljava/lang/Object;" }) ∈ lw_all := am_wa 797 rfl rfl
theorem v_798 : Cond.publicMethod ({ cls := "java/util/AbstractCollection", name := "toArray", desc := "()[Ljava/lang/Object;" }) ∈ lw_tbl := am_wv 798 rfl
theorem w_799 : Cond.code ({ cls := "java/util/AbstractCollection", name := "toArray", desc := "()[Ljava/lang/Object;" }) prog_56_method_6_code (4 : Nat) (Option.some (FieldType.array (FieldType.object "java/lang/Object"))) ∈ lw_all := am_wa 799 rfl rfl
theorem w_800 : Cond.methodLink "java/util/AbstractCollection" (7 : Nat) ({ cls := "java/util/AbstractCollection", name := "size", desc := "()I" }) ∈ lw_all := am_wa 800 rfl rfl
theorem v_801 : Cond.declares ({ cls := "java/util/AbstractCollection", name := "size", desc := "()I" }) ∈ lw_tbl := am_wv 801 rfl
theorem w_802 : Cond.sameMethod "java/util/AbstractCollection" "java/util/AbstractCollection" "size" "()I" ∈ lw_all := am_wa 802 rfl rfl
theorem w_803 : Cond.selects "java/util/ArrayDeque" ({ cls := "java/util/AbstractCollection", name := "size", desc := "()I" }) ({ cls := "java/util/ArrayDeque", name := "size", desc := "()I" }) ∈ lw_all := am_wa 803 rfl rfl
theorem w_804 : Cond.instanceMethod ({ cls := "java/util/ArrayDeque", name := "size", desc := "()I" }) ∈ lw_all := am_wa 804 rfl rfl
theorem w_805 : Cond.code ({ cls := "java/util/ArrayDeque", name := "size", desc := "()I" }) prog_61_method_37_code (1 : Nat) (Option.some FieldType.int) ∈ lw_all := am_wa 805 rfl rfl
theorem w_806 : Cond.methodLink "java/util/ArrayDeque" (127 : Nat) ({ cls := "java/util/ArrayDeque", name := "sub", desc := "(III)I" }) ∈ lw_all := am_wa 806 rfl rfl
theorem w_807 : Cond.static ({ cls := "java/util/ArrayDeque", name := "sub", desc := "(III)I" }) ∈ lw_all := am_wa 807 rfl rfl
theorem w_808 : Cond.code ({ cls := "java/util/ArrayDeque", name := "sub", desc := "(III)I" }) prog_61_method_9_code (3 : Nat) (Option.some FieldType.int) ∈ lw_all := am_wa 808 rfl rfl
theorem w_809 : Cond.selects "java/util/ArrayList" ({ cls := "java/util/AbstractCollection", name := "size", desc := "()I" }) ({ cls := "java/util/ArrayList", name := "size", desc := "()I" }) ∈ lw_all := am_wa 809 rfl rfl
theorem w_810 : Cond.instanceMethod ({ cls := "java/util/ArrayList", name := "size", desc := "()I" }) ∈ lw_all := am_wa 810 rfl rfl
theorem w_811 : Cond.code ({ cls := "java/util/ArrayList", name := "size", desc := "()I" }) prog_63_method_8_code (1 : Nat) (Option.some FieldType.int) ∈ lw_all := am_wa 811 rfl rfl
theorem w_812 : Cond.selects "java/util/ImmutableCollections$List12" ({ cls := "java/util/AbstractCollection", name := "size", desc := "()I" }) ({ cls := "java/util/ImmutableCollections$List12", name := "size", desc := "()I" }) ∈ lw_all := am_wa 812 rfl rfl
theorem w_813 : Cond.instanceMethod ({ cls := "java/util/ImmutableCollections$List12", name := "size", desc := "()I" }) ∈ lw_all := am_wa 813 rfl rfl
theorem w_814 : Cond.code ({ cls := "java/util/ImmutableCollections$List12", name := "size", desc := "()I" }) prog_73_method_3_code (1 : Nat) (Option.some FieldType.int) ∈ lw_all := am_wa 814 rfl rfl
theorem w_815 : Cond.selects "java/util/ImmutableCollections$ListN" ({ cls := "java/util/AbstractCollection", name := "size", desc := "()I" }) ({ cls := "java/util/ImmutableCollections$ListN", name := "size", desc := "()I" }) ∈ lw_all := am_wa 815 rfl rfl
theorem w_816 : Cond.instanceMethod ({ cls := "java/util/ImmutableCollections$ListN", name := "size", desc := "()I" }) ∈ lw_all := am_wa 816 rfl rfl
theorem w_817 : Cond.code ({ cls := "java/util/ImmutableCollections$ListN", name := "size", desc := "()I" }) prog_75_method_3_code (1 : Nat) (Option.some FieldType.int) ∈ lw_all := am_wa 817 rfl rfl
theorem w_818 : Cond.selects "java/util/PriorityQueue" ({ cls := "java/util/AbstractCollection", name := "size", desc := "()I" }) ({ cls := "java/util/PriorityQueue", name := "size", desc := "()I" }) ∈ lw_all := am_wa 818 rfl rfl
theorem w_819 : Cond.instanceMethod ({ cls := "java/util/PriorityQueue", name := "size", desc := "()I" }) ∈ lw_all := am_wa 819 rfl rfl
theorem w_820 : Cond.code ({ cls := "java/util/PriorityQueue", name := "size", desc := "()I" }) prog_86_method_23_code (1 : Nat) (Option.some FieldType.int) ∈ lw_all := am_wa 820 rfl rfl
theorem w_821 : Cond.selects "java/util/TreeMap$KeySet" ({ cls := "java/util/AbstractCollection", name := "size", desc := "()I" }) ({ cls := "java/util/TreeMap$KeySet", name := "size", desc := "()I" }) ∈ lw_all := am_wa 821 rfl rfl
theorem w_822 : Cond.instanceMethod ({ cls := "java/util/TreeMap$KeySet", name := "size", desc := "()I" }) ∈ lw_all := am_wa 822 rfl rfl
theorem w_823 : Cond.code ({ cls := "java/util/TreeMap$KeySet", name := "size", desc := "()I" }) prog_99_method_4_code (1 : Nat) (Option.some FieldType.int) ∈ lw_all := am_wa 823 rfl rfl
theorem v_825 : Cond.publicMethod ({ cls := "java/util/Map", name := "size", desc := "()I" }) ∈ lw_tbl := am_wv 825 rfl
theorem v_826 : Cond.declares ({ cls := "java/util/Map", name := "size", desc := "()I" }) ∈ lw_tbl := am_wv 826 rfl
theorem v_827 : Cond.castable "java/util/TreeMap" "java/util/NavigableMap" ∈ lw_tbl := am_wv 827 rfl
theorem w_828 : Cond.selects "java/util/TreeMap" ({ cls := "java/util/Map", name := "size", desc := "()I" }) ({ cls := "java/util/TreeMap", name := "size", desc := "()I" }) ∈ lw_all := am_wa 828 rfl rfl
theorem v_829 : Cond.unhidden "java/util/TreeMap" "size" "()I" ∈ lw_tbl := am_wv 829 rfl
theorem w_830 : Cond.instanceMethod ({ cls := "java/util/TreeMap", name := "size", desc := "()I" }) ∈ lw_all := am_wa 830 rfl rfl
theorem v_831 : Cond.publicMethod ({ cls := "java/util/TreeMap", name := "size", desc := "()I" }) ∈ lw_tbl := am_wv 831 rfl
theorem w_832 : Cond.code ({ cls := "java/util/TreeMap", name := "size", desc := "()I" }) prog_96_method_5_code (1 : Nat) (Option.some FieldType.int) ∈ lw_all := am_wa 832 rfl rfl
theorem w_833 : Cond.classLink "java/util/AbstractCollection" (2 : Nat) "java/lang/Object" ∈ lw_all := am_wa 833 rfl rfl
theorem w_834 : Cond.methodLink "java/util/AbstractCollection" (13 : Nat) ({ cls := "java/util/AbstractCollection", name := "iterator", desc := "()Ljava/util/Iterator;" }) ∈ lw_all := am_wa 834 rfl rfl
theorem v_835 : Cond.declares ({ cls := "java/util/AbstractCollection", name := "iterator", desc := "()Ljava/util/Iterator;" }) ∈ lw_tbl := am_wv 835 rfl
theorem w_836 : Cond.sameMethod "java/util/AbstractCollection" "java/util/AbstractCollection" "iterator" "()Ljava/util/Iterator;" ∈ lw_all := am_wa 836 rfl rfl
theorem w_837 : Cond.selects "java/util/ArrayDeque" ({ cls := "java/util/AbstractCollection", name := "iterator", desc := "()Ljava/util/Iterator;" }) ({ cls := "java/util/ArrayDeque", name := "iterator", desc := "()Ljava/util/Iterator;" }) ∈ lw_all := am_wa 837 rfl rfl
theorem w_838 : Cond.instanceMethod ({ cls := "java/util/ArrayDeque", name := "iterator", desc := "()Ljava/util/Iterator;" }) ∈ lw_all := am_wa 838 rfl rfl
theorem w_839 : Cond.code ({ cls := "java/util/ArrayDeque", name := "iterator", desc := "()Ljava/util/Iterator;" }) prog_61_method_39_code (1 : Nat) (Option.some (FieldType.object "java/util/Iterator")) ∈ lw_all := am_wa 839 rfl rfl
theorem w_840 : Cond.classLink "java/util/ArrayDeque" (131 : Nat) "java/util/ArrayDeque$DeqIterator" ∈ lw_all := am_wa 840 rfl rfl
theorem w_841 : Cond.instantiable "java/util/ArrayDeque$DeqIterator" (4 : Nat) ∈ lw_all := am_wa 841 rfl rfl
theorem w_842 : Cond.methodLink "java/util/ArrayDeque" (133 : Nat) ({ cls := "java/util/ArrayDeque$DeqIterator", name := "<init>", desc := "(Ljava/util/ArrayDeque;)V" }) ∈ lw_all := am_wa 842 rfl rfl
theorem w_843 : Cond.instanceMethod ({ cls := "java/util/ArrayDeque$DeqIterator", name := "<init>", desc := "(Ljava/util/ArrayDeque;)V" }) ∈ lw_all := am_wa 843 rfl rfl
theorem w_844 : Cond.code ({ cls := "java/util/ArrayDeque$DeqIterator", name := "<init>", desc := "(Ljava/util/ArrayDeque;)V" }) prog_62_method_1_code (2 : Nat) (Option.none : Option FieldType) ∈ lw_all := am_wa 844 rfl rfl
theorem w_845 : Cond.methodLink "java/util/ArrayDeque$DeqIterator" (7 : Nat) ({ cls := "java/lang/Object", name := "<init>", desc := "()V" }) ∈ lw_all := am_wa 845 rfl rfl
theorem w_846 : Cond.methodLink "java/util/ArrayDeque$DeqIterator" (13 : Nat) ({ cls := "java/util/ArrayDeque", name := "size", desc := "()I" }) ∈ lw_all := am_wa 846 rfl rfl
theorem w_847 : Cond.fieldLink "java/util/ArrayDeque$DeqIterator" (29 : Nat) "java/util/ArrayDeque$DeqIterator" "cursor" "I" ∈ lw_all := am_wa 847 rfl rfl
theorem w_848 : Cond.fieldLink "java/util/ArrayDeque$DeqIterator" (19 : Nat) "java/util/ArrayDeque$DeqIterator" "remaining" "I" ∈ lw_all := am_wa 848 rfl rfl
theorem w_849 : Cond.fieldLink "java/util/ArrayDeque$DeqIterator" (23 : Nat) "java/util/ArrayDeque$DeqIterator" "lastRet" "I" ∈ lw_all := am_wa 849 rfl rfl
theorem w_850 : Cond.fieldLink "java/util/ArrayDeque$DeqIterator" (1 : Nat) "java/util/ArrayDeque$DeqIterator" "this$0" "Ljava/util/ArrayDeque;" ∈ lw_all := am_wa 850 rfl rfl
theorem w_859 : Cond.superclass "java/util/ArrayDeque$DeqIterator" "java/lang/Object" ∈ lw_all := am_wa 859 rfl rfl
theorem w_860 : Cond.selects "java/util/ArrayList" ({ cls := "java/util/AbstractCollection", name := "iterator", desc := "()Ljava/util/Iterator;" }) ({ cls := "java/util/ArrayList", name := "iterator", desc := "()Ljava/util/Iterator;" }) ∈ lw_all := am_wa 860 rfl rfl
theorem w_861 : Cond.instanceMethod ({ cls := "java/util/ArrayList", name := "iterator", desc := "()Ljava/util/Iterator;" }) ∈ lw_all := am_wa 861 rfl rfl
theorem w_862 : Cond.code ({ cls := "java/util/ArrayList", name := "iterator", desc := "()Ljava/util/Iterator;" }) prog_63_method_55_code (1 : Nat) (Option.some (FieldType.object "java/util/Iterator")) ∈ lw_all := am_wa 862 rfl rfl
theorem w_863 : Cond.classLink "java/util/ArrayList" (267 : Nat) "java/util/ArrayList$Itr" ∈ lw_all := am_wa 863 rfl rfl
theorem w_864 : Cond.instantiable "java/util/ArrayList$Itr" (4 : Nat) ∈ lw_all := am_wa 864 rfl rfl
theorem w_865 : Cond.methodLink "java/util/ArrayList" (269 : Nat) ({ cls := "java/util/ArrayList$Itr", name := "<init>", desc := "(Ljava/util/ArrayList;)V" }) ∈ lw_all := am_wa 865 rfl rfl
theorem w_866 : Cond.instanceMethod ({ cls := "java/util/ArrayList$Itr", name := "<init>", desc := "(Ljava/util/ArrayList;)V" }) ∈ lw_all := am_wa 866 rfl rfl
theorem w_867 : Cond.code ({ cls := "java/util/ArrayList$Itr", name := "<init>", desc := "(Ljava/util/ArrayList;)V" }) prog_64_method_1_code (2 : Nat) (Option.none : Option FieldType) ∈ lw_all := am_wa 867 rfl rfl
theorem w_868 : Cond.methodLink "java/util/ArrayList$Itr" (7 : Nat) ({ cls := "java/lang/Object", name := "<init>", desc := "()V" }) ∈ lw_all := am_wa 868 rfl rfl
theorem w_869 : Cond.fieldLink "java/util/ArrayList$Itr" (25 : Nat) "java/util/ArrayList$Itr" "cursor" "I" ∈ lw_all := am_wa 869 rfl rfl
theorem w_870 : Cond.fieldLink "java/util/ArrayList$Itr" (13 : Nat) "java/util/ArrayList$Itr" "lastRet" "I" ∈ lw_all := am_wa 870 rfl rfl
theorem w_871 : Cond.fieldLink "java/util/ArrayList$Itr" (22 : Nat) "java/util/ArrayList$Itr" "expectedModCount" "I" ∈ lw_all := am_wa 871 rfl rfl
theorem w_872 : Cond.fieldLink "java/util/ArrayList$Itr" (1 : Nat) "java/util/ArrayList$Itr" "this$0" "Ljava/util/ArrayList;" ∈ lw_all := am_wa 872 rfl rfl
theorem w_881 : Cond.superclass "java/util/ArrayList$Itr" "java/lang/Object" ∈ lw_all := am_wa 881 rfl rfl
theorem w_882 : Cond.selects "java/util/ImmutableCollections$List12" ({ cls := "java/util/AbstractCollection", name := "iterator", desc := "()Ljava/util/Iterator;" }) ({ cls := "java/util/ImmutableCollections$AbstractImmutableList", name := "iterator", desc := "()Ljava/util/Iterator;" }) ∈ lw_all := am_wa 882 rfl rfl
theorem w_883 : Cond.instanceMethod ({ cls := "java/util/ImmutableCollections$AbstractImmutableList", name := "iterator", desc := "()Ljava/util/Iterator;" }) ∈ lw_all := am_wa 883 rfl rfl
theorem w_884 : Cond.code ({ cls := "java/util/ImmutableCollections$AbstractImmutableList", name := "iterator", desc := "()Ljava/util/Iterator;" }) prog_72_method_10_code (1 : Nat) (Option.some (FieldType.object "java/util/Iterator")) ∈ lw_all := am_wa 884 rfl rfl
theorem w_885 : Cond.classLink "java/util/ImmutableCollections$AbstractImmutableList" (61 : Nat) "java/util/ImmutableCollections$ListItr" ∈ lw_all := am_wa 885 rfl rfl
theorem w_886 : Cond.instantiable "java/util/ImmutableCollections$ListItr" (4 : Nat) ∈ lw_all := am_wa 886 rfl rfl
theorem w_887 : Cond.methodLink "java/util/ImmutableCollections$AbstractImmutableList" (13 : Nat) ({ cls := "java/util/ImmutableCollections$AbstractImmutableList", name := "size", desc := "()I" }) ∈ lw_all := am_wa 887 rfl rfl
theorem w_888 : Cond.sameMethod "java/util/ImmutableCollections$AbstractImmutableList" "java/util/AbstractCollection" "size" "()I" ∈ lw_all := am_wa 888 rfl rfl
theorem w_889 : Cond.selects "java/util/ImmutableCollections$List12" ({ cls := "java/util/ImmutableCollections$AbstractImmutableList", name := "size", desc := "()I" }) ({ cls := "java/util/ImmutableCollections$List12", name := "size", desc := "()I" }) ∈ lw_all := am_wa 889 rfl rfl
theorem w_890 : Cond.selects "java/util/ImmutableCollections$ListN" ({ cls := "java/util/ImmutableCollections$AbstractImmutableList", name := "size", desc := "()I" }) ({ cls := "java/util/ImmutableCollections$ListN", name := "size", desc := "()I" }) ∈ lw_all := am_wa 890 rfl rfl
theorem w_891 : Cond.methodLink "java/util/ImmutableCollections$AbstractImmutableList" (63 : Nat) ({ cls := "java/util/ImmutableCollections$ListItr", name := "<init>", desc := "(Ljava/util/List;I)V" }) ∈ lw_all := am_wa 891 rfl rfl
theorem w_892 : Cond.instanceMethod ({ cls := "java/util/ImmutableCollections$ListItr", name := "<init>", desc := "(Ljava/util/List;I)V" }) ∈ lw_all := am_wa 892 rfl rfl
theorem w_893 : Cond.code ({ cls := "java/util/ImmutableCollections$ListItr", name := "<init>", desc := "(Ljava/util/List;I)V" }) prog_74_method_1_code (3 : Nat) (Option.none : Option FieldType) ∈ lw_all := am_wa 893 rfl rfl
theorem w_894 : Cond.methodLink "java/util/ImmutableCollections$ListItr" (1 : Nat) ({ cls := "java/lang/Object", name := "<init>", desc := "()V" }) ∈ lw_all := am_wa 894 rfl rfl
theorem w_895 : Cond.fieldLink "java/util/ImmutableCollections$ListItr" (7 : Nat) "java/util/ImmutableCollections$ListItr" "list" "Ljava/util/List;" ∈ lw_all := am_wa 895 rfl rfl
theorem w_896 : Cond.fieldLink "java/util/ImmutableCollections$ListItr" (13 : Nat) "java/util/ImmutableCollections$ListItr" "size" "I" ∈ lw_all := am_wa 896 rfl rfl
theorem w_897 : Cond.fieldLink "java/util/ImmutableCollections$ListItr" (20 : Nat) "java/util/ImmutableCollections$ListItr" "isListIterator" "Z" ∈ lw_all := am_wa 897 rfl rfl
theorem w_898 : Cond.fieldLink "java/util/ImmutableCollections$ListItr" (17 : Nat) "java/util/ImmutableCollections$ListItr" "cursor" "I" ∈ lw_all := am_wa 898 rfl rfl
theorem w_907 : Cond.superclass "java/util/ImmutableCollections$ListItr" "java/lang/Object" ∈ lw_all := am_wa 907 rfl rfl
theorem w_908 : Cond.selects "java/util/ImmutableCollections$ListN" ({ cls := "java/util/AbstractCollection", name := "iterator", desc := "()Ljava/util/Iterator;" }) ({ cls := "java/util/ImmutableCollections$AbstractImmutableList", name := "iterator", desc := "()Ljava/util/Iterator;" }) ∈ lw_all := am_wa 908 rfl rfl
theorem w_909 : Cond.selects "java/util/PriorityQueue" ({ cls := "java/util/AbstractCollection", name := "iterator", desc := "()Ljava/util/Iterator;" }) ({ cls := "java/util/PriorityQueue", name := "iterator", desc := "()Ljava/util/Iterator;" }) ∈ lw_all := am_wa 909 rfl rfl
theorem w_910 : Cond.instanceMethod ({ cls := "java/util/PriorityQueue", name := "iterator", desc := "()Ljava/util/Iterator;" }) ∈ lw_all := am_wa 910 rfl rfl
theorem w_911 : Cond.code ({ cls := "java/util/PriorityQueue", name := "iterator", desc := "()Ljava/util/Iterator;" }) prog_86_method_22_code (1 : Nat) (Option.some (FieldType.object "java/util/Iterator")) ∈ lw_all := am_wa 911 rfl rfl
theorem w_912 : Cond.classLink "java/util/PriorityQueue" (121 : Nat) "java/util/PriorityQueue$Itr" ∈ lw_all := am_wa 912 rfl rfl
theorem w_913 : Cond.instantiable "java/util/PriorityQueue$Itr" (6 : Nat) ∈ lw_all := am_wa 913 rfl rfl
theorem w_914 : Cond.methodLink "java/util/PriorityQueue" (123 : Nat) ({ cls := "java/util/PriorityQueue$Itr", name := "<init>", desc := "(Ljava/util/PriorityQueue;)V" }) ∈ lw_all := am_wa 914 rfl rfl
theorem w_915 : Cond.instanceMethod ({ cls := "java/util/PriorityQueue$Itr", name := "<init>", desc := "(Ljava/util/PriorityQueue;)V" }) ∈ lw_all := am_wa 915 rfl rfl
theorem w_916 : Cond.code ({ cls := "java/util/PriorityQueue$Itr", name := "<init>", desc := "(Ljava/util/PriorityQueue;)V" }) prog_87_method_1_code (2 : Nat) (Option.none : Option FieldType) ∈ lw_all := am_wa 916 rfl rfl
theorem w_917 : Cond.methodLink "java/util/PriorityQueue$Itr" (7 : Nat) ({ cls := "java/lang/Object", name := "<init>", desc := "()V" }) ∈ lw_all := am_wa 917 rfl rfl
theorem w_918 : Cond.fieldLink "java/util/PriorityQueue$Itr" (25 : Nat) "java/util/PriorityQueue$Itr" "cursor" "I" ∈ lw_all := am_wa 918 rfl rfl
theorem w_919 : Cond.fieldLink "java/util/PriorityQueue$Itr" (13 : Nat) "java/util/PriorityQueue$Itr" "lastRet" "I" ∈ lw_all := am_wa 919 rfl rfl
theorem w_920 : Cond.fieldLink "java/util/PriorityQueue$Itr" (31 : Nat) "java/util/PriorityQueue$Itr" "forgetMeNot" "Ljava/util/ArrayDeque;" ∈ lw_all := am_wa 920 rfl rfl
theorem w_921 : Cond.fieldLink "java/util/PriorityQueue$Itr" (52 : Nat) "java/util/PriorityQueue$Itr" "lastRetElt" "Ljava/lang/Object;" ∈ lw_all := am_wa 921 rfl rfl
theorem w_922 : Cond.fieldLink "java/util/PriorityQueue$Itr" (22 : Nat) "java/util/PriorityQueue$Itr" "expectedModCount" "I" ∈ lw_all := am_wa 922 rfl rfl
theorem w_923 : Cond.fieldLink "java/util/PriorityQueue$Itr" (1 : Nat) "java/util/PriorityQueue$Itr" "this$0" "Ljava/util/PriorityQueue;" ∈ lw_all := am_wa 923 rfl rfl
theorem w_936 : Cond.superclass "java/util/PriorityQueue$Itr" "java/lang/Object" ∈ lw_all := am_wa 936 rfl rfl
theorem w_937 : Cond.selects "java/util/TreeMap$KeySet" ({ cls := "java/util/AbstractCollection", name := "iterator", desc := "()Ljava/util/Iterator;" }) ({ cls := "java/util/TreeMap$KeySet", name := "iterator", desc := "()Ljava/util/Iterator;" }) ∈ lw_all := am_wa 937 rfl rfl
theorem w_938 : Cond.instanceMethod ({ cls := "java/util/TreeMap$KeySet", name := "iterator", desc := "()Ljava/util/Iterator;" }) ∈ lw_all := am_wa 938 rfl rfl
theorem w_939 : Cond.code ({ cls := "java/util/TreeMap$KeySet", name := "iterator", desc := "()Ljava/util/Iterator;" }) prog_99_method_2_code (1 : Nat) (Option.some (FieldType.object "java/util/Iterator")) ∈ lw_all := am_wa 939 rfl rfl
theorem w_940 : Cond.classLink "java/util/TreeMap$KeySet" (13 : Nat) "java/util/TreeMap" ∈ lw_all := am_wa 940 rfl rfl
theorem w_941 : Cond.methodLink "java/util/TreeMap$KeySet" (15 : Nat) ({ cls := "java/util/TreeMap", name := "keyIterator", desc := "()Ljava/util/Iterator;" }) ∈ lw_all := am_wa 941 rfl rfl
theorem w_942 : Cond.instanceMethod ({ cls := "java/util/TreeMap", name := "keyIterator", desc := "()Ljava/util/Iterator;" }) ∈ lw_all := am_wa 942 rfl rfl
theorem w_943 : Cond.selects "java/util/TreeMap" ({ cls := "java/util/TreeMap", name := "keyIterator", desc := "()Ljava/util/Iterator;" }) ({ cls := "java/util/TreeMap", name := "keyIterator", desc := "()Ljava/util/Iterator;" }) ∈ lw_all := am_wa 943 rfl rfl
theorem w_944 : Cond.code ({ cls := "java/util/TreeMap", name := "keyIterator", desc := "()Ljava/util/Iterator;" }) prog_96_method_65_code (1 : Nat) (Option.some (FieldType.object "java/util/Iterator")) ∈ lw_all := am_wa 944 rfl rfl
theorem w_945 : Cond.classLink "java/util/TreeMap" (269 : Nat) "java/util/TreeMap$KeyIterator" ∈ lw_all := am_wa 945 rfl rfl
theorem w_946 : Cond.instantiable "java/util/TreeMap$KeyIterator" (4 : Nat) ∈ lw_all := am_wa 946 rfl rfl
theorem w_947 : Cond.methodLink "java/util/TreeMap" (54 : Nat) ({ cls := "java/util/TreeMap", name := "getFirstEntry", desc := "()Ljava/util/TreeMap$Entry;" }) ∈ lw_all := am_wa 947 rfl rfl
theorem w_948 : Cond.instanceMethod ({ cls := "java/util/TreeMap", name := "getFirstEntry", desc := "()Ljava/util/TreeMap$Entry;" }) ∈ lw_all := am_wa 948 rfl rfl
theorem w_949 : Cond.selects "java/util/TreeMap" ({ cls := "java/util/TreeMap", name := "getFirstEntry", desc := "()Ljava/util/TreeMap$Entry;" }) ({ cls := "java/util/TreeMap", name := "getFirstEntry", desc := "()Ljava/util/TreeMap$Entry;" }) ∈ lw_all := am_wa 949 rfl rfl
theorem w_950 : Cond.code ({ cls := "java/util/TreeMap", name := "getFirstEntry", desc := "()Ljava/util/TreeMap$Entry;" }) prog_96_method_72_code (2 : Nat) (Option.some (FieldType.object "java/util/TreeMap$Entry")) ∈ lw_all := am_wa 950 rfl rfl
theorem w_951 : Cond.methodLink "java/util/TreeMap" (271 : Nat) ({ cls := "java/util/TreeMap$KeyIterator", name := "<init>", desc := "(Ljava/util/TreeMap;Ljava/util/TreeMap$Entry;)V" }) ∈ lw_all := am_wa 951 rfl rfl
theorem w_952 : Cond.instanceMethod ({ cls := "java/util/TreeMap$KeyIterator", name := "<init>", desc := "(Ljava/util/TreeMap;Ljava/util/TreeMap$Entry;)V" }) ∈ lw_all := am_wa 952 rfl rfl
theorem w_953 : Cond.code ({ cls := "java/util/TreeMap$KeyIterator", name := "<init>", desc := "(Ljava/util/TreeMap;Ljava/util/TreeMap$Entry;)V" }) prog_98_method_1_code (3 : Nat) (Option.none : Option FieldType) ∈ lw_all := am_wa 953 rfl rfl
theorem w_954 : Cond.methodLink "java/util/TreeMap$KeyIterator" (1 : Nat) ({ cls := "java/util/TreeMap$PrivateEntryIterator", name := "<init>", desc := "(Ljava/util/TreeMap;Ljava/util/TreeMap$Entry;)V" }) ∈ lw_all := am_wa 954 rfl rfl
theorem w_955 : Cond.instanceMethod ({ cls := "java/util/TreeMap$PrivateEntryIterator", name := "<init>", desc := "(Ljava/util/TreeMap;Ljava/util/TreeMap$Entry;)V" }) ∈ lw_all := am_wa 955 rfl rfl
theorem w_956 : Cond.code ({ cls := "java/util/TreeMap$PrivateEntryIterator", name := "<init>", desc := "(Ljava/util/TreeMap;Ljava/util/TreeMap$Entry;)V" }) prog_101_method_1_code (3 : Nat) (Option.none : Option FieldType) ∈ lw_all := am_wa 956 rfl rfl
theorem w_957 : Cond.methodLink "java/util/TreeMap$PrivateEntryIterator" (7 : Nat) ({ cls := "java/lang/Object", name := "<init>", desc := "()V" }) ∈ lw_all := am_wa 957 rfl rfl
theorem w_958 : Cond.fieldLink "java/util/TreeMap$PrivateEntryIterator" (26 : Nat) "java/util/TreeMap$PrivateEntryIterator" "next" "Ljava/util/TreeMap$Entry;" ∈ lw_all := am_wa 958 rfl rfl
theorem w_959 : Cond.fieldLink "java/util/TreeMap$PrivateEntryIterator" (22 : Nat) "java/util/TreeMap$PrivateEntryIterator" "lastReturned" "Ljava/util/TreeMap$Entry;" ∈ lw_all := am_wa 959 rfl rfl
theorem w_960 : Cond.fieldLink "java/util/TreeMap$PrivateEntryIterator" (19 : Nat) "java/util/TreeMap$PrivateEntryIterator" "expectedModCount" "I" ∈ lw_all := am_wa 960 rfl rfl
theorem w_961 : Cond.fieldLink "java/util/TreeMap$PrivateEntryIterator" (1 : Nat) "java/util/TreeMap$PrivateEntryIterator" "this$0" "Ljava/util/TreeMap;" ∈ lw_all := am_wa 961 rfl rfl
theorem w_970 : Cond.superclass "java/util/TreeMap$KeyIterator" "java/util/TreeMap$PrivateEntryIterator" ∈ lw_all := am_wa 970 rfl rfl
theorem w_971 : Cond.classLink "java/util/TreeMap$KeySet" (19 : Nat) "java/util/TreeMap$NavigableSubMap" ∈ lw_all := am_wa 971 rfl rfl
theorem w_972 : Cond.methodLink "java/util/TreeMap$KeySet" (21 : Nat) ({ cls := "java/util/TreeMap$NavigableSubMap", name := "keyIterator", desc := "()Ljava/util/Iterator;" }) ∈ lw_all := am_wa 972 rfl rfl
theorem v_973 : Cond.declares ({ cls := "java/util/TreeMap$NavigableSubMap", name := "keyIterator", desc := "()Ljava/util/Iterator;" }) ∈ lw_tbl := am_wv 973 rfl
theorem w_974 : Cond.selects "java/util/TreeMap$NavigableSubMap" ({ cls := "java/util/TreeMap$NavigableSubMap", name := "keyIterator", desc := "()Ljava/util/Iterator;" }) ({ cls := "java/util/TreeMap$NavigableSubMap", name := "keyIterator", desc := "()Ljava/util/Iterator;" }) ∈ lw_all := am_wa 974 rfl rfl
theorem w_976 : Cond.methodLink "java/util/AbstractCollection" (17 : Nat) ({ cls := "java/util/Iterator", name := "hasNext", desc := "()Z" }) ∈ lw_all := am_wa 976 rfl rfl
theorem v_977 : Cond.interfaceMethod "java/util/Iterator" "java/util/Iterator" "hasNext" "()Z" ∈ lw_tbl := am_wv 977 rfl
theorem v_978 : Cond.declares ({ cls := "java/util/Iterator", name := "hasNext", desc := "()Z" }) ∈ lw_tbl := am_wv 978 rfl
theorem v_979 : Cond.castable "UmbrellaBank$LoanSet$1" "java/util/Iterator" ∈ lw_tbl := am_wv 979 rfl
theorem w_980 : Cond.selects "UmbrellaBank$LoanSet$1" ({ cls := "java/util/Iterator", name := "hasNext", desc := "()Z" }) ({ cls := "UmbrellaBank$LoanSet$1", name := "hasNext", desc := "()Z" }) ∈ lw_all := am_wa 980 rfl rfl
theorem v_981 : Cond.unhidden "UmbrellaBank$LoanSet$1" "hasNext" "()Z" ∈ lw_tbl := am_wv 981 rfl
theorem w_982 : Cond.instanceMethod ({ cls := "UmbrellaBank$LoanSet$1", name := "hasNext", desc := "()Z" }) ∈ lw_all := am_wa 982 rfl rfl
theorem v_983 : Cond.publicMethod ({ cls := "UmbrellaBank$LoanSet$1", name := "hasNext", desc := "()Z" }) ∈ lw_tbl := am_wv 983 rfl
theorem w_984 : Cond.code ({ cls := "UmbrellaBank$LoanSet$1", name := "hasNext", desc := "()Z" }) prog_12_method_2_code (1 : Nat) (Option.some FieldType.boolean) ∈ lw_all := am_wa 984 rfl rfl
theorem v_985 : Cond.castable "java/util/ArrayDeque$DeqIterator" "java/util/Iterator" ∈ lw_tbl := am_wv 985 rfl
theorem w_986 : Cond.selects "java/util/ArrayDeque$DeqIterator" ({ cls := "java/util/Iterator", name := "hasNext", desc := "()Z" }) ({ cls := "java/util/ArrayDeque$DeqIterator", name := "hasNext", desc := "()Z" }) ∈ lw_all := am_wa 986 rfl rfl
theorem v_987 : Cond.unhidden "java/util/ArrayDeque$DeqIterator" "hasNext" "()Z" ∈ lw_tbl := am_wv 987 rfl
theorem w_988 : Cond.instanceMethod ({ cls := "java/util/ArrayDeque$DeqIterator", name := "hasNext", desc := "()Z" }) ∈ lw_all := am_wa 988 rfl rfl
theorem v_989 : Cond.publicMethod ({ cls := "java/util/ArrayDeque$DeqIterator", name := "hasNext", desc := "()Z" }) ∈ lw_tbl := am_wv 989 rfl
theorem w_990 : Cond.code ({ cls := "java/util/ArrayDeque$DeqIterator", name := "hasNext", desc := "()Z" }) prog_62_method_2_code (1 : Nat) (Option.some FieldType.boolean) ∈ lw_all := am_wa 990 rfl rfl
theorem v_991 : Cond.castable "java/util/ArrayList$Itr" "java/util/Iterator" ∈ lw_tbl := am_wv 991 rfl
theorem w_992 : Cond.selects "java/util/ArrayList$Itr" ({ cls := "java/util/Iterator", name := "hasNext", desc := "()Z" }) ({ cls := "java/util/ArrayList$Itr", name := "hasNext", desc := "()Z" }) ∈ lw_all := am_wa 992 rfl rfl
theorem v_993 : Cond.unhidden "java/util/ArrayList$Itr" "hasNext" "()Z" ∈ lw_tbl := am_wv 993 rfl
theorem w_994 : Cond.instanceMethod ({ cls := "java/util/ArrayList$Itr", name := "hasNext", desc := "()Z" }) ∈ lw_all := am_wa 994 rfl rfl
theorem v_995 : Cond.publicMethod ({ cls := "java/util/ArrayList$Itr", name := "hasNext", desc := "()Z" }) ∈ lw_tbl := am_wv 995 rfl
theorem w_996 : Cond.code ({ cls := "java/util/ArrayList$Itr", name := "hasNext", desc := "()Z" }) prog_64_method_2_code (1 : Nat) (Option.some FieldType.boolean) ∈ lw_all := am_wa 996 rfl rfl
theorem v_997 : Cond.castable "java/util/ImmutableCollections$ListItr" "java/util/Iterator" ∈ lw_tbl := am_wv 997 rfl
theorem w_998 : Cond.selects "java/util/ImmutableCollections$ListItr" ({ cls := "java/util/Iterator", name := "hasNext", desc := "()Z" }) ({ cls := "java/util/ImmutableCollections$ListItr", name := "hasNext", desc := "()Z" }) ∈ lw_all := am_wa 998 rfl rfl
theorem v_999 : Cond.unhidden "java/util/ImmutableCollections$ListItr" "hasNext" "()Z" ∈ lw_tbl := am_wv 999 rfl
theorem w_1000 : Cond.instanceMethod ({ cls := "java/util/ImmutableCollections$ListItr", name := "hasNext", desc := "()Z" }) ∈ lw_all := am_wa 1000 rfl rfl
theorem v_1001 : Cond.publicMethod ({ cls := "java/util/ImmutableCollections$ListItr", name := "hasNext", desc := "()Z" }) ∈ lw_tbl := am_wv 1001 rfl
theorem w_1002 : Cond.code ({ cls := "java/util/ImmutableCollections$ListItr", name := "hasNext", desc := "()Z" }) prog_74_method_3_code (1 : Nat) (Option.some FieldType.boolean) ∈ lw_all := am_wa 1002 rfl rfl
theorem v_1003 : Cond.castable "java/util/PriorityQueue$Itr" "java/util/Iterator" ∈ lw_tbl := am_wv 1003 rfl
theorem w_1004 : Cond.selects "java/util/PriorityQueue$Itr" ({ cls := "java/util/Iterator", name := "hasNext", desc := "()Z" }) ({ cls := "java/util/PriorityQueue$Itr", name := "hasNext", desc := "()Z" }) ∈ lw_all := am_wa 1004 rfl rfl
theorem v_1005 : Cond.unhidden "java/util/PriorityQueue$Itr" "hasNext" "()Z" ∈ lw_tbl := am_wv 1005 rfl
theorem w_1006 : Cond.instanceMethod ({ cls := "java/util/PriorityQueue$Itr", name := "hasNext", desc := "()Z" }) ∈ lw_all := am_wa 1006 rfl rfl
theorem v_1007 : Cond.publicMethod ({ cls := "java/util/PriorityQueue$Itr", name := "hasNext", desc := "()Z" }) ∈ lw_tbl := am_wv 1007 rfl
theorem w_1008 : Cond.code ({ cls := "java/util/PriorityQueue$Itr", name := "hasNext", desc := "()Z" }) prog_87_method_2_code (1 : Nat) (Option.some FieldType.boolean) ∈ lw_all := am_wa 1008 rfl rfl
theorem w_1009 : Cond.methodLink "java/util/PriorityQueue$Itr" (35 : Nat) ({ cls := "java/util/ArrayDeque", name := "isEmpty", desc := "()Z" }) ∈ lw_all := am_wa 1009 rfl rfl
theorem w_1010 : Cond.instanceMethod ({ cls := "java/util/ArrayDeque", name := "isEmpty", desc := "()Z" }) ∈ lw_all := am_wa 1010 rfl rfl
theorem w_1011 : Cond.selects "java/util/ArrayDeque" ({ cls := "java/util/ArrayDeque", name := "isEmpty", desc := "()Z" }) ({ cls := "java/util/ArrayDeque", name := "isEmpty", desc := "()Z" }) ∈ lw_all := am_wa 1011 rfl rfl
theorem w_1012 : Cond.code ({ cls := "java/util/ArrayDeque", name := "isEmpty", desc := "()Z" }) prog_61_method_38_code (1 : Nat) (Option.some FieldType.boolean) ∈ lw_all := am_wa 1012 rfl rfl
theorem v_1013 : Cond.castable "java/util/TreeMap$KeyIterator" "java/util/Iterator" ∈ lw_tbl := am_wv 1013 rfl
theorem w_1014 : Cond.selects "java/util/TreeMap$KeyIterator" ({ cls := "java/util/Iterator", name := "hasNext", desc := "()Z" }) ({ cls := "java/util/TreeMap$PrivateEntryIterator", name := "hasNext", desc := "()Z" }) ∈ lw_all := am_wa 1014 rfl rfl
theorem v_1015 : Cond.unhidden "java/util/TreeMap$KeyIterator" "hasNext" "()Z" ∈ lw_tbl := am_wv 1015 rfl
theorem w_1016 : Cond.instanceMethod ({ cls := "java/util/TreeMap$PrivateEntryIterator", name := "hasNext", desc := "()Z" }) ∈ lw_all := am_wa 1016 rfl rfl
theorem v_1017 : Cond.publicMethod ({ cls := "java/util/TreeMap$PrivateEntryIterator", name := "hasNext", desc := "()Z" }) ∈ lw_tbl := am_wv 1017 rfl
theorem w_1018 : Cond.code ({ cls := "java/util/TreeMap$PrivateEntryIterator", name := "hasNext", desc := "()Z" }) prog_101_method_2_code (1 : Nat) (Option.some FieldType.boolean) ∈ lw_all := am_wa 1018 rfl rfl
theorem w_1019 : Cond.methodLink "java/util/AbstractCollection" (31 : Nat) ({ cls := "java/util/Arrays", name := "copyOf", desc := "([Ljava/lang/Object;I)[Ljava/lang/Object;" }) ∈ lw_all := am_wa 1019 rfl rfl
theorem w_1021 : Cond.methodLink "java/util/AbstractCollection" (23 : Nat) ({ cls := "java/util/Iterator", name := "next", desc := "()Ljava/lang/Object;" }) ∈ lw_all := am_wa 1021 rfl rfl
theorem v_1022 : Cond.interfaceMethod "java/util/Iterator" "java/util/Iterator" "next" "()Ljava/lang/Object;" ∈ lw_tbl := am_wv 1022 rfl
theorem v_1023 : Cond.declares ({ cls := "java/util/Iterator", name := "next", desc := "()Ljava/lang/Object;" }) ∈ lw_tbl := am_wv 1023 rfl
theorem w_1024 : Cond.selects "UmbrellaBank$LoanSet$1" ({ cls := "java/util/Iterator", name := "next", desc := "()Ljava/lang/Object;" }) ({ cls := "UmbrellaBank$LoanSet$1", name := "next", desc := "()Ljava/lang/Object;" }) ∈ lw_all := am_wa 1024 rfl rfl
theorem v_1025 : Cond.unhidden "UmbrellaBank$LoanSet$1" "next" "()Ljava/lang/Object;" ∈ lw_tbl := am_wv 1025 rfl
theorem w_1026 : Cond.instanceMethod ({ cls := "UmbrellaBank$LoanSet$1", name := "next", desc := "()Ljava/lang/Object;" }) ∈ lw_all := am_wa 1026 rfl rfl
theorem v_1027 : Cond.publicMethod ({ cls := "UmbrellaBank$LoanSet$1", name := "next", desc := "()Ljava/lang/Object;" }) ∈ lw_tbl := am_wv 1027 rfl
theorem w_1028 : Cond.code ({ cls := "UmbrellaBank$LoanSet$1", name := "next", desc := "()Ljava/lang/Object;" }) prog_12_method_4_code (1 : Nat) (Option.some (FieldType.object "java/lang/Object")) ∈ lw_all := am_wa 1028 rfl rfl
theorem w_1029 : Cond.methodLink "UmbrellaBank$LoanSet$1" (52 : Nat) ({ cls := "UmbrellaBank$LoanSet$1", name := "next", desc := "()LUmbrellaBank$Loan;" }) ∈ lw_all := am_wa 1029 rfl rfl
theorem w_1030 : Cond.instanceMethod ({ cls := "UmbrellaBank$LoanSet$1", name := "next", desc := "()LUmbrellaBank$Loan;" }) ∈ lw_all := am_wa 1030 rfl rfl
theorem w_1031 : Cond.selects "UmbrellaBank$LoanSet$1" ({ cls := "UmbrellaBank$LoanSet$1", name := "next", desc := "()LUmbrellaBank$Loan;" }) ({ cls := "UmbrellaBank$LoanSet$1", name := "next", desc := "()LUmbrellaBank$Loan;" }) ∈ lw_all := am_wa 1031 rfl rfl
theorem w_1032 : Cond.code ({ cls := "UmbrellaBank$LoanSet$1", name := "next", desc := "()LUmbrellaBank$Loan;" }) prog_12_method_3_code (2 : Nat) (Option.some (FieldType.object "UmbrellaBank$Loan")) ∈ lw_all := am_wa 1032 rfl rfl
theorem v_1033 : Cond.methodLinkNest "UmbrellaBank$LoanSet$1" (22 : Nat) ({ cls := "UmbrellaBank", name := "checkElement", desc := "(Z)V" }) "UmbrellaBank" ∈ lw_tbl := am_wv 1033 rfl
theorem w_1034 : Cond.static ({ cls := "UmbrellaBank", name := "checkElement", desc := "(Z)V" }) ∈ lw_all := am_wa 1034 rfl rfl
theorem w_1035 : Cond.code ({ cls := "UmbrellaBank", name := "checkElement", desc := "(Z)V" }) prog_1_method_7_code (1 : Nat) (Option.none : Option FieldType) ∈ lw_all := am_wa 1035 rfl rfl
theorem w_1036 : Cond.classLink "UmbrellaBank" (16 : Nat) "java/util/NoSuchElementException" ∈ lw_all := am_wa 1036 rfl rfl
theorem w_1037 : Cond.instantiable "java/util/NoSuchElementException" (6 : Nat) ∈ lw_all := am_wa 1037 rfl rfl
theorem v_1038 : Cond.castable "java/util/NoSuchElementException" "java/util/NoSuchElementException" ∈ lw_tbl := am_wv 1038 rfl
theorem w_1039 : Cond.selects "java/util/NoSuchElementException" ({ cls := "java/lang/Throwable", name := "fillInStackTrace", desc := "(I)Ljava/lang/Throwable;" }) ({ cls := "java/lang/Throwable", name := "fillInStackTrace", desc := "(I)Ljava/lang/Throwable;" }) ∈ lw_all := am_wa 1039 rfl rfl
theorem w_1045 : Cond.methodLink "UmbrellaBank" (18 : Nat) ({ cls := "java/util/NoSuchElementException", name := "<init>", desc := "()V" }) ∈ lw_all := am_wa 1045 rfl rfl
theorem w_1046 : Cond.instanceMethod ({ cls := "java/util/NoSuchElementException", name := "<init>", desc := "()V" }) ∈ lw_all := am_wa 1046 rfl rfl
theorem w_1047 : Cond.code ({ cls := "java/util/NoSuchElementException", name := "<init>", desc := "()V" }) prog_83_method_1_code (1 : Nat) (Option.none : Option FieldType) ∈ lw_all := am_wa 1047 rfl rfl
theorem w_1048 : Cond.methodLink "java/util/NoSuchElementException" (1 : Nat) ({ cls := "java/lang/RuntimeException", name := "<init>", desc := "()V" }) ∈ lw_all := am_wa 1048 rfl rfl
theorem w_1049 : Cond.instanceMethod ({ cls := "java/lang/RuntimeException", name := "<init>", desc := "()V" }) ∈ lw_all := am_wa 1049 rfl rfl
theorem w_1050 : Cond.code ({ cls := "java/lang/RuntimeException", name := "<init>", desc := "()V" }) prog_45_method_1_code (1 : Nat) (Option.none : Option FieldType) ∈ lw_all := am_wa 1050 rfl rfl
theorem w_1051 : Cond.methodLink "java/lang/RuntimeException" (1 : Nat) ({ cls := "java/lang/Exception", name := "<init>", desc := "()V" }) ∈ lw_all := am_wa 1051 rfl rfl
theorem w_1052 : Cond.instanceMethod ({ cls := "java/lang/Exception", name := "<init>", desc := "()V" }) ∈ lw_all := am_wa 1052 rfl rfl
theorem w_1053 : Cond.code ({ cls := "java/lang/Exception", name := "<init>", desc := "()V" }) prog_34_method_1_code (1 : Nat) (Option.none : Option FieldType) ∈ lw_all := am_wa 1053 rfl rfl
theorem w_1054 : Cond.methodLink "java/lang/Exception" (1 : Nat) ({ cls := "java/lang/Throwable", name := "<init>", desc := "()V" }) ∈ lw_all := am_wa 1054 rfl rfl
theorem w_1056 : Cond.superclass "java/util/NoSuchElementException" "java/lang/RuntimeException" ∈ lw_all := am_wa 1056 rfl rfl
theorem w_1057 : Cond.methodLink "UmbrellaBank$LoanSet$1" (28 : Nat) ({ cls := "java/lang/Integer", name := "numberOfTrailingZeros", desc := "(I)I" }) ∈ lw_all := am_wa 1057 rfl rfl
theorem w_1058 : Cond.static ({ cls := "java/lang/Integer", name := "numberOfTrailingZeros", desc := "(I)I" }) ∈ lw_all := am_wa 1058 rfl rfl
theorem w_1059 : Cond.code ({ cls := "java/lang/Integer", name := "numberOfTrailingZeros", desc := "(I)I" }) prog_38_method_48_code (2 : Nat) (Option.some FieldType.int) ∈ lw_all := am_wa 1059 rfl rfl
theorem w_1060 : Cond.constant "java/lang/Integer" (264 : Nat) (65536 : Int32) ∈ lw_all := am_wa 1060 rfl rfl
theorem w_1061 : Cond.methodLink "UmbrellaBank$LoanSet$1" (44 : Nat) ({ cls := "java/util/ArrayList", name := "get", desc := "(I)Ljava/lang/Object;" }) ∈ lw_all := am_wa 1061 rfl rfl
theorem w_1062 : Cond.instanceMethod ({ cls := "java/util/ArrayList", name := "get", desc := "(I)Ljava/lang/Object;" }) ∈ lw_all := am_wa 1062 rfl rfl
theorem w_1063 : Cond.selects "java/util/ArrayList" ({ cls := "java/util/ArrayList", name := "get", desc := "(I)Ljava/lang/Object;" }) ({ cls := "java/util/ArrayList", name := "get", desc := "(I)Ljava/lang/Object;" }) ∈ lw_all := am_wa 1063 rfl rfl
theorem w_1064 : Cond.code ({ cls := "java/util/ArrayList", name := "get", desc := "(I)Ljava/lang/Object;" }) prog_63_method_20_code (2 : Nat) (Option.some (FieldType.object "java/lang/Object")) ∈ lw_all := am_wa 1064 rfl rfl
theorem w_1065 : Cond.methodLink "java/util/ArrayList" (118 : Nat) ({ cls := "java/util/Objects", name := "checkIndex", desc := "(II)I" }) ∈ lw_all := am_wa 1065 rfl rfl
theorem w_1066 : Cond.static ({ cls := "java/util/Objects", name := "checkIndex", desc := "(II)I" }) ∈ lw_all := am_wa 1066 rfl rfl
theorem w_1067 : Cond.code ({ cls := "java/util/Objects", name := "checkIndex", desc := "(II)I" }) prog_84_method_17_code (2 : Nat) (Option.some FieldType.int) ∈ lw_all := am_wa 1067 rfl rfl
theorem w_1068 : Cond.methodLink "java/util/Objects" (105 : Nat) ({ cls := "jdk/internal/util/Preconditions", name := "checkIndex", desc := "(IILjava/util/function/BiFunction;)I" }) ∈ lw_all := am_wa 1068 rfl rfl
theorem w_1069 : Cond.static ({ cls := "jdk/internal/util/Preconditions", name := "checkIndex", desc := "(IILjava/util/function/BiFunction;)I" }) ∈ lw_all := am_wa 1069 rfl rfl
theorem w_1070 : Cond.code ({ cls := "jdk/internal/util/Preconditions", name := "checkIndex", desc := "(IILjava/util/function/BiFunction;)I" }) prog_106_method_11_code (3 : Nat) (Option.some FieldType.int) ∈ lw_all := am_wa 1070 rfl rfl
theorem w_1071 : Cond.methodLink "java/util/ArrayList" (123 : Nat) ({ cls := "java/util/ArrayList", name := "elementData", desc := "(I)Ljava/lang/Object;" }) ∈ lw_all := am_wa 1071 rfl rfl
theorem w_1072 : Cond.instanceMethod ({ cls := "java/util/ArrayList", name := "elementData", desc := "(I)Ljava/lang/Object;" }) ∈ lw_all := am_wa 1072 rfl rfl
theorem w_1073 : Cond.selects "java/util/ArrayList" ({ cls := "java/util/ArrayList", name := "elementData", desc := "(I)Ljava/lang/Object;" }) ({ cls := "java/util/ArrayList", name := "elementData", desc := "(I)Ljava/lang/Object;" }) ∈ lw_all := am_wa 1073 rfl rfl
theorem w_1074 : Cond.code ({ cls := "java/util/ArrayList", name := "elementData", desc := "(I)Ljava/lang/Object;" }) prog_63_method_18_code (2 : Nat) (Option.some (FieldType.object "java/lang/Object")) ∈ lw_all := am_wa 1074 rfl rfl
theorem w_1075 : Cond.classLink "UmbrellaBank$LoanSet$1" (50 : Nat) "UmbrellaBank$Loan" ∈ lw_all := am_wa 1075 rfl rfl
theorem w_1076 : Cond.selects "java/util/ArrayDeque$DeqIterator" ({ cls := "java/util/Iterator", name := "next", desc := "()Ljava/lang/Object;" }) ({ cls := "java/util/ArrayDeque$DeqIterator", name := "next", desc := "()Ljava/lang/Object;" }) ∈ lw_all := am_wa 1076 rfl rfl
theorem v_1077 : Cond.unhidden "java/util/ArrayDeque$DeqIterator" "next" "()Ljava/lang/Object;" ∈ lw_tbl := am_wv 1077 rfl
theorem w_1078 : Cond.instanceMethod ({ cls := "java/util/ArrayDeque$DeqIterator", name := "next", desc := "()Ljava/lang/Object;" }) ∈ lw_all := am_wa 1078 rfl rfl
theorem v_1079 : Cond.publicMethod ({ cls := "java/util/ArrayDeque$DeqIterator", name := "next", desc := "()Ljava/lang/Object;" }) ∈ lw_tbl := am_wv 1079 rfl
theorem w_1080 : Cond.code ({ cls := "java/util/ArrayDeque$DeqIterator", name := "next", desc := "()Ljava/lang/Object;" }) prog_62_method_3_code (3 : Nat) (Option.some (FieldType.object "java/lang/Object")) ∈ lw_all := am_wa 1080 rfl rfl
theorem w_1081 : Cond.classLink "java/util/ArrayDeque$DeqIterator" (32 : Nat) "java/util/NoSuchElementException" ∈ lw_all := am_wa 1081 rfl rfl
theorem w_1082 : Cond.methodLink "java/util/ArrayDeque$DeqIterator" (34 : Nat) ({ cls := "java/util/NoSuchElementException", name := "<init>", desc := "()V" }) ∈ lw_all := am_wa 1082 rfl rfl
theorem w_1083 : Cond.methodLink "java/util/ArrayDeque$DeqIterator" (39 : Nat) ({ cls := "java/util/ArrayDeque", name := "nonNullElementAt", desc := "([Ljava/lang/Object;I)Ljava/lang/Object;" }) ∈ lw_all := am_wa 1083 rfl rfl
theorem w_1084 : Cond.static ({ cls := "java/util/ArrayDeque", name := "nonNullElementAt", desc := "([Ljava/lang/Object;I)Ljava/lang/Object;" }) ∈ lw_all := am_wa 1084 rfl rfl
theorem w_1085 : Cond.code ({ cls := "java/util/ArrayDeque", name := "nonNullElementAt", desc := "([Ljava/lang/Object;I)Ljava/lang/Object;" }) prog_61_method_11_code (3 : Nat) (Option.some (FieldType.object "java/lang/Object")) ∈ lw_all := am_wa 1085 rfl rfl
theorem w_1086 : Cond.methodLink "java/util/ArrayDeque$DeqIterator" (43 : Nat) ({ cls := "java/util/ArrayDeque", name := "inc", desc := "(II)I" }) ∈ lw_all := am_wa 1086 rfl rfl
theorem w_1087 : Cond.static ({ cls := "java/util/ArrayDeque", name := "inc", desc := "(II)I" }) ∈ lw_all := am_wa 1087 rfl rfl
theorem w_1088 : Cond.code ({ cls := "java/util/ArrayDeque", name := "inc", desc := "(II)I" }) prog_61_method_6_code (2 : Nat) (Option.some FieldType.int) ∈ lw_all := am_wa 1088 rfl rfl
theorem w_1089 : Cond.selects "java/util/ArrayList$Itr" ({ cls := "java/util/Iterator", name := "next", desc := "()Ljava/lang/Object;" }) ({ cls := "java/util/ArrayList$Itr", name := "next", desc := "()Ljava/lang/Object;" }) ∈ lw_all := am_wa 1089 rfl rfl
theorem v_1090 : Cond.unhidden "java/util/ArrayList$Itr" "next" "()Ljava/lang/Object;" ∈ lw_tbl := am_wv 1090 rfl
theorem w_1091 : Cond.instanceMethod ({ cls := "java/util/ArrayList$Itr", name := "next", desc := "()Ljava/lang/Object;" }) ∈ lw_all := am_wa 1091 rfl rfl
theorem v_1092 : Cond.publicMethod ({ cls := "java/util/ArrayList$Itr", name := "next", desc := "()Ljava/lang/Object;" }) ∈ lw_tbl := am_wv 1092 rfl
theorem w_1093 : Cond.code ({ cls := "java/util/ArrayList$Itr", name := "next", desc := "()Ljava/lang/Object;" }) prog_64_method_3_code (3 : Nat) (Option.some (FieldType.object "java/lang/Object")) ∈ lw_all := am_wa 1093 rfl rfl
theorem w_1094 : Cond.methodLink "java/util/ArrayList$Itr" (31 : Nat) ({ cls := "java/util/ArrayList$Itr", name := "checkForComodification", desc := "()V" }) ∈ lw_all := am_wa 1094 rfl rfl
theorem w_1095 : Cond.instanceMethod ({ cls := "java/util/ArrayList$Itr", name := "checkForComodification", desc := "()V" }) ∈ lw_all := am_wa 1095 rfl rfl
theorem w_1096 : Cond.selects "java/util/ArrayList$Itr" ({ cls := "java/util/ArrayList$Itr", name := "checkForComodification", desc := "()V" }) ({ cls := "java/util/ArrayList$Itr", name := "checkForComodification", desc := "()V" }) ∈ lw_all := am_wa 1096 rfl rfl
theorem w_1097 : Cond.code ({ cls := "java/util/ArrayList$Itr", name := "checkForComodification", desc := "()V" }) prog_64_method_6_code (1 : Nat) (Option.none : Option FieldType) ∈ lw_all := am_wa 1097 rfl rfl
theorem w_1098 : Cond.classLink "java/util/ArrayList$Itr" (34 : Nat) "java/util/NoSuchElementException" ∈ lw_all := am_wa 1098 rfl rfl
theorem w_1099 : Cond.methodLink "java/util/ArrayList$Itr" (36 : Nat) ({ cls := "java/util/NoSuchElementException", name := "<init>", desc := "()V" }) ∈ lw_all := am_wa 1099 rfl rfl
theorem w_1100 : Cond.selects "java/util/ImmutableCollections$ListItr" ({ cls := "java/util/Iterator", name := "next", desc := "()Ljava/lang/Object;" }) ({ cls := "java/util/ImmutableCollections$ListItr", name := "next", desc := "()Ljava/lang/Object;" }) ∈ lw_all := am_wa 1100 rfl rfl
theorem v_1101 : Cond.unhidden "java/util/ImmutableCollections$ListItr" "next" "()Ljava/lang/Object;" ∈ lw_tbl := am_wv 1101 rfl
theorem w_1102 : Cond.instanceMethod ({ cls := "java/util/ImmutableCollections$ListItr", name := "next", desc := "()Ljava/lang/Object;" }) ∈ lw_all := am_wa 1102 rfl rfl
theorem v_1103 : Cond.publicMethod ({ cls := "java/util/ImmutableCollections$ListItr", name := "next", desc := "()Ljava/lang/Object;" }) ∈ lw_tbl := am_wv 1103 rfl
theorem w_1104 : Cond.codeWith ({ cls := "java/util/ImmutableCollections$ListItr", name := "next", desc := "()Ljava/lang/Object;" }) prog_74_method_4_code (3 : Nat) (Option.some (FieldType.object "java/lang/Object")) [((0 : Nat), (24 : Nat), (25 : Nat), (30 : Nat))] ∈ lw_all := am_wa 1104 rfl rfl
theorem w_1106 : Cond.methodLink "java/util/ImmutableCollections$ListItr" (24 : Nat) ({ cls := "java/util/List", name := "get", desc := "(I)Ljava/lang/Object;" }) ∈ lw_all := am_wa 1106 rfl rfl
theorem v_1107 : Cond.interfaceMethod "java/util/List" "java/util/List" "get" "(I)Ljava/lang/Object;" ∈ lw_tbl := am_wv 1107 rfl
theorem v_1108 : Cond.declares ({ cls := "java/util/List", name := "get", desc := "(I)Ljava/lang/Object;" }) ∈ lw_tbl := am_wv 1108 rfl
theorem v_1109 : Cond.castable "java/util/ArrayList" "java/util/List" ∈ lw_tbl := am_wv 1109 rfl
theorem w_1110 : Cond.selects "java/util/ArrayList" ({ cls := "java/util/List", name := "get", desc := "(I)Ljava/lang/Object;" }) ({ cls := "java/util/ArrayList", name := "get", desc := "(I)Ljava/lang/Object;" }) ∈ lw_all := am_wa 1110 rfl rfl
theorem v_1111 : Cond.unhidden "java/util/ArrayList" "get" "(I)Ljava/lang/Object;" ∈ lw_tbl := am_wv 1111 rfl
theorem v_1112 : Cond.publicMethod ({ cls := "java/util/ArrayList", name := "get", desc := "(I)Ljava/lang/Object;" }) ∈ lw_tbl := am_wv 1112 rfl
theorem v_1113 : Cond.castable "java/util/ImmutableCollections$List12" "java/util/List" ∈ lw_tbl := am_wv 1113 rfl
theorem w_1114 : Cond.selects "java/util/ImmutableCollections$List12" ({ cls := "java/util/List", name := "get", desc := "(I)Ljava/lang/Object;" }) ({ cls := "java/util/ImmutableCollections$List12", name := "get", desc := "(I)Ljava/lang/Object;" }) ∈ lw_all := am_wa 1114 rfl rfl
theorem v_1115 : Cond.unhidden "java/util/ImmutableCollections$List12" "get" "(I)Ljava/lang/Object;" ∈ lw_tbl := am_wv 1115 rfl
theorem w_1116 : Cond.instanceMethod ({ cls := "java/util/ImmutableCollections$List12", name := "get", desc := "(I)Ljava/lang/Object;" }) ∈ lw_all := am_wa 1116 rfl rfl
theorem v_1117 : Cond.publicMethod ({ cls := "java/util/ImmutableCollections$List12", name := "get", desc := "(I)Ljava/lang/Object;" }) ∈ lw_tbl := am_wv 1117 rfl
theorem w_1118 : Cond.code ({ cls := "java/util/ImmutableCollections$List12", name := "get", desc := "(I)Ljava/lang/Object;" }) prog_73_method_5_code (2 : Nat) (Option.some (FieldType.object "java/lang/Object")) ∈ lw_all := am_wa 1118 rfl rfl
theorem w_1119 : Cond.methodLink "java/util/ImmutableCollections$List12" (27 : Nat) ({ cls := "java/util/ImmutableCollections$List12", name := "outOfBounds", desc := "(I)Ljava/lang/IndexOutOfBoundsException;" }) ∈ lw_all := am_wa 1119 rfl rfl
theorem w_1120 : Cond.sameMethod "java/util/ImmutableCollections$List12" "java/util/ImmutableCollections$AbstractImmutableList" "outOfBounds" "(I)Ljava/lang/IndexOutOfBoundsException;" ∈ lw_all := am_wa 1120 rfl rfl
theorem v_1121 : Cond.declares ({ cls := "java/util/ImmutableCollections$AbstractImmutableList", name := "outOfBounds", desc := "(I)Ljava/lang/IndexOutOfBoundsException;" }) ∈ lw_tbl := am_wv 1121 rfl
theorem w_1122 : Cond.selects "java/util/ImmutableCollections$List12" ({ cls := "java/util/ImmutableCollections$List12", name := "outOfBounds", desc := "(I)Ljava/lang/IndexOutOfBoundsException;" }) ({ cls := "java/util/ImmutableCollections$AbstractImmutableList", name := "outOfBounds", desc := "(I)Ljava/lang/IndexOutOfBoundsException;" }) ∈ lw_all := am_wa 1122 rfl rfl
theorem w_1123 : Cond.instanceMethod ({ cls := "java/util/ImmutableCollections$AbstractImmutableList", name := "outOfBounds", desc := "(I)Ljava/lang/IndexOutOfBoundsException;" }) ∈ lw_all := am_wa 1123 rfl rfl
theorem w_1124 : Cond.code ({ cls := "java/util/ImmutableCollections$AbstractImmutableList", name := "outOfBounds", desc := "(I)Ljava/lang/IndexOutOfBoundsException;" }) prog_72_method_17_code (2 : Nat) (Option.some (FieldType.object "java/lang/IndexOutOfBoundsException")) ∈ lw_all := am_wa 1124 rfl rfl
theorem w_1125 : Cond.classLink "java/util/ImmutableCollections$AbstractImmutableList" (29 : Nat) "java/lang/IndexOutOfBoundsException" ∈ lw_all := am_wa 1125 rfl rfl
theorem w_1126 : Cond.instantiable "java/lang/IndexOutOfBoundsException" (6 : Nat) ∈ lw_all := am_wa 1126 rfl rfl
theorem v_1127 : Cond.castable "java/lang/IndexOutOfBoundsException" "java/lang/IndexOutOfBoundsException" ∈ lw_tbl := am_wv 1127 rfl
theorem w_1128 : Cond.selects "java/lang/IndexOutOfBoundsException" ({ cls := "java/lang/Throwable", name := "fillInStackTrace", desc := "(I)Ljava/lang/Throwable;" }) ({ cls := "java/lang/Throwable", name := "fillInStackTrace", desc := "(I)Ljava/lang/Throwable;" }) ∈ lw_all := am_wa 1128 rfl rfl
theorem w_1134 : Cond.classLink "java/util/ImmutableCollections$AbstractImmutableList" (31 : Nat) "java/lang/StringBuilder" ∈ lw_all := am_wa 1134 rfl rfl
theorem w_1135 : Cond.methodLink "java/util/ImmutableCollections$AbstractImmutableList" (33 : Nat) ({ cls := "java/lang/StringBuilder", name := "<init>", desc := "()V" }) ∈ lw_all := am_wa 1135 rfl rfl
theorem w_1137 : Cond.methodLink "java/util/ImmutableCollections$AbstractImmutableList" (36 : Nat) ({ cls := "java/lang/StringBuilder", name := "append", desc := "(Ljava/lang/String;)Ljava/lang/StringBuilder;" }) ∈ lw_all := am_wa 1137 rfl rfl
theorem w_1138 : Cond.methodLink "java/util/ImmutableCollections$AbstractImmutableList" (40 : Nat) ({ cls := "java/lang/StringBuilder", name := "append", desc := "(I)Ljava/lang/StringBuilder;" }) ∈ lw_all := am_wa 1138 rfl rfl
theorem w_1140 : Cond.methodLink "java/util/ImmutableCollections$AbstractImmutableList" (43 : Nat) ({ cls := "java/lang/StringBuilder", name := "toString", desc := "()Ljava/lang/String;" }) ∈ lw_all := am_wa 1140 rfl rfl
theorem w_1141 : Cond.methodLink "java/util/ImmutableCollections$AbstractImmutableList" (47 : Nat) ({ cls := "java/lang/IndexOutOfBoundsException", name := "<init>", desc := "(Ljava/lang/String;)V" }) ∈ lw_all := am_wa 1141 rfl rfl
theorem w_1142 : Cond.instanceMethod ({ cls := "java/lang/IndexOutOfBoundsException", name := "<init>", desc := "(Ljava/lang/String;)V" }) ∈ lw_all := am_wa 1142 rfl rfl
theorem w_1143 : Cond.code ({ cls := "java/lang/IndexOutOfBoundsException", name := "<init>", desc := "(Ljava/lang/String;)V" }) prog_37_method_2_code (2 : Nat) (Option.none : Option FieldType) ∈ lw_all := am_wa 1143 rfl rfl
theorem w_1144 : Cond.methodLink "java/lang/IndexOutOfBoundsException" (7 : Nat) ({ cls := "java/lang/RuntimeException", name := "<init>", desc := "(Ljava/lang/String;)V" }) ∈ lw_all := am_wa 1144 rfl rfl
theorem w_1146 : Cond.superclass "java/lang/IndexOutOfBoundsException" "java/lang/RuntimeException" ∈ lw_all := am_wa 1146 rfl rfl
theorem v_1147 : Cond.castable "java/util/ImmutableCollections$ListN" "java/util/List" ∈ lw_tbl := am_wv 1147 rfl
theorem w_1148 : Cond.selects "java/util/ImmutableCollections$ListN" ({ cls := "java/util/List", name := "get", desc := "(I)Ljava/lang/Object;" }) ({ cls := "java/util/ImmutableCollections$ListN", name := "get", desc := "(I)Ljava/lang/Object;" }) ∈ lw_all := am_wa 1148 rfl rfl
theorem v_1149 : Cond.unhidden "java/util/ImmutableCollections$ListN" "get" "(I)Ljava/lang/Object;" ∈ lw_tbl := am_wv 1149 rfl
theorem w_1150 : Cond.instanceMethod ({ cls := "java/util/ImmutableCollections$ListN", name := "get", desc := "(I)Ljava/lang/Object;" }) ∈ lw_all := am_wa 1150 rfl rfl
theorem v_1151 : Cond.publicMethod ({ cls := "java/util/ImmutableCollections$ListN", name := "get", desc := "(I)Ljava/lang/Object;" }) ∈ lw_tbl := am_wv 1151 rfl
theorem w_1152 : Cond.code ({ cls := "java/util/ImmutableCollections$ListN", name := "get", desc := "(I)Ljava/lang/Object;" }) prog_75_method_4_code (2 : Nat) (Option.some (FieldType.object "java/lang/Object")) ∈ lw_all := am_wa 1152 rfl rfl
theorem w_1153 : Cond.classLink "java/util/ImmutableCollections$ListItr" (32 : Nat) "java/util/NoSuchElementException" ∈ lw_all := am_wa 1153 rfl rfl
theorem w_1154 : Cond.methodLink "java/util/ImmutableCollections$ListItr" (34 : Nat) ({ cls := "java/util/NoSuchElementException", name := "<init>", desc := "()V" }) ∈ lw_all := am_wa 1154 rfl rfl
theorem w_1155 : Cond.selects "java/util/PriorityQueue$Itr" ({ cls := "java/util/Iterator", name := "next", desc := "()Ljava/lang/Object;" }) ({ cls := "java/util/PriorityQueue$Itr", name := "next", desc := "()Ljava/lang/Object;" }) ∈ lw_all := am_wa 1155 rfl rfl
theorem v_1156 : Cond.unhidden "java/util/PriorityQueue$Itr" "next" "()Ljava/lang/Object;" ∈ lw_tbl := am_wv 1156 rfl
theorem w_1157 : Cond.instanceMethod ({ cls := "java/util/PriorityQueue$Itr", name := "next", desc := "()Ljava/lang/Object;" }) ∈ lw_all := am_wa 1157 rfl rfl
theorem v_1158 : Cond.publicMethod ({ cls := "java/util/PriorityQueue$Itr", name := "next", desc := "()Ljava/lang/Object;" }) ∈ lw_tbl := am_wv 1158 rfl
theorem w_1159 : Cond.code ({ cls := "java/util/PriorityQueue$Itr", name := "next", desc := "()Ljava/lang/Object;" }) prog_87_method_3_code (1 : Nat) (Option.some (FieldType.object "java/lang/Object")) ∈ lw_all := am_wa 1159 rfl rfl
theorem w_1160 : Cond.methodLink "java/util/PriorityQueue$Itr" (48 : Nat) ({ cls := "java/util/ArrayDeque", name := "poll", desc := "()Ljava/lang/Object;" }) ∈ lw_all := am_wa 1160 rfl rfl
theorem w_1161 : Cond.instanceMethod ({ cls := "java/util/ArrayDeque", name := "poll", desc := "()Ljava/lang/Object;" }) ∈ lw_all := am_wa 1161 rfl rfl
theorem w_1162 : Cond.selects "java/util/ArrayDeque" ({ cls := "java/util/ArrayDeque", name := "poll", desc := "()Ljava/lang/Object;" }) ({ cls := "java/util/ArrayDeque", name := "poll", desc := "()Ljava/lang/Object;" }) ∈ lw_all := am_wa 1162 rfl rfl
theorem w_1163 : Cond.code ({ cls := "java/util/ArrayDeque", name := "poll", desc := "()Ljava/lang/Object;" }) prog_61_method_31_code (1 : Nat) (Option.some (FieldType.object "java/lang/Object")) ∈ lw_all := am_wa 1163 rfl rfl
theorem w_1164 : Cond.methodLink "java/util/ArrayDeque" (93 : Nat) ({ cls := "java/util/ArrayDeque", name := "pollFirst", desc := "()Ljava/lang/Object;" }) ∈ lw_all := am_wa 1164 rfl rfl
theorem w_1165 : Cond.instanceMethod ({ cls := "java/util/ArrayDeque", name := "pollFirst", desc := "()Ljava/lang/Object;" }) ∈ lw_all := am_wa 1165 rfl rfl
theorem w_1166 : Cond.selects "java/util/ArrayDeque" ({ cls := "java/util/ArrayDeque", name := "pollFirst", desc := "()Ljava/lang/Object;" }) ({ cls := "java/util/ArrayDeque", name := "pollFirst", desc := "()Ljava/lang/Object;" }) ∈ lw_all := am_wa 1166 rfl rfl
theorem w_1167 : Cond.code ({ cls := "java/util/ArrayDeque", name := "pollFirst", desc := "()Ljava/lang/Object;" }) prog_61_method_20_code (4 : Nat) (Option.some (FieldType.object "java/lang/Object")) ∈ lw_all := am_wa 1167 rfl rfl
theorem w_1168 : Cond.methodLink "java/util/ArrayDeque" (103 : Nat) ({ cls := "java/util/ArrayDeque", name := "elementAt", desc := "([Ljava/lang/Object;I)Ljava/lang/Object;" }) ∈ lw_all := am_wa 1168 rfl rfl
theorem w_1169 : Cond.static ({ cls := "java/util/ArrayDeque", name := "elementAt", desc := "([Ljava/lang/Object;I)Ljava/lang/Object;" }) ∈ lw_all := am_wa 1169 rfl rfl
theorem w_1170 : Cond.code ({ cls := "java/util/ArrayDeque", name := "elementAt", desc := "([Ljava/lang/Object;I)Ljava/lang/Object;" }) prog_61_method_10_code (2 : Nat) (Option.some (FieldType.object "java/lang/Object")) ∈ lw_all := am_wa 1170 rfl rfl
theorem w_1171 : Cond.methodLink "java/util/ArrayDeque" (74 : Nat) ({ cls := "java/util/ArrayDeque", name := "inc", desc := "(II)I" }) ∈ lw_all := am_wa 1171 rfl rfl
theorem w_1172 : Cond.classLink "java/util/PriorityQueue$Itr" (56 : Nat) "java/util/NoSuchElementException" ∈ lw_all := am_wa 1172 rfl rfl
theorem w_1173 : Cond.methodLink "java/util/PriorityQueue$Itr" (58 : Nat) ({ cls := "java/util/NoSuchElementException", name := "<init>", desc := "()V" }) ∈ lw_all := am_wa 1173 rfl rfl
theorem w_1174 : Cond.selects "java/util/TreeMap$KeyIterator" ({ cls := "java/util/Iterator", name := "next", desc := "()Ljava/lang/Object;" }) ({ cls := "java/util/TreeMap$KeyIterator", name := "next", desc := "()Ljava/lang/Object;" }) ∈ lw_all := am_wa 1174 rfl rfl
theorem v_1175 : Cond.unhidden "java/util/TreeMap$KeyIterator" "next" "()Ljava/lang/Object;" ∈ lw_tbl := am_wv 1175 rfl
theorem w_1176 : Cond.instanceMethod ({ cls := "java/util/TreeMap$KeyIterator", name := "next", desc := "()Ljava/lang/Object;" }) ∈ lw_all := am_wa 1176 rfl rfl
theorem v_1177 : Cond.publicMethod ({ cls := "java/util/TreeMap$KeyIterator", name := "next", desc := "()Ljava/lang/Object;" }) ∈ lw_tbl := am_wv 1177 rfl
theorem w_1178 : Cond.code ({ cls := "java/util/TreeMap$KeyIterator", name := "next", desc := "()Ljava/lang/Object;" }) prog_98_method_2_code (1 : Nat) (Option.some (FieldType.object "java/lang/Object")) ∈ lw_all := am_wa 1178 rfl rfl
theorem w_1179 : Cond.methodLink "java/util/TreeMap$KeyIterator" (7 : Nat) ({ cls := "java/util/TreeMap$KeyIterator", name := "nextEntry", desc := "()Ljava/util/TreeMap$Entry;" }) ∈ lw_all := am_wa 1179 rfl rfl
theorem w_1180 : Cond.sameMethod "java/util/TreeMap$KeyIterator" "java/util/TreeMap$PrivateEntryIterator" "nextEntry" "()Ljava/util/TreeMap$Entry;" ∈ lw_all := am_wa 1180 rfl rfl
theorem v_1181 : Cond.declares ({ cls := "java/util/TreeMap$PrivateEntryIterator", name := "nextEntry", desc := "()Ljava/util/TreeMap$Entry;" }) ∈ lw_tbl := am_wv 1181 rfl
theorem w_1182 : Cond.selects "java/util/TreeMap$KeyIterator" ({ cls := "java/util/TreeMap$KeyIterator", name := "nextEntry", desc := "()Ljava/util/TreeMap$Entry;" }) ({ cls := "java/util/TreeMap$PrivateEntryIterator", name := "nextEntry", desc := "()Ljava/util/TreeMap$Entry;" }) ∈ lw_all := am_wa 1182 rfl rfl
theorem w_1183 : Cond.instanceMethod ({ cls := "java/util/TreeMap$PrivateEntryIterator", name := "nextEntry", desc := "()Ljava/util/TreeMap$Entry;" }) ∈ lw_all := am_wa 1183 rfl rfl
theorem w_1184 : Cond.code ({ cls := "java/util/TreeMap$PrivateEntryIterator", name := "nextEntry", desc := "()Ljava/util/TreeMap$Entry;" }) prog_101_method_3_code (2 : Nat) (Option.some (FieldType.object "java/util/TreeMap$Entry")) ∈ lw_all := am_wa 1184 rfl rfl
theorem w_1185 : Cond.classLink "java/util/TreeMap$PrivateEntryIterator" (29 : Nat) "java/util/NoSuchElementException" ∈ lw_all := am_wa 1185 rfl rfl
theorem w_1186 : Cond.methodLink "java/util/TreeMap$PrivateEntryIterator" (31 : Nat) ({ cls := "java/util/NoSuchElementException", name := "<init>", desc := "()V" }) ∈ lw_all := am_wa 1186 rfl rfl
theorem w_1187 : Cond.methodLink "java/util/TreeMap$PrivateEntryIterator" (35 : Nat) ({ cls := "java/util/TreeMap", name := "successor", desc := "(Ljava/util/TreeMap$Entry;)Ljava/util/TreeMap$Entry;" }) ∈ lw_all := am_wa 1187 rfl rfl
theorem w_1188 : Cond.static ({ cls := "java/util/TreeMap", name := "successor", desc := "(Ljava/util/TreeMap$Entry;)Ljava/util/TreeMap$Entry;" }) ∈ lw_all := am_wa 1188 rfl rfl
theorem w_1189 : Cond.code ({ cls := "java/util/TreeMap", name := "successor", desc := "(Ljava/util/TreeMap$Entry;)Ljava/util/TreeMap$Entry;" }) prog_96_method_74_code (3 : Nat) (Option.some (FieldType.object "java/util/TreeMap$Entry")) ∈ lw_all := am_wa 1189 rfl rfl
theorem w_1190 : Cond.methodLink "java/util/AbstractCollection" (37 : Nat) ({ cls := "java/util/AbstractCollection", name := "finishToArray", desc := "([Ljava/lang/Object;Ljava/util/Iterator;)[Ljava/lang/Object;" }) ∈ lw_all := am_wa 1190 rfl rfl
theorem w_1191 : Cond.static ({ cls := "java/util/AbstractCollection", name := "finishToArray", desc := "([Ljava/lang/Object;Ljava/util/Iterator;)[Ljava/lang/Object;" }) ∈ lw_all := am_wa 1191 rfl rfl
theorem w_1192 : Cond.code ({ cls := "java/util/AbstractCollection", name := "finishToArray", desc := "([Ljava/lang/Object;Ljava/util/Iterator;)[Ljava/lang/Object;" }) prog_56_method_8_code (4 : Nat) (Option.some (FieldType.array (FieldType.object "java/lang/Object"))) ∈ lw_all := am_wa 1192 rfl rfl
theorem w_1193 : Cond.methodLink "java/util/AbstractCollection" (64 : Nat) ({ cls := "jdk/internal/util/ArraysSupport", name := "newLength", desc := "(III)I" }) ∈ lw_all := am_wa 1193 rfl rfl
theorem w_1194 : Cond.methodLink "java/util/ArrayList" (69 : Nat) ({ cls := "java/util/ArrayList", name := "grow", desc := "(I)[Ljava/lang/Object;" }) ∈ lw_all := am_wa 1194 rfl rfl
theorem v_1195 : Cond.privateMethod ({ cls := "java/util/ArrayList", name := "grow", desc := "(I)[Ljava/lang/Object;" }) ∈ lw_tbl := am_wv 1195 rfl
theorem w_1196 : Cond.instanceMethod ({ cls := "java/util/ArrayList", name := "grow", desc := "(I)[Ljava/lang/Object;" }) ∈ lw_all := am_wa 1196 rfl rfl
theorem w_1197 : Cond.code ({ cls := "java/util/ArrayList", name := "grow", desc := "(I)[Ljava/lang/Object;" }) prog_63_method_6_code (4 : Nat) (Option.some (FieldType.array (FieldType.object "java/lang/Object"))) ∈ lw_all := am_wa 1197 rfl rfl
theorem w_1198 : Cond.methodLink "java/util/ArrayList" (73 : Nat) ({ cls := "jdk/internal/util/ArraysSupport", name := "newLength", desc := "(III)I" }) ∈ lw_all := am_wa 1198 rfl rfl
theorem w_1199 : Cond.methodLink "java/util/ArrayList" (79 : Nat) ({ cls := "java/lang/Math", name := "max", desc := "(II)I" }) ∈ lw_all := am_wa 1199 rfl rfl
theorem w_1200 : Cond.classLink "java/util/ArrayList" (7 : Nat) "java/lang/Object" ∈ lw_all := am_wa 1200 rfl rfl
theorem w_1201 : Cond.methodLink "java/util/ArrayList" (112 : Nat) ({ cls := "java/lang/System", name := "arraycopy", desc := "(Ljava/lang/Object;ILjava/lang/Object;II)V" }) ∈ lw_all := am_wa 1201 rfl rfl
theorem w_1202 : Cond.methodLink "UmbrellaBank$Change" (24 : Nat) ({ cls := "UmbrellaBank$Change", name := "apply", desc := "(LUmbrellaBank$State;)I" }) ∈ lw_all := am_wa 1202 rfl rfl
theorem v_1203 : Cond.declares ({ cls := "UmbrellaBank$Change", name := "apply", desc := "(LUmbrellaBank$State;)I" }) ∈ lw_tbl := am_wv 1203 rfl
theorem w_1204 : Cond.sameMethod "UmbrellaBank$Change" "UmbrellaBank$Change" "apply" "(LUmbrellaBank$State;)I" ∈ lw_all := am_wa 1204 rfl rfl
theorem w_1205 : Cond.selects "UmbrellaBank$Command" ({ cls := "UmbrellaBank$Change", name := "apply", desc := "(LUmbrellaBank$State;)I" }) ({ cls := "UmbrellaBank$Command", name := "apply", desc := "(LUmbrellaBank$State;)I" }) ∈ lw_all := am_wa 1205 rfl rfl
theorem w_1206 : Cond.instanceMethod ({ cls := "UmbrellaBank$Command", name := "apply", desc := "(LUmbrellaBank$State;)I" }) ∈ lw_all := am_wa 1206 rfl rfl
theorem w_1207 : Cond.code ({ cls := "UmbrellaBank$Command", name := "apply", desc := "(LUmbrellaBank$State;)I" }) prog_9_method_3_code (4 : Nat) (Option.some FieldType.int) ∈ lw_all := am_wa 1207 rfl rfl
theorem w_1208 : Cond.methodLink "UmbrellaBank$Command" (21 : Nat) ({ cls := "java/lang/String", name := "hashCode", desc := "()I" }) ∈ lw_all := am_wa 1208 rfl rfl
theorem w_1209 : Cond.instanceMethod ({ cls := "java/lang/String", name := "hashCode", desc := "()I" }) ∈ lw_all := am_wa 1209 rfl rfl
theorem w_1210 : Cond.selects "java/lang/String" ({ cls := "java/lang/String", name := "hashCode", desc := "()I" }) ({ cls := "java/lang/String", name := "hashCode", desc := "()I" }) ∈ lw_all := am_wa 1210 rfl rfl
theorem w_1211 : Cond.code ({ cls := "java/lang/String", name := "hashCode", desc := "()I" }) prog_46_method_78_code (2 : Nat) (Option.some FieldType.int) ∈ lw_all := am_wa 1211 rfl rfl
theorem w_1212 : Cond.methodLink "java/lang/String" (492 : Nat) ({ cls := "java/lang/String", name := "isLatin1", desc := "()Z" }) ∈ lw_all := am_wa 1212 rfl rfl
theorem w_1213 : Cond.instanceMethod ({ cls := "java/lang/String", name := "isLatin1", desc := "()Z" }) ∈ lw_all := am_wa 1213 rfl rfl
theorem w_1214 : Cond.selects "java/lang/String" ({ cls := "java/lang/String", name := "isLatin1", desc := "()Z" }) ({ cls := "java/lang/String", name := "isLatin1", desc := "()Z" }) ∈ lw_all := am_wa 1214 rfl rfl
theorem w_1215 : Cond.code ({ cls := "java/lang/String", name := "isLatin1", desc := "()Z" }) prog_46_method_154_code (1 : Nat) (Option.some FieldType.boolean) ∈ lw_all := am_wa 1215 rfl rfl
theorem w_1216 : Cond.methodLink "java/lang/String" (628 : Nat) ({ cls := "java/lang/StringLatin1", name := "hashCode", desc := "([B)I" }) ∈ lw_all := am_wa 1216 rfl rfl
theorem w_1217 : Cond.static ({ cls := "java/lang/StringLatin1", name := "hashCode", desc := "([B)I" }) ∈ lw_all := am_wa 1217 rfl rfl
theorem w_1218 : Cond.code ({ cls := "java/lang/StringLatin1", name := "hashCode", desc := "([B)I" }) prog_48_method_21_code (1 : Nat) (Option.some FieldType.int) ∈ lw_all := am_wa 1218 rfl rfl
theorem w_1219 : Cond.methodLink "java/lang/StringLatin1" (84 : Nat) ({ cls := "jdk/internal/util/ArraysSupport", name := "vectorizedHashCode", desc := "(Ljava/lang/Object;IIII)I" }) ∈ lw_all := am_wa 1219 rfl rfl
theorem w_1220 : Cond.static ({ cls := "jdk/internal/util/ArraysSupport", name := "vectorizedHashCode", desc := "(Ljava/lang/Object;IIII)I" }) ∈ lw_all := am_wa 1220 rfl rfl
theorem w_1221 : Cond.code ({ cls := "jdk/internal/util/ArraysSupport", name := "vectorizedHashCode", desc := "(Ljava/lang/Object;IIII)I" }) prog_105_method_4_code (5 : Nat) (Option.some FieldType.int) ∈ lw_all := am_wa 1221 rfl rfl
theorem w_1222 : Cond.classLink "jdk/internal/util/ArraysSupport" (60 : Nat) "[B" ∈ lw_all := am_wa 1222 rfl rfl
theorem w_1223 : Cond.methodLink "jdk/internal/util/ArraysSupport" (62 : Nat) ({ cls := "jdk/internal/util/ArraysSupport", name := "signedHashCode", desc := "(I[BII)I" }) ∈ lw_all := am_wa 1223 rfl rfl
theorem w_1224 : Cond.static ({ cls := "jdk/internal/util/ArraysSupport", name := "signedHashCode", desc := "(I[BII)I" }) ∈ lw_all := am_wa 1224 rfl rfl
theorem w_1225 : Cond.code ({ cls := "jdk/internal/util/ArraysSupport", name := "signedHashCode", desc := "(I[BII)I" }) prog_105_method_5_code (6 : Nat) (Option.some FieldType.int) ∈ lw_all := am_wa 1225 rfl rfl
theorem w_1226 : Cond.methodLink "jdk/internal/util/ArraysSupport" (66 : Nat) ({ cls := "jdk/internal/util/ArraysSupport", name := "utf16hashCode", desc := "(I[BII)I" }) ∈ lw_all := am_wa 1226 rfl rfl
theorem w_1227 : Cond.static ({ cls := "jdk/internal/util/ArraysSupport", name := "utf16hashCode", desc := "(I[BII)I" }) ∈ lw_all := am_wa 1227 rfl rfl
theorem w_1228 : Cond.code ({ cls := "jdk/internal/util/ArraysSupport", name := "utf16hashCode", desc := "(I[BII)I" }) prog_105_method_10_code (6 : Nat) (Option.some FieldType.int) ∈ lw_all := am_wa 1228 rfl rfl
theorem w_1229 : Cond.fieldLink "jdk/internal/util/ArraysSupport" (106 : Nat) "jdk/internal/util/ArraysSupport" "JLA" "Ljdk/internal/access/JavaLangAccess;" ∈ lw_all := am_wa 1229 rfl rfl
theorem w_1232 : Cond.methodLink "jdk/internal/util/ArraysSupport" (110 : Nat) ({ cls := "jdk/internal/access/JavaLangAccess", name := "getUTF16Char", desc := "([BI)C" }) ∈ lw_all := am_wa 1232 rfl rfl
theorem v_1233 : Cond.interfaceMethod "jdk/internal/access/JavaLangAccess" "jdk/internal/access/JavaLangAccess" "getUTF16Char" "([BI)C" ∈ lw_tbl := am_wv 1233 rfl
theorem v_1234 : Cond.declares ({ cls := "jdk/internal/access/JavaLangAccess", name := "getUTF16Char", desc := "([BI)C" }) ∈ lw_tbl := am_wv 1234 rfl
theorem v_1235 : Cond.castable "java/lang/System$2" "jdk/internal/access/JavaLangAccess" ∈ lw_tbl := am_wv 1235 rfl
theorem w_1236 : Cond.selects "java/lang/System$2" ({ cls := "jdk/internal/access/JavaLangAccess", name := "getUTF16Char", desc := "([BI)C" }) ({ cls := "java/lang/System$2", name := "getUTF16Char", desc := "([BI)C" }) ∈ lw_all := am_wa 1236 rfl rfl
theorem v_1237 : Cond.unhidden "java/lang/System$2" "getUTF16Char" "([BI)C" ∈ lw_tbl := am_wv 1237 rfl
theorem w_1238 : Cond.instanceMethod ({ cls := "java/lang/System$2", name := "getUTF16Char", desc := "([BI)C" }) ∈ lw_all := am_wa 1238 rfl rfl
theorem v_1239 : Cond.publicMethod ({ cls := "java/lang/System$2", name := "getUTF16Char", desc := "([BI)C" }) ∈ lw_tbl := am_wv 1239 rfl
theorem w_1240 : Cond.code ({ cls := "java/lang/System$2", name := "getUTF16Char", desc := "([BI)C" }) prog_51_method_45_code (3 : Nat) (Option.some FieldType.char) ∈ lw_all := am_wa 1240 rfl rfl
theorem w_1241 : Cond.methodLink "java/lang/System$2" (185 : Nat) ({ cls := "java/lang/StringUTF16", name := "getChar", desc := "([BI)C" }) ∈ lw_all := am_wa 1241 rfl rfl
theorem w_1242 : Cond.classLink "jdk/internal/util/ArraysSupport" (69 : Nat) "[C" ∈ lw_all := am_wa 1242 rfl rfl
theorem w_1243 : Cond.methodLink "jdk/internal/util/ArraysSupport" (71 : Nat) ({ cls := "jdk/internal/util/ArraysSupport", name := "hashCode", desc := "(I[CII)I" }) ∈ lw_all := am_wa 1243 rfl rfl
theorem w_1244 : Cond.static ({ cls := "jdk/internal/util/ArraysSupport", name := "hashCode", desc := "(I[CII)I" }) ∈ lw_all := am_wa 1244 rfl rfl
theorem w_1245 : Cond.code ({ cls := "jdk/internal/util/ArraysSupport", name := "hashCode", desc := "(I[CII)I" }) prog_105_method_7_code (6 : Nat) (Option.some FieldType.int) ∈ lw_all := am_wa 1245 rfl rfl
theorem w_1246 : Cond.methodLink "jdk/internal/util/ArraysSupport" (75 : Nat) ({ cls := "jdk/internal/util/ArraysSupport", name := "hashCode", desc := "(I[BII)I" }) ∈ lw_all := am_wa 1246 rfl rfl
theorem w_1247 : Cond.static ({ cls := "jdk/internal/util/ArraysSupport", name := "hashCode", desc := "(I[BII)I" }) ∈ lw_all := am_wa 1247 rfl rfl
theorem w_1248 : Cond.code ({ cls := "jdk/internal/util/ArraysSupport", name := "hashCode", desc := "(I[BII)I" }) prog_105_method_6_code (6 : Nat) (Option.some FieldType.int) ∈ lw_all := am_wa 1248 rfl rfl
theorem w_1249 : Cond.classLink "jdk/internal/util/ArraysSupport" (77 : Nat) "[S" ∈ lw_all := am_wa 1249 rfl rfl
theorem w_1250 : Cond.methodLink "jdk/internal/util/ArraysSupport" (79 : Nat) ({ cls := "jdk/internal/util/ArraysSupport", name := "hashCode", desc := "(I[SII)I" }) ∈ lw_all := am_wa 1250 rfl rfl
theorem w_1251 : Cond.static ({ cls := "jdk/internal/util/ArraysSupport", name := "hashCode", desc := "(I[SII)I" }) ∈ lw_all := am_wa 1251 rfl rfl
theorem w_1252 : Cond.code ({ cls := "jdk/internal/util/ArraysSupport", name := "hashCode", desc := "(I[SII)I" }) prog_105_method_8_code (6 : Nat) (Option.some FieldType.int) ∈ lw_all := am_wa 1252 rfl rfl
theorem w_1253 : Cond.classLink "jdk/internal/util/ArraysSupport" (82 : Nat) "[I" ∈ lw_all := am_wa 1253 rfl rfl
theorem w_1254 : Cond.methodLink "jdk/internal/util/ArraysSupport" (84 : Nat) ({ cls := "jdk/internal/util/ArraysSupport", name := "hashCode", desc := "(I[III)I" }) ∈ lw_all := am_wa 1254 rfl rfl
theorem w_1255 : Cond.static ({ cls := "jdk/internal/util/ArraysSupport", name := "hashCode", desc := "(I[III)I" }) ∈ lw_all := am_wa 1255 rfl rfl
theorem w_1256 : Cond.code ({ cls := "jdk/internal/util/ArraysSupport", name := "hashCode", desc := "(I[III)I" }) prog_105_method_9_code (6 : Nat) (Option.some FieldType.int) ∈ lw_all := am_wa 1256 rfl rfl
theorem w_1257 : Cond.classLink "jdk/internal/util/ArraysSupport" (87 : Nat) "java/lang/IllegalArgumentException" ∈ lw_all := am_wa 1257 rfl rfl
theorem w_1258 : Cond.classLink "jdk/internal/util/ArraysSupport" (89 : Nat) "java/lang/StringBuilder" ∈ lw_all := am_wa 1258 rfl rfl
theorem w_1259 : Cond.methodLink "jdk/internal/util/ArraysSupport" (91 : Nat) ({ cls := "java/lang/StringBuilder", name := "<init>", desc := "()V" }) ∈ lw_all := am_wa 1259 rfl rfl
theorem w_1261 : Cond.methodLink "jdk/internal/util/ArraysSupport" (94 : Nat) ({ cls := "java/lang/StringBuilder", name := "append", desc := "(Ljava/lang/String;)Ljava/lang/StringBuilder;" }) ∈ lw_all := am_wa 1261 rfl rfl
theorem w_1262 : Cond.methodLink "jdk/internal/util/ArraysSupport" (98 : Nat) ({ cls := "java/lang/StringBuilder", name := "append", desc := "(I)Ljava/lang/StringBuilder;" }) ∈ lw_all := am_wa 1262 rfl rfl
theorem w_1263 : Cond.methodLink "jdk/internal/util/ArraysSupport" (101 : Nat) ({ cls := "java/lang/StringBuilder", name := "toString", desc := "()Ljava/lang/String;" }) ∈ lw_all := am_wa 1263 rfl rfl
theorem w_1264 : Cond.methodLink "jdk/internal/util/ArraysSupport" (105 : Nat) ({ cls := "java/lang/IllegalArgumentException", name := "<init>", desc := "(Ljava/lang/String;)V" }) ∈ lw_all := am_wa 1264 rfl rfl
theorem w_1265 : Cond.methodLink "java/lang/String" (632 : Nat) ({ cls := "java/lang/StringUTF16", name := "hashCode", desc := "([B)I" }) ∈ lw_all := am_wa 1265 rfl rfl
theorem w_1266 : Cond.static ({ cls := "java/lang/StringUTF16", name := "hashCode", desc := "([B)I" }) ∈ lw_all := am_wa 1266 rfl rfl
theorem w_1267 : Cond.code ({ cls := "java/lang/StringUTF16", name := "hashCode", desc := "([B)I" }) prog_49_method_39_code (1 : Nat) (Option.some FieldType.int) ∈ lw_all := am_wa 1267 rfl rfl
theorem w_1268 : Cond.methodLink "java/lang/StringUTF16" (220 : Nat) ({ cls := "jdk/internal/util/ArraysSupport", name := "vectorizedHashCode", desc := "(Ljava/lang/Object;IIII)I" }) ∈ lw_all := am_wa 1268 rfl rfl
theorem w_1270 : Cond.methodLink "UmbrellaBank$Command" (29 : Nat) ({ cls := "java/lang/String", name := "equals", desc := "(Ljava/lang/Object;)Z" }) ∈ lw_all := am_wa 1270 rfl rfl
theorem w_1271 : Cond.instanceMethod ({ cls := "java/lang/String", name := "equals", desc := "(Ljava/lang/Object;)Z" }) ∈ lw_all := am_wa 1271 rfl rfl
theorem w_1272 : Cond.selects "java/lang/String" ({ cls := "java/lang/String", name := "equals", desc := "(Ljava/lang/Object;)Z" }) ({ cls := "java/lang/String", name := "equals", desc := "(Ljava/lang/Object;)Z" }) ∈ lw_all := am_wa 1272 rfl rfl
theorem w_1273 : Cond.code ({ cls := "java/lang/String", name := "equals", desc := "(Ljava/lang/Object;)Z" }) prog_46_method_66_code (3 : Nat) (Option.some FieldType.boolean) ∈ lw_all := am_wa 1273 rfl rfl
theorem w_1274 : Cond.classLink "java/lang/String" (10 : Nat) "java/lang/String" ∈ lw_all := am_wa 1274 rfl rfl
theorem w_1275 : Cond.methodLink "java/lang/String" (541 : Nat) ({ cls := "java/lang/StringLatin1", name := "equals", desc := "([B[B)Z" }) ∈ lw_all := am_wa 1275 rfl rfl
theorem w_1276 : Cond.static ({ cls := "java/lang/StringLatin1", name := "equals", desc := "([B[B)Z" }) ∈ lw_all := am_wa 1276 rfl rfl
theorem w_1277 : Cond.code ({ cls := "java/lang/StringLatin1", name := "equals", desc := "([B[B)Z" }) prog_48_method_13_code (3 : Nat) (Option.some FieldType.boolean) ∈ lw_all := am_wa 1277 rfl rfl
theorem w_1284 : Cond.methodLink "UmbrellaBank$Command" (80 : Nat) ({ cls := "UmbrellaBank$State", name := "lend", desc := "(III)I" }) ∈ lw_all := am_wa 1284 rfl rfl
theorem w_1285 : Cond.instanceMethod ({ cls := "UmbrellaBank$State", name := "lend", desc := "(III)I" }) ∈ lw_all := am_wa 1285 rfl rfl
theorem w_1286 : Cond.selects "UmbrellaBank$State" ({ cls := "UmbrellaBank$State", name := "lend", desc := "(III)I" }) ({ cls := "UmbrellaBank$State", name := "lend", desc := "(III)I" }) ∈ lw_all := am_wa 1286 rfl rfl
theorem w_1287 : Cond.code ({ cls := "UmbrellaBank$State", name := "lend", desc := "(III)I" }) prog_20_method_14_code (4 : Nat) (Option.some FieldType.int) ∈ lw_all := am_wa 1287 rfl rfl
theorem w_1288 : Cond.methodLink "UmbrellaBank$State" (114 : Nat) ({ cls := "UmbrellaBank$State", name := "checkOwners", desc := "([I)V" }) ∈ lw_all := am_wa 1288 rfl rfl
theorem w_1289 : Cond.instanceMethod ({ cls := "UmbrellaBank$State", name := "checkOwners", desc := "([I)V" }) ∈ lw_all := am_wa 1289 rfl rfl
theorem w_1290 : Cond.selects "UmbrellaBank$State" ({ cls := "UmbrellaBank$State", name := "checkOwners", desc := "([I)V" }) ({ cls := "UmbrellaBank$State", name := "checkOwners", desc := "([I)V" }) ∈ lw_all := am_wa 1290 rfl rfl
theorem w_1291 : Cond.code ({ cls := "UmbrellaBank$State", name := "checkOwners", desc := "([I)V" }) prog_20_method_3_code (6 : Nat) (Option.none : Option FieldType) ∈ lw_all := am_wa 1291 rfl rfl
theorem v_1292 : Cond.methodLinkNest "UmbrellaBank$State" (69 : Nat) ({ cls := "UmbrellaBank", name := "checkIndex", desc := "(II)V" }) "UmbrellaBank" ∈ lw_tbl := am_wv 1292 rfl
theorem w_1293 : Cond.static ({ cls := "UmbrellaBank", name := "checkIndex", desc := "(II)V" }) ∈ lw_all := am_wa 1293 rfl rfl
theorem w_1294 : Cond.code ({ cls := "UmbrellaBank", name := "checkIndex", desc := "(II)V" }) prog_1_method_4_code (2 : Nat) (Option.none : Option FieldType) ∈ lw_all := am_wa 1294 rfl rfl
theorem w_1295 : Cond.classLink "UmbrellaBank" (7 : Nat) "java/lang/IndexOutOfBoundsException" ∈ lw_all := am_wa 1295 rfl rfl
theorem w_1296 : Cond.methodLink "UmbrellaBank" (9 : Nat) ({ cls := "java/lang/IndexOutOfBoundsException", name := "<init>", desc := "()V" }) ∈ lw_all := am_wa 1296 rfl rfl
theorem w_1297 : Cond.instanceMethod ({ cls := "java/lang/IndexOutOfBoundsException", name := "<init>", desc := "()V" }) ∈ lw_all := am_wa 1297 rfl rfl
theorem w_1298 : Cond.code ({ cls := "java/lang/IndexOutOfBoundsException", name := "<init>", desc := "()V" }) prog_37_method_1_code (1 : Nat) (Option.none : Option FieldType) ∈ lw_all := am_wa 1298 rfl rfl
theorem w_1299 : Cond.methodLink "java/lang/IndexOutOfBoundsException" (1 : Nat) ({ cls := "java/lang/RuntimeException", name := "<init>", desc := "()V" }) ∈ lw_all := am_wa 1299 rfl rfl
theorem v_1300 : Cond.methodLinkNest "UmbrellaBank$State" (118 : Nat) ({ cls := "UmbrellaBank", name := "checkNumber", desc := "(I)V" }) "UmbrellaBank" ∈ lw_tbl := am_wv 1300 rfl
theorem w_1301 : Cond.static ({ cls := "UmbrellaBank", name := "checkNumber", desc := "(I)V" }) ∈ lw_all := am_wa 1301 rfl rfl
theorem w_1302 : Cond.code ({ cls := "UmbrellaBank", name := "checkNumber", desc := "(I)V" }) prog_1_method_8_code (1 : Nat) (Option.none : Option FieldType) ∈ lw_all := am_wa 1302 rfl rfl
theorem w_1303 : Cond.methodLink "UmbrellaBank" (21 : Nat) ({ cls := "UmbrellaBank", name := "isBetween", desc := "(III)Z" }) ∈ lw_all := am_wa 1303 rfl rfl
theorem w_1304 : Cond.static ({ cls := "UmbrellaBank", name := "isBetween", desc := "(III)Z" }) ∈ lw_all := am_wa 1304 rfl rfl
theorem w_1305 : Cond.code ({ cls := "UmbrellaBank", name := "isBetween", desc := "(III)Z" }) prog_1_method_1_code (3 : Nat) (Option.some FieldType.boolean) ∈ lw_all := am_wa 1305 rfl rfl
theorem w_1306 : Cond.methodLink "UmbrellaBank" (25 : Nat) ({ cls := "UmbrellaBank", name := "checkArgument", desc := "(Z)V" }) ∈ lw_all := am_wa 1306 rfl rfl
theorem w_1307 : Cond.static ({ cls := "UmbrellaBank", name := "checkArgument", desc := "(Z)V" }) ∈ lw_all := am_wa 1307 rfl rfl
theorem w_1308 : Cond.code ({ cls := "UmbrellaBank", name := "checkArgument", desc := "(Z)V" }) prog_1_method_3_code (1 : Nat) (Option.none : Option FieldType) ∈ lw_all := am_wa 1308 rfl rfl
theorem w_1309 : Cond.classLink "UmbrellaBank" (1 : Nat) "java/lang/IllegalArgumentException" ∈ lw_all := am_wa 1309 rfl rfl
theorem w_1310 : Cond.methodLink "UmbrellaBank" (3 : Nat) ({ cls := "java/lang/IllegalArgumentException", name := "<init>", desc := "()V" }) ∈ lw_all := am_wa 1310 rfl rfl
theorem w_1311 : Cond.instanceMethod ({ cls := "java/lang/IllegalArgumentException", name := "<init>", desc := "()V" }) ∈ lw_all := am_wa 1311 rfl rfl
theorem w_1312 : Cond.code ({ cls := "java/lang/IllegalArgumentException", name := "<init>", desc := "()V" }) prog_35_method_1_code (1 : Nat) (Option.none : Option FieldType) ∈ lw_all := am_wa 1312 rfl rfl
theorem w_1313 : Cond.methodLink "java/lang/IllegalArgumentException" (1 : Nat) ({ cls := "java/lang/RuntimeException", name := "<init>", desc := "()V" }) ∈ lw_all := am_wa 1313 rfl rfl
theorem v_1314 : Cond.methodLinkNest "UmbrellaBank$State" (132 : Nat) ({ cls := "UmbrellaBank", name := "isBetween", desc := "(III)Z" }) "UmbrellaBank" ∈ lw_tbl := am_wv 1314 rfl
theorem v_1315 : Cond.methodLinkNest "UmbrellaBank$State" (136 : Nat) ({ cls := "UmbrellaBank", name := "checkArgument", desc := "(Z)V" }) "UmbrellaBank" ∈ lw_tbl := am_wv 1315 rfl
theorem w_1316 : Cond.methodLink "UmbrellaBank$State" (93 : Nat) ({ cls := "java/util/ArrayList", name := "size", desc := "()I" }) ∈ lw_all := am_wa 1316 rfl rfl
theorem v_1317 : Cond.methodLinkNest "UmbrellaBank$State" (111 : Nat) ({ cls := "UmbrellaBank", name := "checkState", desc := "(Z)V" }) "UmbrellaBank" ∈ lw_tbl := am_wv 1317 rfl
theorem w_1318 : Cond.static ({ cls := "UmbrellaBank", name := "checkState", desc := "(Z)V" }) ∈ lw_all := am_wa 1318 rfl rfl
theorem w_1319 : Cond.code ({ cls := "UmbrellaBank", name := "checkState", desc := "(Z)V" }) prog_1_method_5_code (1 : Nat) (Option.none : Option FieldType) ∈ lw_all := am_wa 1319 rfl rfl
theorem w_1320 : Cond.classLink "UmbrellaBank" (10 : Nat) "java/lang/IllegalStateException" ∈ lw_all := am_wa 1320 rfl rfl
theorem w_1321 : Cond.instantiable "java/lang/IllegalStateException" (6 : Nat) ∈ lw_all := am_wa 1321 rfl rfl
theorem v_1322 : Cond.castable "java/lang/IllegalStateException" "java/lang/IllegalStateException" ∈ lw_tbl := am_wv 1322 rfl
theorem w_1323 : Cond.selects "java/lang/IllegalStateException" ({ cls := "java/lang/Throwable", name := "fillInStackTrace", desc := "(I)Ljava/lang/Throwable;" }) ({ cls := "java/lang/Throwable", name := "fillInStackTrace", desc := "(I)Ljava/lang/Throwable;" }) ∈ lw_all := am_wa 1323 rfl rfl
theorem w_1329 : Cond.methodLink "UmbrellaBank" (12 : Nat) ({ cls := "java/lang/IllegalStateException", name := "<init>", desc := "()V" }) ∈ lw_all := am_wa 1329 rfl rfl
theorem w_1330 : Cond.instanceMethod ({ cls := "java/lang/IllegalStateException", name := "<init>", desc := "()V" }) ∈ lw_all := am_wa 1330 rfl rfl
theorem w_1331 : Cond.code ({ cls := "java/lang/IllegalStateException", name := "<init>", desc := "()V" }) prog_36_method_1_code (1 : Nat) (Option.none : Option FieldType) ∈ lw_all := am_wa 1331 rfl rfl
theorem w_1332 : Cond.methodLink "java/lang/IllegalStateException" (1 : Nat) ({ cls := "java/lang/RuntimeException", name := "<init>", desc := "()V" }) ∈ lw_all := am_wa 1332 rfl rfl
theorem w_1334 : Cond.superclass "java/lang/IllegalStateException" "java/lang/RuntimeException" ∈ lw_all := am_wa 1334 rfl rfl
theorem w_1335 : Cond.methodLink "UmbrellaBank$State" (122 : Nat) ({ cls := "UmbrellaBank$State", name := "depositTotal", desc := "()I" }) ∈ lw_all := am_wa 1335 rfl rfl
theorem w_1336 : Cond.instanceMethod ({ cls := "UmbrellaBank$State", name := "depositTotal", desc := "()I" }) ∈ lw_all := am_wa 1336 rfl rfl
theorem w_1337 : Cond.selects "UmbrellaBank$State" ({ cls := "UmbrellaBank$State", name := "depositTotal", desc := "()I" }) ({ cls := "UmbrellaBank$State", name := "depositTotal", desc := "()I" }) ∈ lw_all := am_wa 1337 rfl rfl
theorem w_1338 : Cond.code ({ cls := "UmbrellaBank$State", name := "depositTotal", desc := "()I" }) prog_20_method_4_code (6 : Nat) (Option.some FieldType.int) ∈ lw_all := am_wa 1338 rfl rfl
theorem w_1339 : Cond.methodLink "UmbrellaBank$State" (125 : Nat) ({ cls := "UmbrellaBank$State", name := "isEnough", desc := "(II)Z" }) ∈ lw_all := am_wa 1339 rfl rfl
theorem w_1340 : Cond.instanceMethod ({ cls := "UmbrellaBank$State", name := "isEnough", desc := "(II)Z" }) ∈ lw_all := am_wa 1340 rfl rfl
theorem w_1341 : Cond.selects "UmbrellaBank$State" ({ cls := "UmbrellaBank$State", name := "isEnough", desc := "(II)Z" }) ({ cls := "UmbrellaBank$State", name := "isEnough", desc := "(II)Z" }) ∈ lw_all := am_wa 1341 rfl rfl
theorem w_1342 : Cond.code ({ cls := "UmbrellaBank$State", name := "isEnough", desc := "(II)Z" }) prog_20_method_6_code (3 : Nat) (Option.some FieldType.boolean) ∈ lw_all := am_wa 1342 rfl rfl
theorem v_1343 : Cond.methodLinkNest "UmbrellaBank$State" (129 : Nat) ({ cls := "UmbrellaBank", name := "checkSupported", desc := "(Z)V" }) "UmbrellaBank" ∈ lw_tbl := am_wv 1343 rfl
theorem w_1344 : Cond.static ({ cls := "UmbrellaBank", name := "checkSupported", desc := "(Z)V" }) ∈ lw_all := am_wa 1344 rfl rfl
theorem w_1345 : Cond.code ({ cls := "UmbrellaBank", name := "checkSupported", desc := "(Z)V" }) prog_1_method_6_code (1 : Nat) (Option.none : Option FieldType) ∈ lw_all := am_wa 1345 rfl rfl
theorem w_1346 : Cond.classLink "UmbrellaBank" (13 : Nat) "java/lang/UnsupportedOperationException" ∈ lw_all := am_wa 1346 rfl rfl
theorem w_1347 : Cond.instantiable "java/lang/UnsupportedOperationException" (6 : Nat) ∈ lw_all := am_wa 1347 rfl rfl
theorem v_1348 : Cond.castable "java/lang/UnsupportedOperationException" "java/lang/UnsupportedOperationException" ∈ lw_tbl := am_wv 1348 rfl
theorem w_1349 : Cond.selects "java/lang/UnsupportedOperationException" ({ cls := "java/lang/Throwable", name := "fillInStackTrace", desc := "(I)Ljava/lang/Throwable;" }) ({ cls := "java/lang/Throwable", name := "fillInStackTrace", desc := "(I)Ljava/lang/Throwable;" }) ∈ lw_all := am_wa 1349 rfl rfl
theorem w_1355 : Cond.methodLink "UmbrellaBank" (15 : Nat) ({ cls := "java/lang/UnsupportedOperationException", name := "<init>", desc := "()V" }) ∈ lw_all := am_wa 1355 rfl rfl
theorem w_1356 : Cond.instanceMethod ({ cls := "java/lang/UnsupportedOperationException", name := "<init>", desc := "()V" }) ∈ lw_all := am_wa 1356 rfl rfl
theorem w_1357 : Cond.code ({ cls := "java/lang/UnsupportedOperationException", name := "<init>", desc := "()V" }) prog_53_method_1_code (1 : Nat) (Option.none : Option FieldType) ∈ lw_all := am_wa 1357 rfl rfl
theorem w_1358 : Cond.methodLink "java/lang/UnsupportedOperationException" (1 : Nat) ({ cls := "java/lang/RuntimeException", name := "<init>", desc := "()V" }) ∈ lw_all := am_wa 1358 rfl rfl
theorem w_1360 : Cond.superclass "java/lang/UnsupportedOperationException" "java/lang/RuntimeException" ∈ lw_all := am_wa 1360 rfl rfl
theorem w_1361 : Cond.classLink "UmbrellaBank$State" (87 : Nat) "UmbrellaBank$Loan" ∈ lw_all := am_wa 1361 rfl rfl
theorem w_1362 : Cond.instantiable "UmbrellaBank$Loan" (5 : Nat) ∈ lw_all := am_wa 1362 rfl rfl
theorem w_1363 : Cond.methodLink "UmbrellaBank$State" (139 : Nat) ({ cls := "UmbrellaBank$Loan", name := "<init>", desc := "(IIII)V" }) ∈ lw_all := am_wa 1363 rfl rfl
theorem w_1364 : Cond.instanceMethod ({ cls := "UmbrellaBank$Loan", name := "<init>", desc := "(IIII)V" }) ∈ lw_all := am_wa 1364 rfl rfl
theorem w_1365 : Cond.code ({ cls := "UmbrellaBank$Loan", name := "<init>", desc := "(IIII)V" }) prog_10_method_1_code (5 : Nat) (Option.none : Option FieldType) ∈ lw_all := am_wa 1365 rfl rfl
theorem w_1366 : Cond.methodLink "UmbrellaBank$Loan" (25 : Nat) ({ cls := "UmbrellaBank$Loan", name := "<init>", desc := "(IIIII)V" }) ∈ lw_all := am_wa 1366 rfl rfl
theorem w_1367 : Cond.instanceMethod ({ cls := "UmbrellaBank$Loan", name := "<init>", desc := "(IIIII)V" }) ∈ lw_all := am_wa 1367 rfl rfl
theorem w_1368 : Cond.code ({ cls := "UmbrellaBank$Loan", name := "<init>", desc := "(IIIII)V" }) prog_10_method_2_code (6 : Nat) (Option.none : Option FieldType) ∈ lw_all := am_wa 1368 rfl rfl
theorem w_1369 : Cond.methodLink "UmbrellaBank$Loan" (1 : Nat) ({ cls := "java/lang/Record", name := "<init>", desc := "()V" }) ∈ lw_all := am_wa 1369 rfl rfl
theorem w_1370 : Cond.instanceMethod ({ cls := "java/lang/Record", name := "<init>", desc := "()V" }) ∈ lw_all := am_wa 1370 rfl rfl
theorem w_1371 : Cond.code ({ cls := "java/lang/Record", name := "<init>", desc := "()V" }) prog_44_method_1_code (1 : Nat) (Option.none : Option FieldType) ∈ lw_all := am_wa 1371 rfl rfl
theorem w_1372 : Cond.methodLink "java/lang/Record" (1 : Nat) ({ cls := "java/lang/Object", name := "<init>", desc := "()V" }) ∈ lw_all := am_wa 1372 rfl rfl
theorem w_1373 : Cond.fieldLink "UmbrellaBank$Loan" (7 : Nat) "UmbrellaBank$Loan" "id" "I" ∈ lw_all := am_wa 1373 rfl rfl
theorem w_1374 : Cond.fieldLink "UmbrellaBank$Loan" (13 : Nat) "UmbrellaBank$Loan" "borrower" "I" ∈ lw_all := am_wa 1374 rfl rfl
theorem w_1375 : Cond.fieldLink "UmbrellaBank$Loan" (16 : Nat) "UmbrellaBank$Loan" "umbrellas" "I" ∈ lw_all := am_wa 1375 rfl rfl
theorem w_1376 : Cond.fieldLink "UmbrellaBank$Loan" (19 : Nat) "UmbrellaBank$Loan" "dueDay" "I" ∈ lw_all := am_wa 1376 rfl rfl
theorem w_1377 : Cond.fieldLink "UmbrellaBank$Loan" (22 : Nat) "UmbrellaBank$Loan" "debt" "I" ∈ lw_all := am_wa 1377 rfl rfl
theorem w_1388 : Cond.superclass "UmbrellaBank$Loan" "java/lang/Record" ∈ lw_all := am_wa 1388 rfl rfl
theorem w_1389 : Cond.methodLink "UmbrellaBank$State" (142 : Nat) ({ cls := "java/util/ArrayList", name := "add", desc := "(Ljava/lang/Object;)Z" }) ∈ lw_all := am_wa 1389 rfl rfl
theorem w_1390 : Cond.instanceMethod ({ cls := "java/util/ArrayList", name := "add", desc := "(Ljava/lang/Object;)Z" }) ∈ lw_all := am_wa 1390 rfl rfl
theorem w_1391 : Cond.selects "java/util/ArrayList" ({ cls := "java/util/ArrayList", name := "add", desc := "(Ljava/lang/Object;)Z" }) ({ cls := "java/util/ArrayList", name := "add", desc := "(Ljava/lang/Object;)Z" }) ∈ lw_all := am_wa 1391 rfl rfl
theorem w_1392 : Cond.code ({ cls := "java/util/ArrayList", name := "add", desc := "(Ljava/lang/Object;)Z" }) prog_63_method_25_code (2 : Nat) (Option.some FieldType.boolean) ∈ lw_all := am_wa 1392 rfl rfl
theorem w_1393 : Cond.methodLink "java/util/ArrayList" (131 : Nat) ({ cls := "java/util/ArrayList", name := "add", desc := "(Ljava/lang/Object;[Ljava/lang/Object;I)V" }) ∈ lw_all := am_wa 1393 rfl rfl
theorem v_1394 : Cond.privateMethod ({ cls := "java/util/ArrayList", name := "add", desc := "(Ljava/lang/Object;[Ljava/lang/Object;I)V" }) ∈ lw_tbl := am_wv 1394 rfl
theorem w_1395 : Cond.instanceMethod ({ cls := "java/util/ArrayList", name := "add", desc := "(Ljava/lang/Object;[Ljava/lang/Object;I)V" }) ∈ lw_all := am_wa 1395 rfl rfl
theorem w_1396 : Cond.code ({ cls := "java/util/ArrayList", name := "add", desc := "(Ljava/lang/Object;[Ljava/lang/Object;I)V" }) prog_63_method_24_code (4 : Nat) (Option.none : Option FieldType) ∈ lw_all := am_wa 1396 rfl rfl
theorem w_1397 : Cond.methodLink "java/util/ArrayList" (129 : Nat) ({ cls := "java/util/ArrayList", name := "grow", desc := "()[Ljava/lang/Object;" }) ∈ lw_all := am_wa 1397 rfl rfl
theorem v_1398 : Cond.privateMethod ({ cls := "java/util/ArrayList", name := "grow", desc := "()[Ljava/lang/Object;" }) ∈ lw_tbl := am_wv 1398 rfl
theorem w_1399 : Cond.instanceMethod ({ cls := "java/util/ArrayList", name := "grow", desc := "()[Ljava/lang/Object;" }) ∈ lw_all := am_wa 1399 rfl rfl
theorem w_1400 : Cond.code ({ cls := "java/util/ArrayList", name := "grow", desc := "()[Ljava/lang/Object;" }) prog_63_method_7_code (1 : Nat) (Option.some (FieldType.array (FieldType.object "java/lang/Object"))) ∈ lw_all := am_wa 1400 rfl rfl
theorem w_1401 : Cond.methodLink "UmbrellaBank$Command" (82 : Nat) ({ cls := "UmbrellaBank$State", name := "giveBack", desc := "(I)I" }) ∈ lw_all := am_wa 1401 rfl rfl
theorem w_1402 : Cond.instanceMethod ({ cls := "UmbrellaBank$State", name := "giveBack", desc := "(I)I" }) ∈ lw_all := am_wa 1402 rfl rfl
theorem w_1403 : Cond.selects "UmbrellaBank$State" ({ cls := "UmbrellaBank$State", name := "giveBack", desc := "(I)I" }) ({ cls := "UmbrellaBank$State", name := "giveBack", desc := "(I)I" }) ∈ lw_all := am_wa 1403 rfl rfl
theorem w_1404 : Cond.code ({ cls := "UmbrellaBank$State", name := "giveBack", desc := "(I)I" }) prog_20_method_15_code (4 : Nat) (Option.some FieldType.int) ∈ lw_all := am_wa 1404 rfl rfl
theorem w_1405 : Cond.methodLink "UmbrellaBank$State" (146 : Nat) ({ cls := "UmbrellaBank$State", name := "loan", desc := "(I)LUmbrellaBank$Loan;" }) ∈ lw_all := am_wa 1405 rfl rfl
theorem w_1406 : Cond.instanceMethod ({ cls := "UmbrellaBank$State", name := "loan", desc := "(I)LUmbrellaBank$Loan;" }) ∈ lw_all := am_wa 1406 rfl rfl
theorem w_1407 : Cond.selects "UmbrellaBank$State" ({ cls := "UmbrellaBank$State", name := "loan", desc := "(I)LUmbrellaBank$Loan;" }) ({ cls := "UmbrellaBank$State", name := "loan", desc := "(I)LUmbrellaBank$Loan;" }) ∈ lw_all := am_wa 1407 rfl rfl
theorem w_1408 : Cond.code ({ cls := "UmbrellaBank$State", name := "loan", desc := "(I)LUmbrellaBank$Loan;" }) prog_20_method_8_code (3 : Nat) (Option.some (FieldType.object "UmbrellaBank$Loan")) ∈ lw_all := am_wa 1408 rfl rfl
theorem w_1409 : Cond.methodLink "UmbrellaBank$State" (103 : Nat) ({ cls := "UmbrellaBank$State", name := "placeOf", desc := "(I)I" }) ∈ lw_all := am_wa 1409 rfl rfl
theorem w_1410 : Cond.instanceMethod ({ cls := "UmbrellaBank$State", name := "placeOf", desc := "(I)I" }) ∈ lw_all := am_wa 1410 rfl rfl
theorem w_1411 : Cond.selects "UmbrellaBank$State" ({ cls := "UmbrellaBank$State", name := "placeOf", desc := "(I)I" }) ({ cls := "UmbrellaBank$State", name := "placeOf", desc := "(I)I" }) ∈ lw_all := am_wa 1411 rfl rfl
theorem w_1412 : Cond.code ({ cls := "UmbrellaBank$State", name := "placeOf", desc := "(I)I" }) prog_20_method_7_code (3 : Nat) (Option.some FieldType.int) ∈ lw_all := am_wa 1412 rfl rfl
theorem w_1413 : Cond.methodLink "UmbrellaBank$State" (96 : Nat) ({ cls := "java/util/ArrayList", name := "get", desc := "(I)Ljava/lang/Object;" }) ∈ lw_all := am_wa 1413 rfl rfl
theorem w_1414 : Cond.methodLink "UmbrellaBank$State" (100 : Nat) ({ cls := "UmbrellaBank$Loan", name := "id", desc := "()I" }) ∈ lw_all := am_wa 1414 rfl rfl
theorem w_1415 : Cond.instanceMethod ({ cls := "UmbrellaBank$Loan", name := "id", desc := "()I" }) ∈ lw_all := am_wa 1415 rfl rfl
theorem w_1416 : Cond.selects "UmbrellaBank$Loan" ({ cls := "UmbrellaBank$Loan", name := "id", desc := "()I" }) ({ cls := "UmbrellaBank$Loan", name := "id", desc := "()I" }) ∈ lw_all := am_wa 1416 rfl rfl
theorem w_1417 : Cond.code ({ cls := "UmbrellaBank$Loan", name := "id", desc := "()I" }) prog_10_method_7_code (1 : Nat) (Option.some FieldType.int) ∈ lw_all := am_wa 1417 rfl rfl
theorem v_1418 : Cond.methodLinkNest "UmbrellaBank$State" (107 : Nat) ({ cls := "UmbrellaBank", name := "checkElement", desc := "(Z)V" }) "UmbrellaBank" ∈ lw_tbl := am_wv 1418 rfl
theorem w_1419 : Cond.methodLink "UmbrellaBank$State" (150 : Nat) ({ cls := "java/util/ArrayList", name := "remove", desc := "(Ljava/lang/Object;)Z" }) ∈ lw_all := am_wa 1419 rfl rfl
theorem w_1420 : Cond.instanceMethod ({ cls := "java/util/ArrayList", name := "remove", desc := "(Ljava/lang/Object;)Z" }) ∈ lw_all := am_wa 1420 rfl rfl
theorem w_1421 : Cond.selects "java/util/ArrayList" ({ cls := "java/util/ArrayList", name := "remove", desc := "(Ljava/lang/Object;)Z" }) ({ cls := "java/util/ArrayList", name := "remove", desc := "(Ljava/lang/Object;)Z" }) ∈ lw_all := am_wa 1421 rfl rfl
theorem w_1422 : Cond.code ({ cls := "java/util/ArrayList", name := "remove", desc := "(Ljava/lang/Object;)Z" }) prog_63_method_38_code (5 : Nat) (Option.some FieldType.boolean) ∈ lw_all := am_wa 1422 rfl rfl
theorem v_1423 : Cond.declares ({ cls := "java/lang/Object", name := "equals", desc := "(Ljava/lang/Object;)Z" }) ∈ lw_tbl := am_wv 1423 rfl
theorem w_1424 : Cond.methodLink "java/util/ArrayList" (93 : Nat) ({ cls := "java/lang/Object", name := "equals", desc := "(Ljava/lang/Object;)Z" }) ∈ lw_all := am_wa 1424 rfl rfl
theorem w_1425 : Cond.instanceMethod ({ cls := "java/lang/Object", name := "equals", desc := "(Ljava/lang/Object;)Z" }) ∈ lw_all := am_wa 1425 rfl rfl
theorem w_1426 : Cond.sameMethod "java/lang/Object" "java/lang/Object" "equals" "(Ljava/lang/Object;)Z" ∈ lw_all := am_wa 1426 rfl rfl
theorem w_1427 : Cond.selects "UmbrellaBank" ({ cls := "java/lang/Object", name := "equals", desc := "(Ljava/lang/Object;)Z" }) ({ cls := "java/lang/Object", name := "equals", desc := "(Ljava/lang/Object;)Z" }) ∈ lw_all := am_wa 1427 rfl rfl
theorem w_1428 : Cond.selects "UmbrellaBank$1" ({ cls := "java/lang/Object", name := "equals", desc := "(Ljava/lang/Object;)Z" }) ({ cls := "java/lang/Object", name := "equals", desc := "(Ljava/lang/Object;)Z" }) ∈ lw_all := am_wa 1428 rfl rfl
theorem w_1429 : Cond.selects "UmbrellaBank$1Window" ({ cls := "java/lang/Object", name := "equals", desc := "(Ljava/lang/Object;)Z" }) ({ cls := "java/lang/Object", name := "equals", desc := "(Ljava/lang/Object;)Z" }) ∈ lw_all := am_wa 1429 rfl rfl
theorem w_1430 : Cond.selects "UmbrellaBank$ByDrops" ({ cls := "java/lang/Object", name := "equals", desc := "(Ljava/lang/Object;)Z" }) ({ cls := "java/lang/Object", name := "equals", desc := "(Ljava/lang/Object;)Z" }) ∈ lw_all := am_wa 1430 rfl rfl
theorem w_1431 : Cond.selects "UmbrellaBank$Calling" ({ cls := "java/lang/Object", name := "equals", desc := "(Ljava/lang/Object;)Z" }) ({ cls := "java/lang/Object", name := "equals", desc := "(Ljava/lang/Object;)Z" }) ∈ lw_all := am_wa 1431 rfl rfl
theorem w_1432 : Cond.selects "UmbrellaBank$Claim" ({ cls := "java/lang/Object", name := "equals", desc := "(Ljava/lang/Object;)Z" }) ({ cls := "UmbrellaBank$Claim", name := "equals", desc := "(Ljava/lang/Object;)Z" }) ∈ lw_all := am_wa 1432 rfl rfl
theorem w_1433 : Cond.instanceMethod ({ cls := "UmbrellaBank$Claim", name := "equals", desc := "(Ljava/lang/Object;)Z" }) ∈ lw_all := am_wa 1433 rfl rfl
theorem w_1434 : Cond.code ({ cls := "UmbrellaBank$Claim", name := "equals", desc := "(Ljava/lang/Object;)Z" }) prog_8_method_4_code (2 : Nat) (Option.some FieldType.boolean) ∈ lw_all := am_wa 1434 rfl rfl
theorem w_1435 : Cond.selects "UmbrellaBank$Command" ({ cls := "java/lang/Object", name := "equals", desc := "(Ljava/lang/Object;)Z" }) ({ cls := "java/lang/Object", name := "equals", desc := "(Ljava/lang/Object;)Z" }) ∈ lw_all := am_wa 1435 rfl rfl
theorem w_1436 : Cond.selects "UmbrellaBank$Loan" ({ cls := "java/lang/Object", name := "equals", desc := "(Ljava/lang/Object;)Z" }) ({ cls := "UmbrellaBank$Loan", name := "equals", desc := "(Ljava/lang/Object;)Z" }) ∈ lw_all := am_wa 1436 rfl rfl
theorem w_1437 : Cond.instanceMethod ({ cls := "UmbrellaBank$Loan", name := "equals", desc := "(Ljava/lang/Object;)Z" }) ∈ lw_all := am_wa 1437 rfl rfl
theorem w_1438 : Cond.code ({ cls := "UmbrellaBank$Loan", name := "equals", desc := "(Ljava/lang/Object;)Z" }) prog_10_method_6_code (2 : Nat) (Option.some FieldType.boolean) ∈ lw_all := am_wa 1438 rfl rfl
theorem w_1439 : Cond.selects "UmbrellaBank$LoanSet" ({ cls := "java/lang/Object", name := "equals", desc := "(Ljava/lang/Object;)Z" }) ({ cls := "java/lang/Object", name := "equals", desc := "(Ljava/lang/Object;)Z" }) ∈ lw_all := am_wa 1439 rfl rfl
theorem w_1440 : Cond.selects "UmbrellaBank$LoanSet$1" ({ cls := "java/lang/Object", name := "equals", desc := "(Ljava/lang/Object;)Z" }) ({ cls := "java/lang/Object", name := "equals", desc := "(Ljava/lang/Object;)Z" }) ∈ lw_all := am_wa 1440 rfl rfl
theorem w_1441 : Cond.selects "UmbrellaBank$Net" ({ cls := "java/lang/Object", name := "equals", desc := "(Ljava/lang/Object;)Z" }) ({ cls := "UmbrellaBank$Net", name := "equals", desc := "(Ljava/lang/Object;)Z" }) ∈ lw_all := am_wa 1441 rfl rfl
theorem w_1442 : Cond.instanceMethod ({ cls := "UmbrellaBank$Net", name := "equals", desc := "(Ljava/lang/Object;)Z" }) ∈ lw_all := am_wa 1442 rfl rfl
theorem w_1443 : Cond.code ({ cls := "UmbrellaBank$Net", name := "equals", desc := "(Ljava/lang/Object;)Z" }) prog_13_method_4_code (2 : Nat) (Option.some FieldType.boolean) ∈ lw_all := am_wa 1443 rfl rfl
theorem w_1444 : Cond.selects "UmbrellaBank$Netting" ({ cls := "java/lang/Object", name := "equals", desc := "(Ljava/lang/Object;)Z" }) ({ cls := "java/lang/Object", name := "equals", desc := "(Ljava/lang/Object;)Z" }) ∈ lw_all := am_wa 1444 rfl rfl
theorem w_1445 : Cond.selects "UmbrellaBank$Netting$1Look" ({ cls := "java/lang/Object", name := "equals", desc := "(Ljava/lang/Object;)Z" }) ({ cls := "java/lang/Object", name := "equals", desc := "(Ljava/lang/Object;)Z" }) ∈ lw_all := am_wa 1445 rfl rfl
theorem w_1446 : Cond.selects "UmbrellaBank$OneDay" ({ cls := "java/lang/Object", name := "equals", desc := "(Ljava/lang/Object;)Z" }) ({ cls := "UmbrellaBank$OneDay", name := "equals", desc := "(Ljava/lang/Object;)Z" }) ∈ lw_all := am_wa 1446 rfl rfl
theorem w_1447 : Cond.instanceMethod ({ cls := "UmbrellaBank$OneDay", name := "equals", desc := "(Ljava/lang/Object;)Z" }) ∈ lw_all := am_wa 1447 rfl rfl
theorem w_1448 : Cond.code ({ cls := "UmbrellaBank$OneDay", name := "equals", desc := "(Ljava/lang/Object;)Z" }) prog_16_method_5_code (2 : Nat) (Option.some FieldType.boolean) ∈ lw_all := am_wa 1448 rfl rfl
theorem w_1449 : Cond.selects "UmbrellaBank$Parser" ({ cls := "java/lang/Object", name := "equals", desc := "(Ljava/lang/Object;)Z" }) ({ cls := "java/lang/Object", name := "equals", desc := "(Ljava/lang/Object;)Z" }) ∈ lw_all := am_wa 1449 rfl rfl
theorem w_1450 : Cond.selects "UmbrellaBank$Script" ({ cls := "java/lang/Object", name := "equals", desc := "(Ljava/lang/Object;)Z" }) ({ cls := "java/lang/Object", name := "equals", desc := "(Ljava/lang/Object;)Z" }) ∈ lw_all := am_wa 1450 rfl rfl
theorem w_1451 : Cond.selects "UmbrellaBank$State" ({ cls := "java/lang/Object", name := "equals", desc := "(Ljava/lang/Object;)Z" }) ({ cls := "java/lang/Object", name := "equals", desc := "(Ljava/lang/Object;)Z" }) ∈ lw_all := am_wa 1451 rfl rfl
theorem w_1452 : Cond.selects "UmbrellaBank$SyntaxError" ({ cls := "java/lang/Object", name := "equals", desc := "(Ljava/lang/Object;)Z" }) ({ cls := "java/lang/Object", name := "equals", desc := "(Ljava/lang/Object;)Z" }) ∈ lw_all := am_wa 1452 rfl rfl
theorem w_1453 : Cond.selects "UmbrellaBank$TwoSpans" ({ cls := "java/lang/Object", name := "equals", desc := "(Ljava/lang/Object;)Z" }) ({ cls := "UmbrellaBank$TwoSpans", name := "equals", desc := "(Ljava/lang/Object;)Z" }) ∈ lw_all := am_wa 1453 rfl rfl
theorem w_1454 : Cond.instanceMethod ({ cls := "UmbrellaBank$TwoSpans", name := "equals", desc := "(Ljava/lang/Object;)Z" }) ∈ lw_all := am_wa 1454 rfl rfl
theorem w_1455 : Cond.code ({ cls := "UmbrellaBank$TwoSpans", name := "equals", desc := "(Ljava/lang/Object;)Z" }) prog_22_method_6_code (2 : Nat) (Option.some FieldType.boolean) ∈ lw_all := am_wa 1455 rfl rfl
theorem w_1456 : Cond.static ({ cls := "java/util/Objects", name := "equals", desc := "(Ljava/lang/Object;Ljava/lang/Object;)Z" }) ∈ lw_all := am_wa 1456 rfl rfl
theorem w_1457 : Cond.code ({ cls := "java/util/Objects", name := "equals", desc := "(Ljava/lang/Object;Ljava/lang/Object;)Z" }) prog_84_method_2_code (2 : Nat) (Option.some FieldType.boolean) ∈ lw_all := am_wa 1457 rfl rfl
theorem w_1458 : Cond.methodLink "java/util/Objects" (14 : Nat) ({ cls := "java/lang/Object", name := "equals", desc := "(Ljava/lang/Object;)Z" }) ∈ lw_all := am_wa 1458 rfl rfl
theorem w_1459 : Cond.instanceMethod ({ cls := "java/lang/Integer", name := "equals", desc := "(Ljava/lang/Object;)Z" }) ∈ lw_all := am_wa 1459 rfl rfl
theorem w_1460 : Cond.code ({ cls := "java/lang/Integer", name := "equals", desc := "(Ljava/lang/Object;)Z" }) prog_38_method_34_code (2 : Nat) (Option.some FieldType.boolean) ∈ lw_all := am_wa 1460 rfl rfl
theorem w_1461 : Cond.classLink "java/lang/Integer" (1 : Nat) "java/lang/Integer" ∈ lw_all := am_wa 1461 rfl rfl
theorem w_1462 : Cond.methodLink "java/lang/Integer" (211 : Nat) ({ cls := "java/lang/Integer", name := "intValue", desc := "()I" }) ∈ lw_all := am_wa 1462 rfl rfl
theorem w_1463 : Cond.instanceMethod ({ cls := "java/lang/Integer", name := "intValue", desc := "()I" }) ∈ lw_all := am_wa 1463 rfl rfl
theorem w_1464 : Cond.selects "java/lang/Integer" ({ cls := "java/lang/Integer", name := "intValue", desc := "()I" }) ({ cls := "java/lang/Integer", name := "intValue", desc := "()I" }) ∈ lw_all := am_wa 1464 rfl rfl
theorem w_1465 : Cond.code ({ cls := "java/lang/Integer", name := "intValue", desc := "()I" }) prog_38_method_27_code (1 : Nat) (Option.some FieldType.int) ∈ lw_all := am_wa 1465 rfl rfl
theorem w_1466 : Cond.selects "UmbrellaBank$Urgency" ({ cls := "java/lang/Object", name := "equals", desc := "(Ljava/lang/Object;)Z" }) ({ cls := "java/lang/Object", name := "equals", desc := "(Ljava/lang/Object;)Z" }) ∈ lw_all := am_wa 1466 rfl rfl
theorem w_1467 : Cond.selects "UmbrellaBankModel" ({ cls := "java/lang/Object", name := "equals", desc := "(Ljava/lang/Object;)Z" }) ({ cls := "java/lang/Object", name := "equals", desc := "(Ljava/lang/Object;)Z" }) ∈ lw_all := am_wa 1467 rfl rfl
theorem w_1468 : Cond.selects "java/lang/ArithmeticException" ({ cls := "java/lang/Object", name := "equals", desc := "(Ljava/lang/Object;)Z" }) ({ cls := "java/lang/Object", name := "equals", desc := "(Ljava/lang/Object;)Z" }) ∈ lw_all := am_wa 1468 rfl rfl
theorem w_1469 : Cond.selects "java/lang/ArrayIndexOutOfBoundsException" ({ cls := "java/lang/Object", name := "equals", desc := "(Ljava/lang/Object;)Z" }) ({ cls := "java/lang/Object", name := "equals", desc := "(Ljava/lang/Object;)Z" }) ∈ lw_all := am_wa 1469 rfl rfl
theorem w_1470 : Cond.selects "java/lang/IllegalArgumentException" ({ cls := "java/lang/Object", name := "equals", desc := "(Ljava/lang/Object;)Z" }) ({ cls := "java/lang/Object", name := "equals", desc := "(Ljava/lang/Object;)Z" }) ∈ lw_all := am_wa 1470 rfl rfl
theorem w_1471 : Cond.selects "java/lang/IllegalStateException" ({ cls := "java/lang/Object", name := "equals", desc := "(Ljava/lang/Object;)Z" }) ({ cls := "java/lang/Object", name := "equals", desc := "(Ljava/lang/Object;)Z" }) ∈ lw_all := am_wa 1471 rfl rfl
theorem w_1472 : Cond.selects "java/lang/IndexOutOfBoundsException" ({ cls := "java/lang/Object", name := "equals", desc := "(Ljava/lang/Object;)Z" }) ({ cls := "java/lang/Object", name := "equals", desc := "(Ljava/lang/Object;)Z" }) ∈ lw_all := am_wa 1472 rfl rfl
theorem w_1473 : Cond.selects "java/lang/Integer" ({ cls := "java/lang/Object", name := "equals", desc := "(Ljava/lang/Object;)Z" }) ({ cls := "java/lang/Integer", name := "equals", desc := "(Ljava/lang/Object;)Z" }) ∈ lw_all := am_wa 1473 rfl rfl
theorem w_1474 : Cond.selects "java/lang/String" ({ cls := "java/lang/Object", name := "equals", desc := "(Ljava/lang/Object;)Z" }) ({ cls := "java/lang/String", name := "equals", desc := "(Ljava/lang/Object;)Z" }) ∈ lw_all := am_wa 1474 rfl rfl
theorem w_1475 : Cond.selects "java/lang/StringBuilder" ({ cls := "java/lang/Object", name := "equals", desc := "(Ljava/lang/Object;)Z" }) ({ cls := "java/lang/Object", name := "equals", desc := "(Ljava/lang/Object;)Z" }) ∈ lw_all := am_wa 1475 rfl rfl
theorem w_1476 : Cond.selects "java/lang/System$2" ({ cls := "java/lang/Object", name := "equals", desc := "(Ljava/lang/Object;)Z" }) ({ cls := "java/lang/Object", name := "equals", desc := "(Ljava/lang/Object;)Z" }) ∈ lw_all := am_wa 1476 rfl rfl
theorem w_1477 : Cond.selects "java/lang/UnsupportedOperationException" ({ cls := "java/lang/Object", name := "equals", desc := "(Ljava/lang/Object;)Z" }) ({ cls := "java/lang/Object", name := "equals", desc := "(Ljava/lang/Object;)Z" }) ∈ lw_all := am_wa 1477 rfl rfl
theorem w_1478 : Cond.selects "jdk/internal/misc/Unsafe" ({ cls := "java/lang/Object", name := "equals", desc := "(Ljava/lang/Object;)Z" }) ({ cls := "java/lang/Object", name := "equals", desc := "(Ljava/lang/Object;)Z" }) ∈ lw_all := am_wa 1478 rfl rfl
theorem w_1479 : Cond.code ({ cls := "java/lang/Object", name := "equals", desc := "(Ljava/lang/Object;)Z" }) object_method_4_code (2 : Nat) (Option.some FieldType.boolean) ∈ lw_all := am_wa 1479 rfl rfl
theorem w_1480 : Cond.methodLink "java/util/ArrayList" (144 : Nat) ({ cls := "java/util/ArrayList", name := "fastRemove", desc := "([Ljava/lang/Object;I)V" }) ∈ lw_all := am_wa 1480 rfl rfl
theorem v_1481 : Cond.privateMethod ({ cls := "java/util/ArrayList", name := "fastRemove", desc := "([Ljava/lang/Object;I)V" }) ∈ lw_tbl := am_wv 1481 rfl
theorem w_1482 : Cond.instanceMethod ({ cls := "java/util/ArrayList", name := "fastRemove", desc := "([Ljava/lang/Object;I)V" }) ∈ lw_all := am_wa 1482 rfl rfl
theorem w_1483 : Cond.code ({ cls := "java/util/ArrayList", name := "fastRemove", desc := "([Ljava/lang/Object;I)V" }) prog_63_method_39_code (4 : Nat) (Option.none : Option FieldType) ∈ lw_all := am_wa 1483 rfl rfl
theorem w_1484 : Cond.methodLink "UmbrellaBank$State" (89 : Nat) ({ cls := "UmbrellaBank$Loan", name := "umbrellas", desc := "()I" }) ∈ lw_all := am_wa 1484 rfl rfl
theorem w_1485 : Cond.instanceMethod ({ cls := "UmbrellaBank$Loan", name := "umbrellas", desc := "()I" }) ∈ lw_all := am_wa 1485 rfl rfl
theorem w_1486 : Cond.selects "UmbrellaBank$Loan" ({ cls := "UmbrellaBank$Loan", name := "umbrellas", desc := "()I" }) ({ cls := "UmbrellaBank$Loan", name := "umbrellas", desc := "()I" }) ∈ lw_all := am_wa 1486 rfl rfl
theorem w_1487 : Cond.code ({ cls := "UmbrellaBank$Loan", name := "umbrellas", desc := "()I" }) prog_10_method_9_code (1 : Nat) (Option.some FieldType.int) ∈ lw_all := am_wa 1487 rfl rfl
theorem w_1488 : Cond.methodLink "UmbrellaBank$State" (153 : Nat) ({ cls := "UmbrellaBank$Loan", name := "debt", desc := "()I" }) ∈ lw_all := am_wa 1488 rfl rfl
theorem w_1489 : Cond.instanceMethod ({ cls := "UmbrellaBank$Loan", name := "debt", desc := "()I" }) ∈ lw_all := am_wa 1489 rfl rfl
theorem w_1490 : Cond.selects "UmbrellaBank$Loan" ({ cls := "UmbrellaBank$Loan", name := "debt", desc := "()I" }) ({ cls := "UmbrellaBank$Loan", name := "debt", desc := "()I" }) ∈ lw_all := am_wa 1490 rfl rfl
theorem w_1491 : Cond.code ({ cls := "UmbrellaBank$Loan", name := "debt", desc := "()I" }) prog_10_method_11_code (1 : Nat) (Option.some FieldType.int) ∈ lw_all := am_wa 1491 rfl rfl
theorem w_1492 : Cond.methodLink "UmbrellaBank$Command" (86 : Nat) ({ cls := "UmbrellaBank$State", name := "callIn", desc := "(I)I" }) ∈ lw_all := am_wa 1492 rfl rfl
theorem w_1493 : Cond.instanceMethod ({ cls := "UmbrellaBank$State", name := "callIn", desc := "(I)I" }) ∈ lw_all := am_wa 1493 rfl rfl
theorem w_1494 : Cond.selects "UmbrellaBank$State" ({ cls := "UmbrellaBank$State", name := "callIn", desc := "(I)I" }) ({ cls := "UmbrellaBank$State", name := "callIn", desc := "(I)I" }) ∈ lw_all := am_wa 1494 rfl rfl
theorem w_1495 : Cond.code ({ cls := "UmbrellaBank$State", name := "callIn", desc := "(I)I" }) prog_20_method_16_code (6 : Nat) (Option.some FieldType.int) ∈ lw_all := am_wa 1495 rfl rfl
theorem w_1496 : Cond.classLink "UmbrellaBank$State" (156 : Nat) "UmbrellaBank$Calling" ∈ lw_all := am_wa 1496 rfl rfl
theorem w_1497 : Cond.instantiable "UmbrellaBank$Calling" (2 : Nat) ∈ lw_all := am_wa 1497 rfl rfl
theorem w_1498 : Cond.methodLink "UmbrellaBank$State" (158 : Nat) ({ cls := "UmbrellaBank$Calling", name := "<init>", desc := "(LUmbrellaBank$State;I)V" }) ∈ lw_all := am_wa 1498 rfl rfl
theorem w_1499 : Cond.instanceMethod ({ cls := "UmbrellaBank$Calling", name := "<init>", desc := "(LUmbrellaBank$State;I)V" }) ∈ lw_all := am_wa 1499 rfl rfl
theorem w_1500 : Cond.code ({ cls := "UmbrellaBank$Calling", name := "<init>", desc := "(LUmbrellaBank$State;I)V" }) prog_6_method_1_code (3 : Nat) (Option.none : Option FieldType) ∈ lw_all := am_wa 1500 rfl rfl
theorem w_1501 : Cond.methodLink "UmbrellaBank$Calling" (3 : Nat) ({ cls := "java/lang/Object", name := "<init>", desc := "()V" }) ∈ lw_all := am_wa 1501 rfl rfl
theorem w_1502 : Cond.fieldLink "UmbrellaBank$Calling" (9 : Nat) "UmbrellaBank$Calling" "of" "LUmbrellaBank$State;" ∈ lw_all := am_wa 1502 rfl rfl
theorem w_1503 : Cond.fieldLink "UmbrellaBank$Calling" (15 : Nat) "UmbrellaBank$Calling" "need" "I" ∈ lw_all := am_wa 1503 rfl rfl
theorem w_1508 : Cond.superclass "UmbrellaBank$Calling" "java/lang/Object" ∈ lw_all := am_wa 1508 rfl rfl
theorem w_1509 : Cond.methodLink "UmbrellaBank$State" (161 : Nat) ({ cls := "UmbrellaBank$Calling", name := "best", desc := "()Ljava/util/Optional;" }) ∈ lw_all := am_wa 1509 rfl rfl
theorem w_1510 : Cond.instanceMethod ({ cls := "UmbrellaBank$Calling", name := "best", desc := "()Ljava/util/Optional;" }) ∈ lw_all := am_wa 1510 rfl rfl
theorem w_1511 : Cond.selects "UmbrellaBank$Calling" ({ cls := "UmbrellaBank$Calling", name := "best", desc := "()Ljava/util/Optional;" }) ({ cls := "UmbrellaBank$Calling", name := "best", desc := "()Ljava/util/Optional;" }) ∈ lw_all := am_wa 1511 rfl rfl
theorem w_1512 : Cond.code ({ cls := "UmbrellaBank$Calling", name := "best", desc := "()Ljava/util/Optional;" }) prog_6_method_5_code (3 : Nat) (Option.some (FieldType.object "java/util/Optional")) ∈ lw_all := am_wa 1512 rfl rfl
theorem w_1513 : Cond.methodLink "UmbrellaBank$Calling" (25 : Nat) ({ cls := "java/util/ArrayList", name := "size", desc := "()I" }) ∈ lw_all := am_wa 1513 rfl rfl
theorem w_1514 : Cond.methodLink "UmbrellaBank$Calling" (59 : Nat) ({ cls := "UmbrellaBank$Calling", name := "umbrellas", desc := "(I)I" }) ∈ lw_all := am_wa 1514 rfl rfl
theorem v_1515 : Cond.privateMethod ({ cls := "UmbrellaBank$Calling", name := "umbrellas", desc := "(I)I" }) ∈ lw_tbl := am_wv 1515 rfl
theorem w_1516 : Cond.instanceMethod ({ cls := "UmbrellaBank$Calling", name := "umbrellas", desc := "(I)I" }) ∈ lw_all := am_wa 1516 rfl rfl
theorem w_1517 : Cond.code ({ cls := "UmbrellaBank$Calling", name := "umbrellas", desc := "(I)I" }) prog_6_method_2_code (4 : Nat) (Option.some FieldType.int) ∈ lw_all := am_wa 1517 rfl rfl
theorem v_1518 : Cond.methodLinkNest "UmbrellaBank$Calling" (31 : Nat) ({ cls := "UmbrellaBank", name := "has", desc := "(II)Z" }) "UmbrellaBank" ∈ lw_tbl := am_wv 1518 rfl
theorem w_1519 : Cond.static ({ cls := "UmbrellaBank", name := "has", desc := "(II)Z" }) ∈ lw_all := am_wa 1519 rfl rfl
theorem w_1520 : Cond.code ({ cls := "UmbrellaBank", name := "has", desc := "(II)Z" }) prog_1_method_2_code (2 : Nat) (Option.some FieldType.boolean) ∈ lw_all := am_wa 1520 rfl rfl
theorem w_1521 : Cond.methodLink "UmbrellaBank$Calling" (35 : Nat) ({ cls := "java/util/ArrayList", name := "get", desc := "(I)Ljava/lang/Object;" }) ∈ lw_all := am_wa 1521 rfl rfl
theorem w_1522 : Cond.classLink "UmbrellaBank$Calling" (39 : Nat) "UmbrellaBank$Loan" ∈ lw_all := am_wa 1522 rfl rfl
theorem w_1523 : Cond.methodLink "UmbrellaBank$Calling" (41 : Nat) ({ cls := "UmbrellaBank$Loan", name := "umbrellas", desc := "()I" }) ∈ lw_all := am_wa 1523 rfl rfl
theorem w_1524 : Cond.methodLink "UmbrellaBank$Calling" (61 : Nat) ({ cls := "UmbrellaBank$Calling", name := "isBetter", desc := "(II)Z" }) ∈ lw_all := am_wa 1524 rfl rfl
theorem v_1525 : Cond.privateMethod ({ cls := "UmbrellaBank$Calling", name := "isBetter", desc := "(II)Z" }) ∈ lw_tbl := am_wv 1525 rfl
theorem w_1526 : Cond.instanceMethod ({ cls := "UmbrellaBank$Calling", name := "isBetter", desc := "(II)Z" }) ∈ lw_all := am_wa 1526 rfl rfl
theorem w_1527 : Cond.code ({ cls := "UmbrellaBank$Calling", name := "isBetter", desc := "(II)Z" }) prog_6_method_4_code (3 : Nat) (Option.some FieldType.boolean) ∈ lw_all := am_wa 1527 rfl rfl
theorem w_1528 : Cond.methodLink "UmbrellaBank$Calling" (47 : Nat) ({ cls := "UmbrellaBank$Calling", name := "debts", desc := "(I)I" }) ∈ lw_all := am_wa 1528 rfl rfl
theorem v_1529 : Cond.privateMethod ({ cls := "UmbrellaBank$Calling", name := "debts", desc := "(I)I" }) ∈ lw_tbl := am_wv 1529 rfl
theorem w_1530 : Cond.instanceMethod ({ cls := "UmbrellaBank$Calling", name := "debts", desc := "(I)I" }) ∈ lw_all := am_wa 1530 rfl rfl
theorem w_1531 : Cond.code ({ cls := "UmbrellaBank$Calling", name := "debts", desc := "(I)I" }) prog_6_method_3_code (4 : Nat) (Option.some FieldType.int) ∈ lw_all := am_wa 1531 rfl rfl
theorem w_1532 : Cond.methodLink "UmbrellaBank$Calling" (44 : Nat) ({ cls := "UmbrellaBank$Loan", name := "debt", desc := "()I" }) ∈ lw_all := am_wa 1532 rfl rfl
theorem w_1533 : Cond.methodLink "UmbrellaBank$Calling" (51 : Nat) ({ cls := "java/lang/Integer", name := "bitCount", desc := "(I)I" }) ∈ lw_all := am_wa 1533 rfl rfl
theorem w_1534 : Cond.static ({ cls := "java/lang/Integer", name := "bitCount", desc := "(I)I" }) ∈ lw_all := am_wa 1534 rfl rfl
theorem w_1535 : Cond.code ({ cls := "java/lang/Integer", name := "bitCount", desc := "(I)I" }) prog_38_method_49_code (1 : Nat) (Option.some FieldType.int) ∈ lw_all := am_wa 1535 rfl rfl
theorem w_1536 : Cond.constant "java/lang/Integer" (265 : Nat) (1431655765 : Int32) ∈ lw_all := am_wa 1536 rfl rfl
theorem w_1537 : Cond.constant "java/lang/Integer" (266 : Nat) (858993459 : Int32) ∈ lw_all := am_wa 1537 rfl rfl
theorem w_1538 : Cond.constant "java/lang/Integer" (267 : Nat) (252645135 : Int32) ∈ lw_all := am_wa 1538 rfl rfl
theorem w_1539 : Cond.methodLink "UmbrellaBank$Calling" (56 : Nat) ({ cls := "java/lang/Integer", name := "numberOfTrailingZeros", desc := "(I)I" }) ∈ lw_all := am_wa 1539 rfl rfl
theorem w_1540 : Cond.methodLink "UmbrellaBank$Calling" (64 : Nat) ({ cls := "java/util/Optional", name := "empty", desc := "()Ljava/util/Optional;" }) ∈ lw_all := am_wa 1540 rfl rfl
theorem w_1541 : Cond.static ({ cls := "java/util/Optional", name := "empty", desc := "()Ljava/util/Optional;" }) ∈ lw_all := am_wa 1541 rfl rfl
theorem w_1542 : Cond.code ({ cls := "java/util/Optional", name := "empty", desc := "()Ljava/util/Optional;" }) prog_85_method_1_code (1 : Nat) (Option.some (FieldType.object "java/util/Optional")) ∈ lw_all := am_wa 1542 rfl rfl
theorem w_1543 : Cond.fieldLink "java/util/Optional" (1 : Nat) "java/util/Optional" "EMPTY" "Ljava/util/Optional;" ∈ lw_all := am_wa 1543 rfl rfl
theorem w_1545 : Cond.classLink "UmbrellaBank$Calling" (70 : Nat) "UmbrellaBank$LoanSet" ∈ lw_all := am_wa 1545 rfl rfl
theorem w_1546 : Cond.instantiable "UmbrellaBank$LoanSet" (2 : Nat) ∈ lw_all := am_wa 1546 rfl rfl
theorem w_1547 : Cond.methodLink "UmbrellaBank$Calling" (72 : Nat) ({ cls := "UmbrellaBank$LoanSet", name := "<init>", desc := "(LUmbrellaBank$State;I)V" }) ∈ lw_all := am_wa 1547 rfl rfl
theorem w_1548 : Cond.instanceMethod ({ cls := "UmbrellaBank$LoanSet", name := "<init>", desc := "(LUmbrellaBank$State;I)V" }) ∈ lw_all := am_wa 1548 rfl rfl
theorem w_1549 : Cond.code ({ cls := "UmbrellaBank$LoanSet", name := "<init>", desc := "(LUmbrellaBank$State;I)V" }) prog_11_method_1_code (3 : Nat) (Option.none : Option FieldType) ∈ lw_all := am_wa 1549 rfl rfl
theorem w_1550 : Cond.methodLink "UmbrellaBank$LoanSet" (1 : Nat) ({ cls := "java/lang/Object", name := "<init>", desc := "()V" }) ∈ lw_all := am_wa 1550 rfl rfl
theorem w_1551 : Cond.fieldLink "UmbrellaBank$LoanSet" (7 : Nat) "UmbrellaBank$LoanSet" "of" "LUmbrellaBank$State;" ∈ lw_all := am_wa 1551 rfl rfl
theorem v_1552 : Cond.fieldLinkNest "UmbrellaBank$LoanSet$1" (34 : Nat) "UmbrellaBank$LoanSet" "of" "LUmbrellaBank$State;" "UmbrellaBank" ∈ lw_tbl := am_wv 1552 rfl
theorem w_1553 : Cond.fieldLink "UmbrellaBank$LoanSet" (13 : Nat) "UmbrellaBank$LoanSet" "places" "I" ∈ lw_all := am_wa 1553 rfl rfl
theorem v_1554 : Cond.fieldLinkNest "UmbrellaBank$LoanSet$1" (13 : Nat) "UmbrellaBank$LoanSet" "places" "I" "UmbrellaBank" ∈ lw_tbl := am_wv 1554 rfl
theorem w_1559 : Cond.superclass "UmbrellaBank$LoanSet" "java/lang/Object" ∈ lw_all := am_wa 1559 rfl rfl
theorem w_1560 : Cond.methodLink "UmbrellaBank$Calling" (75 : Nat) ({ cls := "java/util/Optional", name := "of", desc := "(Ljava/lang/Object;)Ljava/util/Optional;" }) ∈ lw_all := am_wa 1560 rfl rfl
theorem w_1561 : Cond.static ({ cls := "java/util/Optional", name := "of", desc := "(Ljava/lang/Object;)Ljava/util/Optional;" }) ∈ lw_all := am_wa 1561 rfl rfl
theorem w_1562 : Cond.code ({ cls := "java/util/Optional", name := "of", desc := "(Ljava/lang/Object;)Ljava/util/Optional;" }) prog_85_method_3_code (1 : Nat) (Option.some (FieldType.object "java/util/Optional")) ∈ lw_all := am_wa 1562 rfl rfl
theorem w_1563 : Cond.classLink "java/util/Optional" (2 : Nat) "java/util/Optional" ∈ lw_all := am_wa 1563 rfl rfl
theorem w_1564 : Cond.instantiable "java/util/Optional" (1 : Nat) ∈ lw_all := am_wa 1564 rfl rfl
theorem w_1565 : Cond.methodLink "java/util/Optional" (17 : Nat) ({ cls := "java/util/Objects", name := "requireNonNull", desc := "(Ljava/lang/Object;)Ljava/lang/Object;" }) ∈ lw_all := am_wa 1565 rfl rfl
theorem w_1566 : Cond.static ({ cls := "java/util/Objects", name := "requireNonNull", desc := "(Ljava/lang/Object;)Ljava/lang/Object;" }) ∈ lw_all := am_wa 1566 rfl rfl
theorem w_1567 : Cond.code ({ cls := "java/util/Objects", name := "requireNonNull", desc := "(Ljava/lang/Object;)Ljava/lang/Object;" }) prog_84_method_10_code (1 : Nat) (Option.some (FieldType.object "java/lang/Object")) ∈ lw_all := am_wa 1567 rfl rfl
theorem w_1568 : Cond.methodLink "java/util/Optional" (23 : Nat) ({ cls := "java/util/Optional", name := "<init>", desc := "(Ljava/lang/Object;)V" }) ∈ lw_all := am_wa 1568 rfl rfl
theorem w_1569 : Cond.instanceMethod ({ cls := "java/util/Optional", name := "<init>", desc := "(Ljava/lang/Object;)V" }) ∈ lw_all := am_wa 1569 rfl rfl
theorem w_1570 : Cond.code ({ cls := "java/util/Optional", name := "<init>", desc := "(Ljava/lang/Object;)V" }) prog_85_method_2_code (2 : Nat) (Option.none : Option FieldType) ∈ lw_all := am_wa 1570 rfl rfl
theorem w_1571 : Cond.methodLink "java/util/Optional" (7 : Nat) ({ cls := "java/lang/Object", name := "<init>", desc := "()V" }) ∈ lw_all := am_wa 1571 rfl rfl
theorem w_1572 : Cond.fieldLink "java/util/Optional" (13 : Nat) "java/util/Optional" "value" "Ljava/lang/Object;" ∈ lw_all := am_wa 1572 rfl rfl
theorem w_1575 : Cond.superclass "java/util/Optional" "java/lang/Object" ∈ lw_all := am_wa 1575 rfl rfl
theorem w_1576 : Cond.methodLink "UmbrellaBank$State" (165 : Nat) ({ cls := "java/util/Optional", name := "isPresent", desc := "()Z" }) ∈ lw_all := am_wa 1576 rfl rfl
theorem w_1577 : Cond.instanceMethod ({ cls := "java/util/Optional", name := "isPresent", desc := "()Z" }) ∈ lw_all := am_wa 1577 rfl rfl
theorem w_1578 : Cond.selects "java/util/Optional" ({ cls := "java/util/Optional", name := "isPresent", desc := "()Z" }) ({ cls := "java/util/Optional", name := "isPresent", desc := "()Z" }) ∈ lw_all := am_wa 1578 rfl rfl
theorem w_1579 : Cond.code ({ cls := "java/util/Optional", name := "isPresent", desc := "()Z" }) prog_85_method_6_code (1 : Nat) (Option.some FieldType.boolean) ∈ lw_all := am_wa 1579 rfl rfl
theorem w_1580 : Cond.methodLink "UmbrellaBank$State" (170 : Nat) ({ cls := "java/util/Optional", name := "get", desc := "()Ljava/lang/Object;" }) ∈ lw_all := am_wa 1580 rfl rfl
theorem w_1581 : Cond.instanceMethod ({ cls := "java/util/Optional", name := "get", desc := "()Ljava/lang/Object;" }) ∈ lw_all := am_wa 1581 rfl rfl
theorem w_1582 : Cond.selects "java/util/Optional" ({ cls := "java/util/Optional", name := "get", desc := "()Ljava/lang/Object;" }) ({ cls := "java/util/Optional", name := "get", desc := "()Ljava/lang/Object;" }) ∈ lw_all := am_wa 1582 rfl rfl
theorem w_1583 : Cond.code ({ cls := "java/util/Optional", name := "get", desc := "()Ljava/lang/Object;" }) prog_85_method_5_code (1 : Nat) (Option.some (FieldType.object "java/lang/Object")) ∈ lw_all := am_wa 1583 rfl rfl
theorem w_1584 : Cond.classLink "java/util/Optional" (26 : Nat) "java/util/NoSuchElementException" ∈ lw_all := am_wa 1584 rfl rfl
theorem w_1586 : Cond.methodLink "java/util/Optional" (30 : Nat) ({ cls := "java/util/NoSuchElementException", name := "<init>", desc := "(Ljava/lang/String;)V" }) ∈ lw_all := am_wa 1586 rfl rfl
theorem w_1587 : Cond.instanceMethod ({ cls := "java/util/NoSuchElementException", name := "<init>", desc := "(Ljava/lang/String;)V" }) ∈ lw_all := am_wa 1587 rfl rfl
theorem w_1588 : Cond.code ({ cls := "java/util/NoSuchElementException", name := "<init>", desc := "(Ljava/lang/String;)V" }) prog_83_method_4_code (2 : Nat) (Option.none : Option FieldType) ∈ lw_all := am_wa 1588 rfl rfl
theorem w_1589 : Cond.methodLink "java/util/NoSuchElementException" (13 : Nat) ({ cls := "java/lang/RuntimeException", name := "<init>", desc := "(Ljava/lang/String;)V" }) ∈ lw_all := am_wa 1589 rfl rfl
theorem w_1590 : Cond.classLink "UmbrellaBank$State" (172 : Nat) "UmbrellaBank$LoanSet" ∈ lw_all := am_wa 1590 rfl rfl
theorem w_1591 : Cond.methodLink "UmbrellaBank$State" (174 : Nat) ({ cls := "UmbrellaBank$LoanSet", name := "iterator", desc := "()Ljava/util/Iterator;" }) ∈ lw_all := am_wa 1591 rfl rfl
theorem w_1592 : Cond.instanceMethod ({ cls := "UmbrellaBank$LoanSet", name := "iterator", desc := "()Ljava/util/Iterator;" }) ∈ lw_all := am_wa 1592 rfl rfl
theorem w_1593 : Cond.selects "UmbrellaBank$LoanSet" ({ cls := "UmbrellaBank$LoanSet", name := "iterator", desc := "()Ljava/util/Iterator;" }) ({ cls := "UmbrellaBank$LoanSet", name := "iterator", desc := "()Ljava/util/Iterator;" }) ∈ lw_all := am_wa 1593 rfl rfl
theorem w_1594 : Cond.code ({ cls := "UmbrellaBank$LoanSet", name := "iterator", desc := "()Ljava/util/Iterator;" }) prog_11_method_2_code (1 : Nat) (Option.some (FieldType.object "java/util/Iterator")) ∈ lw_all := am_wa 1594 rfl rfl
theorem w_1595 : Cond.classLink "UmbrellaBank$LoanSet" (17 : Nat) "UmbrellaBank$LoanSet$1" ∈ lw_all := am_wa 1595 rfl rfl
theorem w_1596 : Cond.instantiable "UmbrellaBank$LoanSet$1" (2 : Nat) ∈ lw_all := am_wa 1596 rfl rfl
theorem w_1597 : Cond.methodLink "UmbrellaBank$LoanSet" (19 : Nat) ({ cls := "UmbrellaBank$LoanSet$1", name := "<init>", desc := "(LUmbrellaBank$LoanSet;)V" }) ∈ lw_all := am_wa 1597 rfl rfl
theorem w_1598 : Cond.instanceMethod ({ cls := "UmbrellaBank$LoanSet$1", name := "<init>", desc := "(LUmbrellaBank$LoanSet;)V" }) ∈ lw_all := am_wa 1598 rfl rfl
theorem w_1599 : Cond.code ({ cls := "UmbrellaBank$LoanSet$1", name := "<init>", desc := "(LUmbrellaBank$LoanSet;)V" }) prog_12_method_1_code (2 : Nat) (Option.none : Option FieldType) ∈ lw_all := am_wa 1599 rfl rfl
theorem w_1600 : Cond.methodLink "UmbrellaBank$LoanSet$1" (7 : Nat) ({ cls := "java/lang/Object", name := "<init>", desc := "()V" }) ∈ lw_all := am_wa 1600 rfl rfl
theorem w_1601 : Cond.fieldLink "UmbrellaBank$LoanSet$1" (19 : Nat) "UmbrellaBank$LoanSet$1" "left" "I" ∈ lw_all := am_wa 1601 rfl rfl
theorem w_1602 : Cond.fieldLink "UmbrellaBank$LoanSet$1" (1 : Nat) "UmbrellaBank$LoanSet$1" "this$0" "LUmbrellaBank$LoanSet;" ∈ lw_all := am_wa 1602 rfl rfl
theorem w_1607 : Cond.superclass "UmbrellaBank$LoanSet$1" "java/lang/Object" ∈ lw_all := am_wa 1607 rfl rfl
theorem w_1609 : Cond.methodLink "UmbrellaBank$State" (77 : Nat) ({ cls := "java/util/Iterator", name := "hasNext", desc := "()Z" }) ∈ lw_all := am_wa 1609 rfl rfl
theorem w_1611 : Cond.methodLink "UmbrellaBank$State" (83 : Nat) ({ cls := "java/util/Iterator", name := "next", desc := "()Ljava/lang/Object;" }) ∈ lw_all := am_wa 1611 rfl rfl
theorem w_1612 : Cond.methodLink "UmbrellaBank$State" (175 : Nat) ({ cls := "UmbrellaBank$LoanSet", name := "loans", desc := "()Ljava/util/ArrayList;" }) ∈ lw_all := am_wa 1612 rfl rfl
theorem w_1613 : Cond.instanceMethod ({ cls := "UmbrellaBank$LoanSet", name := "loans", desc := "()Ljava/util/ArrayList;" }) ∈ lw_all := am_wa 1613 rfl rfl
theorem w_1614 : Cond.selects "UmbrellaBank$LoanSet" ({ cls := "UmbrellaBank$LoanSet", name := "loans", desc := "()Ljava/util/ArrayList;" }) ({ cls := "UmbrellaBank$LoanSet", name := "loans", desc := "()Ljava/util/ArrayList;" }) ∈ lw_all := am_wa 1614 rfl rfl
theorem w_1615 : Cond.code ({ cls := "UmbrellaBank$LoanSet", name := "loans", desc := "()Ljava/util/ArrayList;" }) prog_11_method_3_code (4 : Nat) (Option.some (FieldType.object "java/util/ArrayList")) ∈ lw_all := am_wa 1615 rfl rfl
theorem w_1616 : Cond.classLink "UmbrellaBank$LoanSet" (22 : Nat) "java/util/ArrayList" ∈ lw_all := am_wa 1616 rfl rfl
theorem w_1617 : Cond.methodLink "UmbrellaBank$LoanSet" (24 : Nat) ({ cls := "java/util/ArrayList", name := "<init>", desc := "()V" }) ∈ lw_all := am_wa 1617 rfl rfl
theorem w_1618 : Cond.methodLink "UmbrellaBank$LoanSet" (25 : Nat) ({ cls := "UmbrellaBank$LoanSet", name := "iterator", desc := "()Ljava/util/Iterator;" }) ∈ lw_all := am_wa 1618 rfl rfl
theorem w_1620 : Cond.methodLink "UmbrellaBank$LoanSet" (29 : Nat) ({ cls := "java/util/Iterator", name := "hasNext", desc := "()Z" }) ∈ lw_all := am_wa 1620 rfl rfl
theorem w_1622 : Cond.methodLink "UmbrellaBank$LoanSet" (35 : Nat) ({ cls := "java/util/Iterator", name := "next", desc := "()Ljava/lang/Object;" }) ∈ lw_all := am_wa 1622 rfl rfl
theorem w_1623 : Cond.classLink "UmbrellaBank$LoanSet" (39 : Nat) "UmbrellaBank$Loan" ∈ lw_all := am_wa 1623 rfl rfl
theorem w_1624 : Cond.methodLink "UmbrellaBank$LoanSet" (41 : Nat) ({ cls := "java/util/ArrayList", name := "add", desc := "(Ljava/lang/Object;)Z" }) ∈ lw_all := am_wa 1624 rfl rfl
theorem w_1625 : Cond.methodLink "UmbrellaBank$State" (178 : Nat) ({ cls := "java/util/ArrayList", name := "removeAll", desc := "(Ljava/util/Collection;)Z" }) ∈ lw_all := am_wa 1625 rfl rfl
theorem w_1626 : Cond.instanceMethod ({ cls := "java/util/ArrayList", name := "removeAll", desc := "(Ljava/util/Collection;)Z" }) ∈ lw_all := am_wa 1626 rfl rfl
theorem w_1627 : Cond.selects "java/util/ArrayList" ({ cls := "java/util/ArrayList", name := "removeAll", desc := "(Ljava/util/Collection;)Z" }) ({ cls := "java/util/ArrayList", name := "removeAll", desc := "(Ljava/util/Collection;)Z" }) ∈ lw_all := am_wa 1627 rfl rfl
theorem w_1628 : Cond.code ({ cls := "java/util/ArrayList", name := "removeAll", desc := "(Ljava/util/Collection;)Z" }) prog_63_method_48_code (2 : Nat) (Option.some FieldType.boolean) ∈ lw_all := am_wa 1628 rfl rfl
theorem w_1629 : Cond.methodLink "java/util/ArrayList" (209 : Nat) ({ cls := "java/util/ArrayList", name := "batchRemove", desc := "(Ljava/util/Collection;ZII)Z" }) ∈ lw_all := am_wa 1629 rfl rfl
theorem w_1630 : Cond.instanceMethod ({ cls := "java/util/ArrayList", name := "batchRemove", desc := "(Ljava/util/Collection;ZII)Z" }) ∈ lw_all := am_wa 1630 rfl rfl
theorem w_1631 : Cond.selects "java/util/ArrayList" ({ cls := "java/util/ArrayList", name := "batchRemove", desc := "(Ljava/util/Collection;ZII)Z" }) ({ cls := "java/util/ArrayList", name := "batchRemove", desc := "(Ljava/util/Collection;ZII)Z" }) ∈ lw_all := am_wa 1631 rfl rfl
theorem w_1632 : Cond.codeWith ({ cls := "java/util/ArrayList", name := "batchRemove", desc := "(Ljava/util/Collection;ZII)Z" }) prog_63_method_50_code (10 : Nat) (Option.some FieldType.boolean) [((54 : Nat), (95 : Nat), (122 : Nat), (220 : Nat)), ((54 : Nat), (95 : Nat), (153 : Nat), (0 : Nat)), ((122 : Nat), (155 : Nat), (153 : Nat), (0 : Nat))] ∈ lw_all := am_wa 1632 rfl rfl
theorem w_1633 : Cond.methodLink "java/util/ArrayList" (213 : Nat) ({ cls := "java/util/Objects", name := "requireNonNull", desc := "(Ljava/lang/Object;)Ljava/lang/Object;" }) ∈ lw_all := am_wa 1633 rfl rfl
theorem w_1635 : Cond.methodLink "java/util/ArrayList" (217 : Nat) ({ cls := "java/util/Collection", name := "contains", desc := "(Ljava/lang/Object;)Z" }) ∈ lw_all := am_wa 1635 rfl rfl
theorem v_1636 : Cond.interfaceMethod "java/util/Collection" "java/util/Collection" "contains" "(Ljava/lang/Object;)Z" ∈ lw_tbl := am_wv 1636 rfl
theorem v_1637 : Cond.declares ({ cls := "java/util/Collection", name := "contains", desc := "(Ljava/lang/Object;)Z" }) ∈ lw_tbl := am_wv 1637 rfl
theorem w_1638 : Cond.selects "java/util/ArrayDeque" ({ cls := "java/util/Collection", name := "contains", desc := "(Ljava/lang/Object;)Z" }) ({ cls := "java/util/ArrayDeque", name := "contains", desc := "(Ljava/lang/Object;)Z" }) ∈ lw_all := am_wa 1638 rfl rfl
theorem v_1639 : Cond.unhidden "java/util/ArrayDeque" "contains" "(Ljava/lang/Object;)Z" ∈ lw_tbl := am_wv 1639 rfl
theorem w_1640 : Cond.instanceMethod ({ cls := "java/util/ArrayDeque", name := "contains", desc := "(Ljava/lang/Object;)Z" }) ∈ lw_all := am_wa 1640 rfl rfl
theorem v_1641 : Cond.publicMethod ({ cls := "java/util/ArrayDeque", name := "contains", desc := "(Ljava/lang/Object;)Z" }) ∈ lw_tbl := am_wv 1641 rfl
theorem w_1642 : Cond.code ({ cls := "java/util/ArrayDeque", name := "contains", desc := "(Ljava/lang/Object;)Z" }) prog_61_method_51_code (6 : Nat) (Option.some FieldType.boolean) ∈ lw_all := am_wa 1642 rfl rfl
theorem w_1643 : Cond.methodLink "java/util/ArrayDeque" (107 : Nat) ({ cls := "java/lang/Object", name := "equals", desc := "(Ljava/lang/Object;)Z" }) ∈ lw_all := am_wa 1643 rfl rfl
theorem w_1644 : Cond.selects "java/util/ArrayList" ({ cls := "java/util/Collection", name := "contains", desc := "(Ljava/lang/Object;)Z" }) ({ cls := "java/util/ArrayList", name := "contains", desc := "(Ljava/lang/Object;)Z" }) ∈ lw_all := am_wa 1644 rfl rfl
theorem v_1645 : Cond.unhidden "java/util/ArrayList" "contains" "(Ljava/lang/Object;)Z" ∈ lw_tbl := am_wv 1645 rfl
theorem w_1646 : Cond.instanceMethod ({ cls := "java/util/ArrayList", name := "contains", desc := "(Ljava/lang/Object;)Z" }) ∈ lw_all := am_wa 1646 rfl rfl
theorem v_1647 : Cond.publicMethod ({ cls := "java/util/ArrayList", name := "contains", desc := "(Ljava/lang/Object;)Z" }) ∈ lw_tbl := am_wv 1647 rfl
theorem w_1648 : Cond.code ({ cls := "java/util/ArrayList", name := "contains", desc := "(Ljava/lang/Object;)Z" }) prog_63_method_10_code (2 : Nat) (Option.some FieldType.boolean) ∈ lw_all := am_wa 1648 rfl rfl
theorem w_1649 : Cond.methodLink "java/util/ArrayList" (85 : Nat) ({ cls := "java/util/ArrayList", name := "indexOf", desc := "(Ljava/lang/Object;)I" }) ∈ lw_all := am_wa 1649 rfl rfl
theorem w_1650 : Cond.instanceMethod ({ cls := "java/util/ArrayList", name := "indexOf", desc := "(Ljava/lang/Object;)I" }) ∈ lw_all := am_wa 1650 rfl rfl
theorem w_1651 : Cond.selects "java/util/ArrayList" ({ cls := "java/util/ArrayList", name := "indexOf", desc := "(Ljava/lang/Object;)I" }) ({ cls := "java/util/ArrayList", name := "indexOf", desc := "(Ljava/lang/Object;)I" }) ∈ lw_all := am_wa 1651 rfl rfl
theorem w_1652 : Cond.code ({ cls := "java/util/ArrayList", name := "indexOf", desc := "(Ljava/lang/Object;)I" }) prog_63_method_11_code (2 : Nat) (Option.some FieldType.int) ∈ lw_all := am_wa 1652 rfl rfl
theorem w_1653 : Cond.methodLink "java/util/ArrayList" (89 : Nat) ({ cls := "java/util/ArrayList", name := "indexOfRange", desc := "(Ljava/lang/Object;II)I" }) ∈ lw_all := am_wa 1653 rfl rfl
theorem w_1654 : Cond.instanceMethod ({ cls := "java/util/ArrayList", name := "indexOfRange", desc := "(Ljava/lang/Object;II)I" }) ∈ lw_all := am_wa 1654 rfl rfl
theorem w_1655 : Cond.selects "java/util/ArrayList" ({ cls := "java/util/ArrayList", name := "indexOfRange", desc := "(Ljava/lang/Object;II)I" }) ({ cls := "java/util/ArrayList", name := "indexOfRange", desc := "(Ljava/lang/Object;II)I" }) ∈ lw_all := am_wa 1655 rfl rfl
theorem w_1656 : Cond.code ({ cls := "java/util/ArrayList", name := "indexOfRange", desc := "(Ljava/lang/Object;II)I" }) prog_63_method_12_code (6 : Nat) (Option.some FieldType.int) ∈ lw_all := am_wa 1656 rfl rfl
theorem w_1657 : Cond.selects "java/util/ImmutableCollections$List12" ({ cls := "java/util/Collection", name := "contains", desc := "(Ljava/lang/Object;)Z" }) ({ cls := "java/util/ImmutableCollections$AbstractImmutableList", name := "contains", desc := "(Ljava/lang/Object;)Z" }) ∈ lw_all := am_wa 1657 rfl rfl
theorem v_1658 : Cond.unhidden "java/util/ImmutableCollections$List12" "contains" "(Ljava/lang/Object;)Z" ∈ lw_tbl := am_wv 1658 rfl
theorem w_1659 : Cond.instanceMethod ({ cls := "java/util/ImmutableCollections$AbstractImmutableList", name := "contains", desc := "(Ljava/lang/Object;)Z" }) ∈ lw_all := am_wa 1659 rfl rfl
theorem v_1660 : Cond.publicMethod ({ cls := "java/util/ImmutableCollections$AbstractImmutableList", name := "contains", desc := "(Ljava/lang/Object;)Z" }) ∈ lw_tbl := am_wv 1660 rfl
theorem w_1661 : Cond.code ({ cls := "java/util/ImmutableCollections$AbstractImmutableList", name := "contains", desc := "(Ljava/lang/Object;)Z" }) prog_72_method_15_code (2 : Nat) (Option.some FieldType.boolean) ∈ lw_all := am_wa 1661 rfl rfl
theorem w_1662 : Cond.superclass "java/util/ImmutableCollections$AbstractImmutableList" "java/util/ImmutableCollections$AbstractImmutableCollection" ∈ lw_all := am_wa 1662 rfl rfl
theorem v_1663 : Cond.declares ({ cls := "java/util/List", name := "indexOf", desc := "(Ljava/lang/Object;)I" }) ∈ lw_tbl := am_wv 1663 rfl
theorem w_1664 : Cond.selects "java/util/ImmutableCollections$List12" ({ cls := "java/util/List", name := "indexOf", desc := "(Ljava/lang/Object;)I" }) ({ cls := "java/util/ImmutableCollections$List12", name := "indexOf", desc := "(Ljava/lang/Object;)I" }) ∈ lw_all := am_wa 1664 rfl rfl
theorem w_1665 : Cond.instanceMethod ({ cls := "java/util/ImmutableCollections$List12", name := "indexOf", desc := "(Ljava/lang/Object;)I" }) ∈ lw_all := am_wa 1665 rfl rfl
theorem w_1666 : Cond.code ({ cls := "java/util/ImmutableCollections$List12", name := "indexOf", desc := "(Ljava/lang/Object;)I" }) prog_73_method_6_code (2 : Nat) (Option.some FieldType.int) ∈ lw_all := am_wa 1666 rfl rfl
theorem w_1667 : Cond.methodLink "java/util/ImmutableCollections$List12" (7 : Nat) ({ cls := "java/util/Objects", name := "requireNonNull", desc := "(Ljava/lang/Object;)Ljava/lang/Object;" }) ∈ lw_all := am_wa 1667 rfl rfl
theorem w_1668 : Cond.methodLink "java/util/ImmutableCollections$List12" (31 : Nat) ({ cls := "java/lang/Object", name := "equals", desc := "(Ljava/lang/Object;)Z" }) ∈ lw_all := am_wa 1668 rfl rfl
theorem w_1669 : Cond.selects "java/util/ImmutableCollections$ListN" ({ cls := "java/util/List", name := "indexOf", desc := "(Ljava/lang/Object;)I" }) ({ cls := "java/util/ImmutableCollections$ListN", name := "indexOf", desc := "(Ljava/lang/Object;)I" }) ∈ lw_all := am_wa 1669 rfl rfl
theorem w_1670 : Cond.instanceMethod ({ cls := "java/util/ImmutableCollections$ListN", name := "indexOf", desc := "(Ljava/lang/Object;)I" }) ∈ lw_all := am_wa 1670 rfl rfl
theorem w_1671 : Cond.code ({ cls := "java/util/ImmutableCollections$ListN", name := "indexOf", desc := "(Ljava/lang/Object;)I" }) prog_75_method_9_code (4 : Nat) (Option.some FieldType.int) ∈ lw_all := am_wa 1671 rfl rfl
theorem w_1672 : Cond.methodLink "java/util/ImmutableCollections$ListN" (53 : Nat) ({ cls := "java/util/Objects", name := "equals", desc := "(Ljava/lang/Object;Ljava/lang/Object;)Z" }) ∈ lw_all := am_wa 1672 rfl rfl
theorem w_1673 : Cond.selects "java/util/ImmutableCollections$ListN" ({ cls := "java/util/Collection", name := "contains", desc := "(Ljava/lang/Object;)Z" }) ({ cls := "java/util/ImmutableCollections$AbstractImmutableList", name := "contains", desc := "(Ljava/lang/Object;)Z" }) ∈ lw_all := am_wa 1673 rfl rfl
theorem v_1674 : Cond.unhidden "java/util/ImmutableCollections$ListN" "contains" "(Ljava/lang/Object;)Z" ∈ lw_tbl := am_wv 1674 rfl
theorem w_1675 : Cond.selects "java/util/PriorityQueue" ({ cls := "java/util/Collection", name := "contains", desc := "(Ljava/lang/Object;)Z" }) ({ cls := "java/util/PriorityQueue", name := "contains", desc := "(Ljava/lang/Object;)Z" }) ∈ lw_all := am_wa 1675 rfl rfl
theorem v_1676 : Cond.unhidden "java/util/PriorityQueue" "contains" "(Ljava/lang/Object;)Z" ∈ lw_tbl := am_wv 1676 rfl
theorem w_1677 : Cond.instanceMethod ({ cls := "java/util/PriorityQueue", name := "contains", desc := "(Ljava/lang/Object;)Z" }) ∈ lw_all := am_wa 1677 rfl rfl
theorem v_1678 : Cond.publicMethod ({ cls := "java/util/PriorityQueue", name := "contains", desc := "(Ljava/lang/Object;)Z" }) ∈ lw_tbl := am_wv 1678 rfl
theorem w_1679 : Cond.code ({ cls := "java/util/PriorityQueue", name := "contains", desc := "(Ljava/lang/Object;)Z" }) prog_86_method_19_code (2 : Nat) (Option.some FieldType.boolean) ∈ lw_all := am_wa 1679 rfl rfl
theorem w_1680 : Cond.methodLink "java/util/PriorityQueue" (107 : Nat) ({ cls := "java/util/PriorityQueue", name := "indexOf", desc := "(Ljava/lang/Object;)I" }) ∈ lw_all := am_wa 1680 rfl rfl
theorem v_1681 : Cond.privateMethod ({ cls := "java/util/PriorityQueue", name := "indexOf", desc := "(Ljava/lang/Object;)I" }) ∈ lw_tbl := am_wv 1681 rfl
theorem w_1682 : Cond.instanceMethod ({ cls := "java/util/PriorityQueue", name := "indexOf", desc := "(Ljava/lang/Object;)I" }) ∈ lw_all := am_wa 1682 rfl rfl
theorem w_1683 : Cond.instantiable "java/util/PriorityQueue" (4 : Nat) ∈ lw_all := am_wa 1683 rfl rfl
theorem w_1684 : Cond.code ({ cls := "java/util/PriorityQueue", name := "indexOf", desc := "(Ljava/lang/Object;)I" }) prog_86_method_16_code (5 : Nat) (Option.some FieldType.int) ∈ lw_all := am_wa 1684 rfl rfl
theorem w_1685 : Cond.methodLink "java/util/PriorityQueue" (104 : Nat) ({ cls := "java/lang/Object", name := "equals", desc := "(Ljava/lang/Object;)Z" }) ∈ lw_all := am_wa 1685 rfl rfl
theorem w_1686 : Cond.selects "java/util/TreeMap$KeySet" ({ cls := "java/util/Collection", name := "contains", desc := "(Ljava/lang/Object;)Z" }) ({ cls := "java/util/TreeMap$KeySet", name := "contains", desc := "(Ljava/lang/Object;)Z" }) ∈ lw_all := am_wa 1686 rfl rfl
theorem v_1687 : Cond.unhidden "java/util/TreeMap$KeySet" "contains" "(Ljava/lang/Object;)Z" ∈ lw_tbl := am_wv 1687 rfl
theorem w_1688 : Cond.instanceMethod ({ cls := "java/util/TreeMap$KeySet", name := "contains", desc := "(Ljava/lang/Object;)Z" }) ∈ lw_all := am_wa 1688 rfl rfl
theorem v_1689 : Cond.publicMethod ({ cls := "java/util/TreeMap$KeySet", name := "contains", desc := "(Ljava/lang/Object;)Z" }) ∈ lw_tbl := am_wv 1689 rfl
theorem w_1690 : Cond.code ({ cls := "java/util/TreeMap$KeySet", name := "contains", desc := "(Ljava/lang/Object;)Z" }) prog_99_method_6_code (2 : Nat) (Option.some FieldType.boolean) ∈ lw_all := am_wa 1690 rfl rfl
theorem v_1692 : Cond.publicMethod ({ cls := "java/util/Map", name := "containsKey", desc := "(Ljava/lang/Object;)Z" }) ∈ lw_tbl := am_wv 1692 rfl
theorem v_1693 : Cond.declares ({ cls := "java/util/Map", name := "containsKey", desc := "(Ljava/lang/Object;)Z" }) ∈ lw_tbl := am_wv 1693 rfl
theorem w_1694 : Cond.selects "java/util/TreeMap" ({ cls := "java/util/Map", name := "containsKey", desc := "(Ljava/lang/Object;)Z" }) ({ cls := "java/util/TreeMap", name := "containsKey", desc := "(Ljava/lang/Object;)Z" }) ∈ lw_all := am_wa 1694 rfl rfl
theorem v_1695 : Cond.unhidden "java/util/TreeMap" "containsKey" "(Ljava/lang/Object;)Z" ∈ lw_tbl := am_wv 1695 rfl
theorem w_1696 : Cond.instanceMethod ({ cls := "java/util/TreeMap", name := "containsKey", desc := "(Ljava/lang/Object;)Z" }) ∈ lw_all := am_wa 1696 rfl rfl
theorem v_1697 : Cond.publicMethod ({ cls := "java/util/TreeMap", name := "containsKey", desc := "(Ljava/lang/Object;)Z" }) ∈ lw_tbl := am_wv 1697 rfl
theorem w_1698 : Cond.code ({ cls := "java/util/TreeMap", name := "containsKey", desc := "(Ljava/lang/Object;)Z" }) prog_96_method_6_code (2 : Nat) (Option.some FieldType.boolean) ∈ lw_all := am_wa 1698 rfl rfl
theorem w_1699 : Cond.methodLink "java/util/TreeMap" (50 : Nat) ({ cls := "java/util/TreeMap", name := "getEntry", desc := "(Ljava/lang/Object;)Ljava/util/TreeMap$Entry;" }) ∈ lw_all := am_wa 1699 rfl rfl
theorem w_1700 : Cond.instanceMethod ({ cls := "java/util/TreeMap", name := "getEntry", desc := "(Ljava/lang/Object;)Ljava/util/TreeMap$Entry;" }) ∈ lw_all := am_wa 1700 rfl rfl
theorem w_1701 : Cond.selects "java/util/TreeMap" ({ cls := "java/util/TreeMap", name := "getEntry", desc := "(Ljava/lang/Object;)Ljava/util/TreeMap$Entry;" }) ({ cls := "java/util/TreeMap", name := "getEntry", desc := "(Ljava/lang/Object;)Ljava/util/TreeMap$Entry;" }) ∈ lw_all := am_wa 1701 rfl rfl
theorem w_1702 : Cond.code ({ cls := "java/util/TreeMap", name := "getEntry", desc := "(Ljava/lang/Object;)Ljava/util/TreeMap$Entry;" }) prog_96_method_15_code (5 : Nat) (Option.some (FieldType.object "java/util/TreeMap$Entry")) ∈ lw_all := am_wa 1702 rfl rfl
theorem w_1703 : Cond.methodLink "java/util/TreeMap" (92 : Nat) ({ cls := "java/util/TreeMap", name := "getEntryUsingComparator", desc := "(Ljava/lang/Object;)Ljava/util/TreeMap$Entry;" }) ∈ lw_all := am_wa 1703 rfl rfl
theorem w_1704 : Cond.instanceMethod ({ cls := "java/util/TreeMap", name := "getEntryUsingComparator", desc := "(Ljava/lang/Object;)Ljava/util/TreeMap$Entry;" }) ∈ lw_all := am_wa 1704 rfl rfl
theorem w_1705 : Cond.selects "java/util/TreeMap" ({ cls := "java/util/TreeMap", name := "getEntryUsingComparator", desc := "(Ljava/lang/Object;)Ljava/util/TreeMap$Entry;" }) ({ cls := "java/util/TreeMap", name := "getEntryUsingComparator", desc := "(Ljava/lang/Object;)Ljava/util/TreeMap$Entry;" }) ∈ lw_all := am_wa 1705 rfl rfl
theorem w_1706 : Cond.code ({ cls := "java/util/TreeMap", name := "getEntryUsingComparator", desc := "(Ljava/lang/Object;)Ljava/util/TreeMap$Entry;" }) prog_96_method_16_code (6 : Nat) (Option.some (FieldType.object "java/util/TreeMap$Entry")) ∈ lw_all := am_wa 1706 rfl rfl
theorem w_1708 : Cond.methodLink "java/util/TreeMap" (117 : Nat) ({ cls := "java/util/Comparator", name := "compare", desc := "(Ljava/lang/Object;Ljava/lang/Object;)I" }) ∈ lw_all := am_wa 1708 rfl rfl
theorem v_1709 : Cond.interfaceMethod "java/util/Comparator" "java/util/Comparator" "compare" "(Ljava/lang/Object;Ljava/lang/Object;)I" ∈ lw_tbl := am_wv 1709 rfl
theorem v_1710 : Cond.declares ({ cls := "java/util/Comparator", name := "compare", desc := "(Ljava/lang/Object;Ljava/lang/Object;)I" }) ∈ lw_tbl := am_wv 1710 rfl
theorem v_1711 : Cond.castable "UmbrellaBank$ByDrops" "java/util/Comparator" ∈ lw_tbl := am_wv 1711 rfl
theorem w_1712 : Cond.selects "UmbrellaBank$ByDrops" ({ cls := "java/util/Comparator", name := "compare", desc := "(Ljava/lang/Object;Ljava/lang/Object;)I" }) ({ cls := "UmbrellaBank$ByDrops", name := "compare", desc := "(Ljava/lang/Object;Ljava/lang/Object;)I" }) ∈ lw_all := am_wa 1712 rfl rfl
theorem v_1713 : Cond.unhidden "UmbrellaBank$ByDrops" "compare" "(Ljava/lang/Object;Ljava/lang/Object;)I" ∈ lw_tbl := am_wv 1713 rfl
theorem w_1714 : Cond.instanceMethod ({ cls := "UmbrellaBank$ByDrops", name := "compare", desc := "(Ljava/lang/Object;Ljava/lang/Object;)I" }) ∈ lw_all := am_wa 1714 rfl rfl
theorem v_1715 : Cond.publicMethod ({ cls := "UmbrellaBank$ByDrops", name := "compare", desc := "(Ljava/lang/Object;Ljava/lang/Object;)I" }) ∈ lw_tbl := am_wv 1715 rfl
theorem w_1716 : Cond.code ({ cls := "UmbrellaBank$ByDrops", name := "compare", desc := "(Ljava/lang/Object;Ljava/lang/Object;)I" }) prog_5_method_3_code (3 : Nat) (Option.some FieldType.int) ∈ lw_all := am_wa 1716 rfl rfl
theorem w_1717 : Cond.classLink "UmbrellaBank$ByDrops" (14 : Nat) "UmbrellaBank$Net" ∈ lw_all := am_wa 1717 rfl rfl
theorem w_1718 : Cond.methodLink "UmbrellaBank$ByDrops" (28 : Nat) ({ cls := "UmbrellaBank$ByDrops", name := "compare", desc := "(LUmbrellaBank$Net;LUmbrellaBank$Net;)I" }) ∈ lw_all := am_wa 1718 rfl rfl
theorem w_1719 : Cond.instanceMethod ({ cls := "UmbrellaBank$ByDrops", name := "compare", desc := "(LUmbrellaBank$Net;LUmbrellaBank$Net;)I" }) ∈ lw_all := am_wa 1719 rfl rfl
theorem w_1720 : Cond.selects "UmbrellaBank$ByDrops" ({ cls := "UmbrellaBank$ByDrops", name := "compare", desc := "(LUmbrellaBank$Net;LUmbrellaBank$Net;)I" }) ({ cls := "UmbrellaBank$ByDrops", name := "compare", desc := "(LUmbrellaBank$Net;LUmbrellaBank$Net;)I" }) ∈ lw_all := am_wa 1720 rfl rfl
theorem w_1721 : Cond.code ({ cls := "UmbrellaBank$ByDrops", name := "compare", desc := "(LUmbrellaBank$Net;LUmbrellaBank$Net;)I" }) prog_5_method_2_code (3 : Nat) (Option.some FieldType.int) ∈ lw_all := am_wa 1721 rfl rfl
theorem w_1722 : Cond.methodLink "UmbrellaBank$ByDrops" (13 : Nat) ({ cls := "UmbrellaBank$Net", name := "drops", desc := "()I" }) ∈ lw_all := am_wa 1722 rfl rfl
theorem w_1723 : Cond.instanceMethod ({ cls := "UmbrellaBank$Net", name := "drops", desc := "()I" }) ∈ lw_all := am_wa 1723 rfl rfl
theorem w_1724 : Cond.selects "UmbrellaBank$Net" ({ cls := "UmbrellaBank$Net", name := "drops", desc := "()I" }) ({ cls := "UmbrellaBank$Net", name := "drops", desc := "()I" }) ∈ lw_all := am_wa 1724 rfl rfl
theorem w_1725 : Cond.code ({ cls := "UmbrellaBank$Net", name := "drops", desc := "()I" }) prog_13_method_6_code (1 : Nat) (Option.some FieldType.int) ∈ lw_all := am_wa 1725 rfl rfl
theorem w_1726 : Cond.methodLink "UmbrellaBank$ByDrops" (19 : Nat) ({ cls := "java/lang/Integer", name := "compare", desc := "(II)I" }) ∈ lw_all := am_wa 1726 rfl rfl
theorem w_1727 : Cond.static ({ cls := "java/lang/Integer", name := "compare", desc := "(II)I" }) ∈ lw_all := am_wa 1727 rfl rfl
theorem w_1728 : Cond.code ({ cls := "java/lang/Integer", name := "compare", desc := "(II)I" }) prog_38_method_40_code (2 : Nat) (Option.some FieldType.int) ∈ lw_all := am_wa 1728 rfl rfl
theorem w_1729 : Cond.methodLink "UmbrellaBank$ByDrops" (25 : Nat) ({ cls := "UmbrellaBank$Net", name := "owner", desc := "()I" }) ∈ lw_all := am_wa 1729 rfl rfl
theorem w_1730 : Cond.instanceMethod ({ cls := "UmbrellaBank$Net", name := "owner", desc := "()I" }) ∈ lw_all := am_wa 1730 rfl rfl
theorem w_1731 : Cond.selects "UmbrellaBank$Net" ({ cls := "UmbrellaBank$Net", name := "owner", desc := "()I" }) ({ cls := "UmbrellaBank$Net", name := "owner", desc := "()I" }) ∈ lw_all := am_wa 1731 rfl rfl
theorem w_1732 : Cond.code ({ cls := "UmbrellaBank$Net", name := "owner", desc := "()I" }) prog_13_method_5_code (1 : Nat) (Option.some FieldType.int) ∈ lw_all := am_wa 1732 rfl rfl
theorem v_1733 : Cond.castable "UmbrellaBank$Urgency" "java/util/Comparator" ∈ lw_tbl := am_wv 1733 rfl
theorem w_1734 : Cond.selects "UmbrellaBank$Urgency" ({ cls := "java/util/Comparator", name := "compare", desc := "(Ljava/lang/Object;Ljava/lang/Object;)I" }) ({ cls := "UmbrellaBank$Urgency", name := "compare", desc := "(Ljava/lang/Object;Ljava/lang/Object;)I" }) ∈ lw_all := am_wa 1734 rfl rfl
theorem v_1735 : Cond.unhidden "UmbrellaBank$Urgency" "compare" "(Ljava/lang/Object;Ljava/lang/Object;)I" ∈ lw_tbl := am_wv 1735 rfl
theorem w_1736 : Cond.instanceMethod ({ cls := "UmbrellaBank$Urgency", name := "compare", desc := "(Ljava/lang/Object;Ljava/lang/Object;)I" }) ∈ lw_all := am_wa 1736 rfl rfl
theorem v_1737 : Cond.publicMethod ({ cls := "UmbrellaBank$Urgency", name := "compare", desc := "(Ljava/lang/Object;Ljava/lang/Object;)I" }) ∈ lw_tbl := am_wv 1737 rfl
theorem w_1738 : Cond.code ({ cls := "UmbrellaBank$Urgency", name := "compare", desc := "(Ljava/lang/Object;Ljava/lang/Object;)I" }) prog_23_method_3_code (3 : Nat) (Option.some FieldType.int) ∈ lw_all := am_wa 1738 rfl rfl
theorem w_1739 : Cond.classLink "UmbrellaBank$Urgency" (8 : Nat) "UmbrellaBank$Loan" ∈ lw_all := am_wa 1739 rfl rfl
theorem w_1740 : Cond.methodLink "UmbrellaBank$Urgency" (25 : Nat) ({ cls := "UmbrellaBank$Urgency", name := "compare", desc := "(LUmbrellaBank$Loan;LUmbrellaBank$Loan;)I" }) ∈ lw_all := am_wa 1740 rfl rfl
theorem w_1741 : Cond.instanceMethod ({ cls := "UmbrellaBank$Urgency", name := "compare", desc := "(LUmbrellaBank$Loan;LUmbrellaBank$Loan;)I" }) ∈ lw_all := am_wa 1741 rfl rfl
theorem w_1742 : Cond.selects "UmbrellaBank$Urgency" ({ cls := "UmbrellaBank$Urgency", name := "compare", desc := "(LUmbrellaBank$Loan;LUmbrellaBank$Loan;)I" }) ({ cls := "UmbrellaBank$Urgency", name := "compare", desc := "(LUmbrellaBank$Loan;LUmbrellaBank$Loan;)I" }) ∈ lw_all := am_wa 1742 rfl rfl
theorem w_1743 : Cond.code ({ cls := "UmbrellaBank$Urgency", name := "compare", desc := "(LUmbrellaBank$Loan;LUmbrellaBank$Loan;)I" }) prog_23_method_2_code (3 : Nat) (Option.some FieldType.int) ∈ lw_all := am_wa 1743 rfl rfl
theorem w_1744 : Cond.methodLink "UmbrellaBank$Urgency" (7 : Nat) ({ cls := "UmbrellaBank$Loan", name := "dueDay", desc := "()I" }) ∈ lw_all := am_wa 1744 rfl rfl
theorem w_1745 : Cond.instanceMethod ({ cls := "UmbrellaBank$Loan", name := "dueDay", desc := "()I" }) ∈ lw_all := am_wa 1745 rfl rfl
theorem w_1746 : Cond.selects "UmbrellaBank$Loan" ({ cls := "UmbrellaBank$Loan", name := "dueDay", desc := "()I" }) ({ cls := "UmbrellaBank$Loan", name := "dueDay", desc := "()I" }) ∈ lw_all := am_wa 1746 rfl rfl
theorem w_1747 : Cond.code ({ cls := "UmbrellaBank$Loan", name := "dueDay", desc := "()I" }) prog_10_method_10_code (1 : Nat) (Option.some FieldType.int) ∈ lw_all := am_wa 1747 rfl rfl
theorem w_1748 : Cond.methodLink "UmbrellaBank$Urgency" (13 : Nat) ({ cls := "java/lang/Integer", name := "compare", desc := "(II)I" }) ∈ lw_all := am_wa 1748 rfl rfl
theorem w_1749 : Cond.methodLink "UmbrellaBank$Urgency" (19 : Nat) ({ cls := "UmbrellaBank$Loan", name := "debt", desc := "()I" }) ∈ lw_all := am_wa 1749 rfl rfl
theorem w_1750 : Cond.methodLink "UmbrellaBank$Urgency" (22 : Nat) ({ cls := "UmbrellaBank$Loan", name := "id", desc := "()I" }) ∈ lw_all := am_wa 1750 rfl rfl
theorem w_1751 : Cond.methodLink "java/util/TreeMap" (95 : Nat) ({ cls := "java/util/Objects", name := "requireNonNull", desc := "(Ljava/lang/Object;)Ljava/lang/Object;" }) ∈ lw_all := am_wa 1751 rfl rfl
theorem w_1752 : Cond.classLink "java/util/TreeMap" (99 : Nat) "java/lang/Comparable" ∈ lw_all := am_wa 1752 rfl rfl
theorem w_1754 : Cond.methodLink "java/util/TreeMap" (107 : Nat) ({ cls := "java/lang/Comparable", name := "compareTo", desc := "(Ljava/lang/Object;)I" }) ∈ lw_all := am_wa 1754 rfl rfl
theorem v_1755 : Cond.interfaceMethod "java/lang/Comparable" "java/lang/Comparable" "compareTo" "(Ljava/lang/Object;)I" ∈ lw_tbl := am_wv 1755 rfl
theorem v_1756 : Cond.declares ({ cls := "java/lang/Comparable", name := "compareTo", desc := "(Ljava/lang/Object;)I" }) ∈ lw_tbl := am_wv 1756 rfl
theorem v_1757 : Cond.castable "java/lang/Integer" "java/lang/Comparable" ∈ lw_tbl := am_wv 1757 rfl
theorem w_1758 : Cond.selects "java/lang/Integer" ({ cls := "java/lang/Comparable", name := "compareTo", desc := "(Ljava/lang/Object;)I" }) ({ cls := "java/lang/Integer", name := "compareTo", desc := "(Ljava/lang/Object;)I" }) ∈ lw_all := am_wa 1758 rfl rfl
theorem v_1759 : Cond.unhidden "java/lang/Integer" "compareTo" "(Ljava/lang/Object;)I" ∈ lw_tbl := am_wv 1759 rfl
theorem w_1760 : Cond.instanceMethod ({ cls := "java/lang/Integer", name := "compareTo", desc := "(Ljava/lang/Object;)I" }) ∈ lw_all := am_wa 1760 rfl rfl
theorem v_1761 : Cond.publicMethod ({ cls := "java/lang/Integer", name := "compareTo", desc := "(Ljava/lang/Object;)I" }) ∈ lw_tbl := am_wv 1761 rfl
theorem w_1762 : Cond.code ({ cls := "java/lang/Integer", name := "compareTo", desc := "(Ljava/lang/Object;)I" }) prog_38_method_63_code (2 : Nat) (Option.some FieldType.int) ∈ lw_all := am_wa 1762 rfl rfl
theorem w_1763 : Cond.methodLink "java/lang/Integer" (284 : Nat) ({ cls := "java/lang/Integer", name := "compareTo", desc := "(Ljava/lang/Integer;)I" }) ∈ lw_all := am_wa 1763 rfl rfl
theorem w_1764 : Cond.instanceMethod ({ cls := "java/lang/Integer", name := "compareTo", desc := "(Ljava/lang/Integer;)I" }) ∈ lw_all := am_wa 1764 rfl rfl
theorem w_1765 : Cond.selects "java/lang/Integer" ({ cls := "java/lang/Integer", name := "compareTo", desc := "(Ljava/lang/Integer;)I" }) ({ cls := "java/lang/Integer", name := "compareTo", desc := "(Ljava/lang/Integer;)I" }) ∈ lw_all := am_wa 1765 rfl rfl
theorem w_1766 : Cond.code ({ cls := "java/lang/Integer", name := "compareTo", desc := "(Ljava/lang/Integer;)I" }) prog_38_method_39_code (2 : Nat) (Option.some FieldType.int) ∈ lw_all := am_wa 1766 rfl rfl
theorem w_1767 : Cond.methodLink "java/lang/Integer" (259 : Nat) ({ cls := "java/lang/Integer", name := "compare", desc := "(II)I" }) ∈ lw_all := am_wa 1767 rfl rfl
theorem v_1768 : Cond.castable "java/lang/String" "java/lang/Comparable" ∈ lw_tbl := am_wv 1768 rfl
theorem w_1769 : Cond.selects "java/lang/String" ({ cls := "java/lang/Comparable", name := "compareTo", desc := "(Ljava/lang/Object;)I" }) ({ cls := "java/lang/String", name := "compareTo", desc := "(Ljava/lang/Object;)I" }) ∈ lw_all := am_wa 1769 rfl rfl
theorem v_1770 : Cond.unhidden "java/lang/String" "compareTo" "(Ljava/lang/Object;)I" ∈ lw_tbl := am_wv 1770 rfl
theorem w_1771 : Cond.instanceMethod ({ cls := "java/lang/String", name := "compareTo", desc := "(Ljava/lang/Object;)I" }) ∈ lw_all := am_wa 1771 rfl rfl
theorem v_1772 : Cond.publicMethod ({ cls := "java/lang/String", name := "compareTo", desc := "(Ljava/lang/Object;)I" }) ∈ lw_tbl := am_wv 1772 rfl
theorem w_1773 : Cond.code ({ cls := "java/lang/String", name := "compareTo", desc := "(Ljava/lang/Object;)I" }) prog_46_method_162_code (2 : Nat) (Option.some FieldType.int) ∈ lw_all := am_wa 1773 rfl rfl
theorem w_1774 : Cond.methodLink "java/lang/String" (1084 : Nat) ({ cls := "java/lang/String", name := "compareTo", desc := "(Ljava/lang/String;)I" }) ∈ lw_all := am_wa 1774 rfl rfl
theorem w_1775 : Cond.instanceMethod ({ cls := "java/lang/String", name := "compareTo", desc := "(Ljava/lang/String;)I" }) ∈ lw_all := am_wa 1775 rfl rfl
theorem w_1776 : Cond.selects "java/lang/String" ({ cls := "java/lang/String", name := "compareTo", desc := "(Ljava/lang/String;)I" }) ({ cls := "java/lang/String", name := "compareTo", desc := "(Ljava/lang/String;)I" }) ∈ lw_all := am_wa 1776 rfl rfl
theorem w_1777 : Cond.code ({ cls := "java/lang/String", name := "compareTo", desc := "(Ljava/lang/String;)I" }) prog_46_method_71_code (5 : Nat) (Option.some FieldType.int) ∈ lw_all := am_wa 1777 rfl rfl
theorem w_1778 : Cond.methodLink "java/lang/String" (586 : Nat) ({ cls := "java/lang/StringLatin1", name := "compareTo", desc := "([B[B)I" }) ∈ lw_all := am_wa 1778 rfl rfl
theorem w_1779 : Cond.static ({ cls := "java/lang/StringLatin1", name := "compareTo", desc := "([B[B)I" }) ∈ lw_all := am_wa 1779 rfl rfl
theorem w_1780 : Cond.code ({ cls := "java/lang/StringLatin1", name := "compareTo", desc := "([B[B)I" }) prog_48_method_14_code (4 : Nat) (Option.some FieldType.int) ∈ lw_all := am_wa 1780 rfl rfl
theorem w_1781 : Cond.methodLink "java/lang/StringLatin1" (34 : Nat) ({ cls := "java/lang/StringLatin1", name := "compareTo", desc := "([B[BII)I" }) ∈ lw_all := am_wa 1781 rfl rfl
theorem w_1782 : Cond.static ({ cls := "java/lang/StringLatin1", name := "compareTo", desc := "([B[BII)I" }) ∈ lw_all := am_wa 1782 rfl rfl
theorem w_1783 : Cond.code ({ cls := "java/lang/StringLatin1", name := "compareTo", desc := "([B[BII)I" }) prog_48_method_15_code (6 : Nat) (Option.some FieldType.int) ∈ lw_all := am_wa 1783 rfl rfl
theorem w_1784 : Cond.methodLink "java/lang/StringLatin1" (38 : Nat) ({ cls := "java/lang/Math", name := "min", desc := "(II)I" }) ∈ lw_all := am_wa 1784 rfl rfl
theorem w_1785 : Cond.methodLink "java/lang/StringLatin1" (44 : Nat) ({ cls := "jdk/internal/util/ArraysSupport", name := "mismatch", desc := "([B[BI)I" }) ∈ lw_all := am_wa 1785 rfl rfl
theorem w_1786 : Cond.static ({ cls := "jdk/internal/util/ArraysSupport", name := "mismatch", desc := "([B[BI)I" }) ∈ lw_all := am_wa 1786 rfl rfl
theorem w_1787 : Cond.code ({ cls := "jdk/internal/util/ArraysSupport", name := "mismatch", desc := "([B[BI)I" }) prog_105_method_13_code (4 : Nat) (Option.some FieldType.int) ∈ lw_all := am_wa 1787 rfl rfl
theorem w_1788 : Cond.fieldLink "jdk/internal/util/ArraysSupport" (126 : Nat) "jdk/internal/misc/Unsafe" "ARRAY_BYTE_BASE_OFFSET" "I" ∈ lw_all := am_wa 1788 rfl rfl
theorem w_1790 : Cond.fieldLink "jdk/internal/util/ArraysSupport" (129 : Nat) "jdk/internal/util/ArraysSupport" "LOG2_ARRAY_BYTE_INDEX_SCALE" "I" ∈ lw_all := am_wa 1790 rfl rfl
theorem w_1792 : Cond.methodLink "jdk/internal/util/ArraysSupport" (122 : Nat) ({ cls := "jdk/internal/util/ArraysSupport", name := "vectorizedMismatch", desc := "(Ljava/lang/Object;JLjava/lang/Object;JII)I" }) ∈ lw_all := am_wa 1792 rfl rfl
theorem w_1793 : Cond.static ({ cls := "jdk/internal/util/ArraysSupport", name := "vectorizedMismatch", desc := "(Ljava/lang/Object;JLjava/lang/Object;JII)I" }) ∈ lw_all := am_wa 1793 rfl rfl
theorem w_1794 : Cond.code ({ cls := "jdk/internal/util/ArraysSupport", name := "vectorizedMismatch", desc := "(Ljava/lang/Object;JLjava/lang/Object;JII)I" }) prog_105_method_3_code (19 : Nat) (Option.some FieldType.int) ∈ lw_all := am_wa 1794 rfl rfl
theorem w_1795 : Cond.fieldLink "jdk/internal/util/ArraysSupport" (20 : Nat) "jdk/internal/util/ArraysSupport" "LOG2_ARRAY_LONG_INDEX_SCALE" "I" ∈ lw_all := am_wa 1795 rfl rfl
theorem w_1797 : Cond.fieldLink "jdk/internal/util/ArraysSupport" (26 : Nat) "jdk/internal/util/ArraysSupport" "U" "Ljdk/internal/misc/Unsafe;" ∈ lw_all := am_wa 1797 rfl rfl
theorem w_1799 : Cond.methodLink "jdk/internal/util/ArraysSupport" (30 : Nat) ({ cls := "jdk/internal/misc/Unsafe", name := "getLongUnaligned", desc := "(Ljava/lang/Object;J)J" }) ∈ lw_all := am_wa 1799 rfl rfl
theorem w_1800 : Cond.instanceMethod ({ cls := "jdk/internal/misc/Unsafe", name := "getLongUnaligned", desc := "(Ljava/lang/Object;J)J" }) ∈ lw_all := am_wa 1800 rfl rfl
theorem w_1801 : Cond.selects "jdk/internal/misc/Unsafe" ({ cls := "jdk/internal/misc/Unsafe", name := "getLongUnaligned", desc := "(Ljava/lang/Object;J)J" }) ({ cls := "jdk/internal/misc/Unsafe", name := "getLongUnaligned", desc := "(Ljava/lang/Object;J)J" }) ∈ lw_all := am_wa 1801 rfl rfl
theorem w_1802 : Cond.code ({ cls := "jdk/internal/misc/Unsafe", name := "getLongUnaligned", desc := "(Ljava/lang/Object;J)J" }) prog_103_method_334_code (4 : Nat) (Option.some FieldType.long) ∈ lw_all := am_wa 1802 rfl rfl
theorem w_1804 : Cond.methodLink "jdk/internal/misc/Unsafe" (27 : Nat) ({ cls := "jdk/internal/misc/Unsafe", name := "getLong", desc := "(Ljava/lang/Object;J)J" }) ∈ lw_all := am_wa 1804 rfl rfl
theorem w_1805 : Cond.instanceMethod ({ cls := "jdk/internal/misc/Unsafe", name := "getLong", desc := "(Ljava/lang/Object;J)J" }) ∈ lw_all := am_wa 1805 rfl rfl
theorem w_1806 : Cond.selects "jdk/internal/misc/Unsafe" ({ cls := "jdk/internal/misc/Unsafe", name := "getLong", desc := "(Ljava/lang/Object;J)J" }) ({ cls := "jdk/internal/misc/Unsafe", name := "getLong", desc := "(Ljava/lang/Object;J)J" }) ∈ lw_all := am_wa 1806 rfl rfl
theorem w_1807 : Cond.native ({ cls := "jdk/internal/misc/Unsafe", name := "getLong", desc := "(Ljava/lang/Object;J)J" }) ∈ lw_all := am_wa 1807 rfl rfl
theorem w_1809 : Cond.methodLink "jdk/internal/misc/Unsafe" (17 : Nat) ({ cls := "jdk/internal/misc/Unsafe", name := "getInt", desc := "(Ljava/lang/Object;J)I" }) ∈ lw_all := am_wa 1809 rfl rfl
theorem w_1810 : Cond.instanceMethod ({ cls := "jdk/internal/misc/Unsafe", name := "getInt", desc := "(Ljava/lang/Object;J)I" }) ∈ lw_all := am_wa 1810 rfl rfl
theorem w_1811 : Cond.selects "jdk/internal/misc/Unsafe" ({ cls := "jdk/internal/misc/Unsafe", name := "getInt", desc := "(Ljava/lang/Object;J)I" }) ({ cls := "jdk/internal/misc/Unsafe", name := "getInt", desc := "(Ljava/lang/Object;J)I" }) ∈ lw_all := am_wa 1811 rfl rfl
theorem w_1812 : Cond.native ({ cls := "jdk/internal/misc/Unsafe", name := "getInt", desc := "(Ljava/lang/Object;J)I" }) ∈ lw_all := am_wa 1812 rfl rfl
theorem w_1814 : Cond.methodLink "jdk/internal/misc/Unsafe" (698 : Nat) ({ cls := "jdk/internal/misc/Unsafe", name := "makeLong", desc := "(II)J" }) ∈ lw_all := am_wa 1814 rfl rfl
theorem w_1815 : Cond.static ({ cls := "jdk/internal/misc/Unsafe", name := "makeLong", desc := "(II)J" }) ∈ lw_all := am_wa 1815 rfl rfl
theorem w_1816 : Cond.code ({ cls := "jdk/internal/misc/Unsafe", name := "makeLong", desc := "(II)J" }) prog_103_method_353_code (2 : Nat) (Option.some FieldType.long) ∈ lw_all := am_wa 1816 rfl rfl
theorem w_1817 : Cond.methodLink "jdk/internal/misc/Unsafe" (791 : Nat) ({ cls := "jdk/internal/misc/Unsafe", name := "toUnsignedLong", desc := "(I)J" }) ∈ lw_all := am_wa 1817 rfl rfl
theorem w_1818 : Cond.static ({ cls := "jdk/internal/misc/Unsafe", name := "toUnsignedLong", desc := "(I)J" }) ∈ lw_all := am_wa 1818 rfl rfl
theorem w_1819 : Cond.code ({ cls := "jdk/internal/misc/Unsafe", name := "toUnsignedLong", desc := "(I)J" }) prog_103_method_370_code (1 : Nat) (Option.some FieldType.long) ∈ lw_all := am_wa 1819 rfl rfl
theorem w_1821 : Cond.methodLink "jdk/internal/misc/Unsafe" (784 : Nat) ({ cls := "jdk/internal/misc/Unsafe", name := "pickPos", desc := "(II)I" }) ∈ lw_all := am_wa 1821 rfl rfl
theorem w_1822 : Cond.static ({ cls := "jdk/internal/misc/Unsafe", name := "pickPos", desc := "(II)I" }) ∈ lw_all := am_wa 1822 rfl rfl
theorem w_1823 : Cond.code ({ cls := "jdk/internal/misc/Unsafe", name := "pickPos", desc := "(II)I" }) prog_103_method_350_code (2 : Nat) (Option.some FieldType.int) ∈ lw_all := am_wa 1823 rfl rfl
theorem w_1824 : Cond.fieldLink "jdk/internal/misc/Unsafe" (351 : Nat) "jdk/internal/misc/UnsafeConstants" "BIG_ENDIAN" "Z" ∈ lw_all := am_wa 1824 rfl rfl
theorem w_1826 : Cond.methodLink "jdk/internal/misc/Unsafe" (47 : Nat) ({ cls := "jdk/internal/misc/Unsafe", name := "getShort", desc := "(Ljava/lang/Object;J)S" }) ∈ lw_all := am_wa 1826 rfl rfl
theorem w_1827 : Cond.instanceMethod ({ cls := "jdk/internal/misc/Unsafe", name := "getShort", desc := "(Ljava/lang/Object;J)S" }) ∈ lw_all := am_wa 1827 rfl rfl
theorem w_1828 : Cond.selects "jdk/internal/misc/Unsafe" ({ cls := "jdk/internal/misc/Unsafe", name := "getShort", desc := "(Ljava/lang/Object;J)S" }) ({ cls := "jdk/internal/misc/Unsafe", name := "getShort", desc := "(Ljava/lang/Object;J)S" }) ∈ lw_all := am_wa 1828 rfl rfl
theorem w_1829 : Cond.native ({ cls := "jdk/internal/misc/Unsafe", name := "getShort", desc := "(Ljava/lang/Object;J)S" }) ∈ lw_all := am_wa 1829 rfl rfl
theorem w_1832 : Cond.methodLink "jdk/internal/misc/Unsafe" (704 : Nat) ({ cls := "jdk/internal/misc/Unsafe", name := "makeLong", desc := "(SSSS)J" }) ∈ lw_all := am_wa 1832 rfl rfl
theorem w_1833 : Cond.static ({ cls := "jdk/internal/misc/Unsafe", name := "makeLong", desc := "(SSSS)J" }) ∈ lw_all := am_wa 1833 rfl rfl
theorem w_1834 : Cond.code ({ cls := "jdk/internal/misc/Unsafe", name := "makeLong", desc := "(SSSS)J" }) prog_103_method_352_code (4 : Nat) (Option.some FieldType.long) ∈ lw_all := am_wa 1834 rfl rfl
theorem w_1835 : Cond.methodLink "jdk/internal/misc/Unsafe" (788 : Nat) ({ cls := "jdk/internal/misc/Unsafe", name := "toUnsignedLong", desc := "(S)J" }) ∈ lw_all := am_wa 1835 rfl rfl
theorem w_1836 : Cond.static ({ cls := "jdk/internal/misc/Unsafe", name := "toUnsignedLong", desc := "(S)J" }) ∈ lw_all := am_wa 1836 rfl rfl
theorem w_1837 : Cond.code ({ cls := "jdk/internal/misc/Unsafe", name := "toUnsignedLong", desc := "(S)J" }) prog_103_method_369_code (1 : Nat) (Option.some FieldType.long) ∈ lw_all := am_wa 1837 rfl rfl
theorem w_1839 : Cond.methodLink "jdk/internal/misc/Unsafe" (39 : Nat) ({ cls := "jdk/internal/misc/Unsafe", name := "getByte", desc := "(Ljava/lang/Object;J)B" }) ∈ lw_all := am_wa 1839 rfl rfl
theorem w_1840 : Cond.instanceMethod ({ cls := "jdk/internal/misc/Unsafe", name := "getByte", desc := "(Ljava/lang/Object;J)B" }) ∈ lw_all := am_wa 1840 rfl rfl
theorem w_1841 : Cond.selects "jdk/internal/misc/Unsafe" ({ cls := "jdk/internal/misc/Unsafe", name := "getByte", desc := "(Ljava/lang/Object;J)B" }) ({ cls := "jdk/internal/misc/Unsafe", name := "getByte", desc := "(Ljava/lang/Object;J)B" }) ∈ lw_all := am_wa 1841 rfl rfl
theorem w_1842 : Cond.native ({ cls := "jdk/internal/misc/Unsafe", name := "getByte", desc := "(Ljava/lang/Object;J)B" }) ∈ lw_all := am_wa 1842 rfl rfl
theorem w_1844 : Cond.methodLink "jdk/internal/misc/Unsafe" (709 : Nat) ({ cls := "jdk/internal/misc/Unsafe", name := "makeLong", desc := "(BBBBBBBB)J" }) ∈ lw_all := am_wa 1844 rfl rfl
theorem w_1845 : Cond.static ({ cls := "jdk/internal/misc/Unsafe", name := "makeLong", desc := "(BBBBBBBB)J" }) ∈ lw_all := am_wa 1845 rfl rfl
theorem w_1846 : Cond.code ({ cls := "jdk/internal/misc/Unsafe", name := "makeLong", desc := "(BBBBBBBB)J" }) prog_103_method_351_code (8 : Nat) (Option.some FieldType.long) ∈ lw_all := am_wa 1846 rfl rfl
theorem w_1847 : Cond.methodLink "jdk/internal/misc/Unsafe" (781 : Nat) ({ cls := "jdk/internal/misc/Unsafe", name := "toUnsignedLong", desc := "(B)J" }) ∈ lw_all := am_wa 1847 rfl rfl
theorem w_1848 : Cond.static ({ cls := "jdk/internal/misc/Unsafe", name := "toUnsignedLong", desc := "(B)J" }) ∈ lw_all := am_wa 1848 rfl rfl
theorem w_1849 : Cond.code ({ cls := "jdk/internal/misc/Unsafe", name := "toUnsignedLong", desc := "(B)J" }) prog_103_method_368_code (1 : Nat) (Option.some FieldType.long) ∈ lw_all := am_wa 1849 rfl rfl
theorem w_1851 : Cond.fieldLink "jdk/internal/util/ArraysSupport" (36 : Nat) "jdk/internal/util/ArraysSupport" "BIG_ENDIAN" "Z" ∈ lw_all := am_wa 1851 rfl rfl
theorem w_1853 : Cond.methodLink "jdk/internal/util/ArraysSupport" (40 : Nat) ({ cls := "java/lang/Long", name := "numberOfLeadingZeros", desc := "(J)I" }) ∈ lw_all := am_wa 1853 rfl rfl
theorem w_1854 : Cond.static ({ cls := "java/lang/Long", name := "numberOfLeadingZeros", desc := "(J)I" }) ∈ lw_all := am_wa 1854 rfl rfl
theorem w_1855 : Cond.code ({ cls := "java/lang/Long", name := "numberOfLeadingZeros", desc := "(J)I" }) prog_41_method_48_code (3 : Nat) (Option.some FieldType.int) ∈ lw_all := am_wa 1855 rfl rfl
theorem w_1856 : Cond.methodLink "java/lang/Long" (308 : Nat) ({ cls := "java/lang/Integer", name := "numberOfLeadingZeros", desc := "(I)I" }) ∈ lw_all := am_wa 1856 rfl rfl
theorem w_1857 : Cond.static ({ cls := "java/lang/Integer", name := "numberOfLeadingZeros", desc := "(I)I" }) ∈ lw_all := am_wa 1857 rfl rfl
theorem w_1858 : Cond.code ({ cls := "java/lang/Integer", name := "numberOfLeadingZeros", desc := "(I)I" }) prog_38_method_47_code (2 : Nat) (Option.some FieldType.int) ∈ lw_all := am_wa 1858 rfl rfl
theorem w_1859 : Cond.fieldLink "jdk/internal/util/ArraysSupport" (46 : Nat) "jdk/internal/util/ArraysSupport" "LOG2_BYTE_BIT_SIZE" "I" ∈ lw_all := am_wa 1859 rfl rfl
theorem w_1861 : Cond.methodLink "jdk/internal/util/ArraysSupport" (49 : Nat) ({ cls := "java/lang/Long", name := "numberOfTrailingZeros", desc := "(J)I" }) ∈ lw_all := am_wa 1861 rfl rfl
theorem w_1862 : Cond.static ({ cls := "java/lang/Long", name := "numberOfTrailingZeros", desc := "(J)I" }) ∈ lw_all := am_wa 1862 rfl rfl
theorem w_1863 : Cond.code ({ cls := "java/lang/Long", name := "numberOfTrailingZeros", desc := "(J)I" }) prog_41_method_49_code (3 : Nat) (Option.some FieldType.int) ∈ lw_all := am_wa 1863 rfl rfl
theorem w_1864 : Cond.methodLink "java/lang/Long" (311 : Nat) ({ cls := "java/lang/Integer", name := "numberOfTrailingZeros", desc := "(I)I" }) ∈ lw_all := am_wa 1864 rfl rfl
theorem w_1865 : Cond.fieldLink "jdk/internal/util/ArraysSupport" (51 : Nat) "jdk/internal/util/ArraysSupport" "LOG2_ARRAY_INT_INDEX_SCALE" "I" ∈ lw_all := am_wa 1865 rfl rfl
theorem w_1867 : Cond.methodLink "jdk/internal/util/ArraysSupport" (54 : Nat) ({ cls := "jdk/internal/misc/Unsafe", name := "getIntUnaligned", desc := "(Ljava/lang/Object;J)I" }) ∈ lw_all := am_wa 1867 rfl rfl
theorem w_1868 : Cond.instanceMethod ({ cls := "jdk/internal/misc/Unsafe", name := "getIntUnaligned", desc := "(Ljava/lang/Object;J)I" }) ∈ lw_all := am_wa 1868 rfl rfl
theorem w_1869 : Cond.selects "jdk/internal/misc/Unsafe" ({ cls := "jdk/internal/misc/Unsafe", name := "getIntUnaligned", desc := "(Ljava/lang/Object;J)I" }) ({ cls := "jdk/internal/misc/Unsafe", name := "getIntUnaligned", desc := "(Ljava/lang/Object;J)I" }) ∈ lw_all := am_wa 1869 rfl rfl
theorem w_1870 : Cond.code ({ cls := "jdk/internal/misc/Unsafe", name := "getIntUnaligned", desc := "(Ljava/lang/Object;J)I" }) prog_103_method_336_code (4 : Nat) (Option.some FieldType.int) ∈ lw_all := am_wa 1870 rfl rfl
theorem w_1871 : Cond.methodLink "jdk/internal/misc/Unsafe" (719 : Nat) ({ cls := "jdk/internal/misc/Unsafe", name := "makeInt", desc := "(SS)I" }) ∈ lw_all := am_wa 1871 rfl rfl
theorem w_1872 : Cond.static ({ cls := "jdk/internal/misc/Unsafe", name := "makeInt", desc := "(SS)I" }) ∈ lw_all := am_wa 1872 rfl rfl
theorem w_1873 : Cond.code ({ cls := "jdk/internal/misc/Unsafe", name := "makeInt", desc := "(SS)I" }) prog_103_method_354_code (2 : Nat) (Option.some FieldType.int) ∈ lw_all := am_wa 1873 rfl rfl
theorem w_1874 : Cond.methodLink "jdk/internal/misc/Unsafe" (792 : Nat) ({ cls := "jdk/internal/misc/Unsafe", name := "toUnsignedInt", desc := "(S)I" }) ∈ lw_all := am_wa 1874 rfl rfl
theorem w_1875 : Cond.static ({ cls := "jdk/internal/misc/Unsafe", name := "toUnsignedInt", desc := "(S)I" }) ∈ lw_all := am_wa 1875 rfl rfl
theorem w_1876 : Cond.code ({ cls := "jdk/internal/misc/Unsafe", name := "toUnsignedInt", desc := "(S)I" }) prog_103_method_367_code (1 : Nat) (Option.some FieldType.int) ∈ lw_all := am_wa 1876 rfl rfl
theorem w_1877 : Cond.constant "jdk/internal/misc/Unsafe" (374 : Nat) (65535 : Int32) ∈ lw_all := am_wa 1877 rfl rfl
theorem w_1878 : Cond.methodLink "jdk/internal/misc/Unsafe" (723 : Nat) ({ cls := "jdk/internal/misc/Unsafe", name := "makeInt", desc := "(BBBB)I" }) ∈ lw_all := am_wa 1878 rfl rfl
theorem w_1879 : Cond.static ({ cls := "jdk/internal/misc/Unsafe", name := "makeInt", desc := "(BBBB)I" }) ∈ lw_all := am_wa 1879 rfl rfl
theorem w_1880 : Cond.code ({ cls := "jdk/internal/misc/Unsafe", name := "makeInt", desc := "(BBBB)I" }) prog_103_method_355_code (4 : Nat) (Option.some FieldType.int) ∈ lw_all := am_wa 1880 rfl rfl
theorem w_1881 : Cond.methodLink "jdk/internal/misc/Unsafe" (796 : Nat) ({ cls := "jdk/internal/misc/Unsafe", name := "toUnsignedInt", desc := "(B)I" }) ∈ lw_all := am_wa 1881 rfl rfl
theorem w_1882 : Cond.static ({ cls := "jdk/internal/misc/Unsafe", name := "toUnsignedInt", desc := "(B)I" }) ∈ lw_all := am_wa 1882 rfl rfl
theorem w_1883 : Cond.code ({ cls := "jdk/internal/misc/Unsafe", name := "toUnsignedInt", desc := "(B)I" }) prog_103_method_366_code (1 : Nat) (Option.some FieldType.int) ∈ lw_all := am_wa 1883 rfl rfl
theorem w_1884 : Cond.methodLink "jdk/internal/util/ArraysSupport" (58 : Nat) ({ cls := "java/lang/Integer", name := "numberOfLeadingZeros", desc := "(I)I" }) ∈ lw_all := am_wa 1884 rfl rfl
theorem w_1885 : Cond.methodLink "jdk/internal/util/ArraysSupport" (11 : Nat) ({ cls := "java/lang/Integer", name := "numberOfTrailingZeros", desc := "(I)I" }) ∈ lw_all := am_wa 1885 rfl rfl
theorem w_1886 : Cond.methodLink "java/lang/StringLatin1" (50 : Nat) ({ cls := "java/lang/StringLatin1", name := "getChar", desc := "([BI)C" }) ∈ lw_all := am_wa 1886 rfl rfl
theorem w_1887 : Cond.static ({ cls := "java/lang/StringLatin1", name := "getChar", desc := "([BI)C" }) ∈ lw_all := am_wa 1887 rfl rfl
theorem w_1888 : Cond.code ({ cls := "java/lang/StringLatin1", name := "getChar", desc := "([BI)C" }) prog_48_method_44_code (2 : Nat) (Option.some FieldType.char) ∈ lw_all := am_wa 1888 rfl rfl
theorem w_1889 : Cond.methodLink "java/lang/String" (590 : Nat) ({ cls := "java/lang/StringUTF16", name := "compareTo", desc := "([B[B)I" }) ∈ lw_all := am_wa 1889 rfl rfl
theorem w_1890 : Cond.static ({ cls := "java/lang/StringUTF16", name := "compareTo", desc := "([B[B)I" }) ∈ lw_all := am_wa 1890 rfl rfl
theorem w_1891 : Cond.code ({ cls := "java/lang/StringUTF16", name := "compareTo", desc := "([B[B)I" }) prog_49_method_29_code (4 : Nat) (Option.some FieldType.int) ∈ lw_all := am_wa 1891 rfl rfl
theorem w_1892 : Cond.methodLink "java/lang/StringUTF16" (176 : Nat) ({ cls := "java/lang/StringUTF16", name := "compareValues", desc := "([B[BII)I" }) ∈ lw_all := am_wa 1892 rfl rfl
theorem w_1893 : Cond.static ({ cls := "java/lang/StringUTF16", name := "compareValues", desc := "([B[BII)I" }) ∈ lw_all := am_wa 1893 rfl rfl
theorem w_1894 : Cond.code ({ cls := "java/lang/StringUTF16", name := "compareValues", desc := "([B[BII)I" }) prog_49_method_31_code (8 : Nat) (Option.some FieldType.int) ∈ lw_all := am_wa 1894 rfl rfl
theorem w_1895 : Cond.methodLink "java/lang/StringUTF16" (183 : Nat) ({ cls := "java/lang/Math", name := "min", desc := "(II)I" }) ∈ lw_all := am_wa 1895 rfl rfl
theorem w_1896 : Cond.methodLink "java/lang/String" (591 : Nat) ({ cls := "java/lang/StringLatin1", name := "compareToUTF16", desc := "([B[B)I" }) ∈ lw_all := am_wa 1896 rfl rfl
theorem w_1897 : Cond.static ({ cls := "java/lang/StringLatin1", name := "compareToUTF16", desc := "([B[B)I" }) ∈ lw_all := am_wa 1897 rfl rfl
theorem w_1898 : Cond.code ({ cls := "java/lang/StringLatin1", name := "compareToUTF16", desc := "([B[B)I" }) prog_48_method_16_code (4 : Nat) (Option.some FieldType.int) ∈ lw_all := am_wa 1898 rfl rfl
theorem w_1899 : Cond.methodLink "java/lang/StringLatin1" (54 : Nat) ({ cls := "java/lang/StringLatin1", name := "length", desc := "([B)I" }) ∈ lw_all := am_wa 1899 rfl rfl
theorem w_1900 : Cond.static ({ cls := "java/lang/StringLatin1", name := "length", desc := "([B)I" }) ∈ lw_all := am_wa 1900 rfl rfl
theorem w_1901 : Cond.code ({ cls := "java/lang/StringLatin1", name := "length", desc := "([B)I" }) prog_48_method_5_code (1 : Nat) (Option.some FieldType.int) ∈ lw_all := am_wa 1901 rfl rfl
theorem w_1902 : Cond.methodLink "java/lang/StringLatin1" (58 : Nat) ({ cls := "java/lang/StringUTF16", name := "length", desc := "([B)I" }) ∈ lw_all := am_wa 1902 rfl rfl
theorem w_1903 : Cond.methodLink "java/lang/StringLatin1" (59 : Nat) ({ cls := "java/lang/StringLatin1", name := "compareToUTF16Values", desc := "([B[BII)I" }) ∈ lw_all := am_wa 1903 rfl rfl
theorem w_1904 : Cond.static ({ cls := "java/lang/StringLatin1", name := "compareToUTF16Values", desc := "([B[BII)I" }) ∈ lw_all := am_wa 1904 rfl rfl
theorem w_1905 : Cond.code ({ cls := "java/lang/StringLatin1", name := "compareToUTF16Values", desc := "([B[BII)I" }) prog_48_method_18_code (8 : Nat) (Option.some FieldType.int) ∈ lw_all := am_wa 1905 rfl rfl
theorem w_1906 : Cond.methodLink "java/lang/StringLatin1" (65 : Nat) ({ cls := "java/lang/StringUTF16", name := "getChar", desc := "([BI)C" }) ∈ lw_all := am_wa 1906 rfl rfl
theorem w_1907 : Cond.methodLink "java/lang/String" (594 : Nat) ({ cls := "java/lang/StringUTF16", name := "compareToLatin1", desc := "([B[B)I" }) ∈ lw_all := am_wa 1907 rfl rfl
theorem w_1908 : Cond.static ({ cls := "java/lang/StringUTF16", name := "compareToLatin1", desc := "([B[B)I" }) ∈ lw_all := am_wa 1908 rfl rfl
theorem w_1909 : Cond.code ({ cls := "java/lang/StringUTF16", name := "compareToLatin1", desc := "([B[B)I" }) prog_49_method_32_code (2 : Nat) (Option.some FieldType.int) ∈ lw_all := am_wa 1909 rfl rfl
theorem w_1910 : Cond.methodLink "java/lang/StringUTF16" (189 : Nat) ({ cls := "java/lang/StringLatin1", name := "compareToUTF16", desc := "([B[B)I" }) ∈ lw_all := am_wa 1910 rfl rfl
theorem v_1911 : Cond.castable "java/lang/StringBuilder" "java/lang/Comparable" ∈ lw_tbl := am_wv 1911 rfl
theorem w_1912 : Cond.selects "java/lang/StringBuilder" ({ cls := "java/lang/Comparable", name := "compareTo", desc := "(Ljava/lang/Object;)I" }) ({ cls := "java/lang/StringBuilder", name := "compareTo", desc := "(Ljava/lang/Object;)I" }) ∈ lw_all := am_wa 1912 rfl rfl
theorem v_1913 : Cond.unhidden "java/lang/StringBuilder" "compareTo" "(Ljava/lang/Object;)I" ∈ lw_tbl := am_wv 1913 rfl
theorem w_1914 : Cond.instanceMethod ({ cls := "java/lang/StringBuilder", name := "compareTo", desc := "(Ljava/lang/Object;)I" }) ∈ lw_all := am_wa 1914 rfl rfl
theorem v_1915 : Cond.publicMethod ({ cls := "java/lang/StringBuilder", name := "compareTo", desc := "(Ljava/lang/Object;)I" }) ∈ lw_tbl := am_wv 1915 rfl
theorem w_1916 : Cond.code ({ cls := "java/lang/StringBuilder", name := "compareTo", desc := "(Ljava/lang/Object;)I" }) prog_47_method_97_code (2 : Nat) (Option.some FieldType.int) ∈ lw_all := am_wa 1916 rfl rfl
theorem w_1917 : Cond.classLink "java/lang/StringBuilder" (24 : Nat) "java/lang/StringBuilder" ∈ lw_all := am_wa 1917 rfl rfl
theorem w_1918 : Cond.methodLink "java/lang/StringBuilder" (346 : Nat) ({ cls := "java/lang/StringBuilder", name := "compareTo", desc := "(Ljava/lang/StringBuilder;)I" }) ∈ lw_all := am_wa 1918 rfl rfl
theorem w_1919 : Cond.instanceMethod ({ cls := "java/lang/StringBuilder", name := "compareTo", desc := "(Ljava/lang/StringBuilder;)I" }) ∈ lw_all := am_wa 1919 rfl rfl
theorem w_1920 : Cond.selects "java/lang/StringBuilder" ({ cls := "java/lang/StringBuilder", name := "compareTo", desc := "(Ljava/lang/StringBuilder;)I" }) ({ cls := "java/lang/StringBuilder", name := "compareTo", desc := "(Ljava/lang/StringBuilder;)I" }) ∈ lw_all := am_wa 1920 rfl rfl
theorem w_1921 : Cond.code ({ cls := "java/lang/StringBuilder", name := "compareTo", desc := "(Ljava/lang/StringBuilder;)I" }) prog_47_method_5_code (2 : Nat) (Option.some FieldType.int) ∈ lw_all := am_wa 1921 rfl rfl
theorem w_1922 : Cond.methodLink "java/lang/StringBuilder" (13 : Nat) ({ cls := "java/lang/AbstractStringBuilder", name := "compareTo", desc := "(Ljava/lang/AbstractStringBuilder;)I" }) ∈ lw_all := am_wa 1922 rfl rfl
theorem w_1923 : Cond.instanceMethod ({ cls := "java/lang/AbstractStringBuilder", name := "compareTo", desc := "(Ljava/lang/AbstractStringBuilder;)I" }) ∈ lw_all := am_wa 1923 rfl rfl
theorem w_1924 : Cond.code ({ cls := "java/lang/AbstractStringBuilder", name := "compareTo", desc := "(Ljava/lang/AbstractStringBuilder;)I" }) prog_27_method_5_code (6 : Nat) (Option.some FieldType.int) ∈ lw_all := am_wa 1924 rfl rfl
theorem w_1925 : Cond.methodLink "java/lang/AbstractStringBuilder" (87 : Nat) ({ cls := "java/lang/StringLatin1", name := "compareTo", desc := "([B[BII)I" }) ∈ lw_all := am_wa 1925 rfl rfl
theorem w_1926 : Cond.methodLink "java/lang/AbstractStringBuilder" (93 : Nat) ({ cls := "java/lang/StringUTF16", name := "compareTo", desc := "([B[BII)I" }) ∈ lw_all := am_wa 1926 rfl rfl
theorem w_1927 : Cond.static ({ cls := "java/lang/StringUTF16", name := "compareTo", desc := "([B[BII)I" }) ∈ lw_all := am_wa 1927 rfl rfl
theorem w_1928 : Cond.code ({ cls := "java/lang/StringUTF16", name := "compareTo", desc := "([B[BII)I" }) prog_49_method_30_code (4 : Nat) (Option.some FieldType.int) ∈ lw_all := am_wa 1928 rfl rfl
theorem w_1929 : Cond.methodLink "java/lang/StringUTF16" (180 : Nat) ({ cls := "java/lang/StringUTF16", name := "checkOffset", desc := "(I[B)V" }) ∈ lw_all := am_wa 1929 rfl rfl
theorem w_1930 : Cond.static ({ cls := "java/lang/StringUTF16", name := "checkOffset", desc := "(I[B)V" }) ∈ lw_all := am_wa 1930 rfl rfl
theorem w_1931 : Cond.code ({ cls := "java/lang/StringUTF16", name := "checkOffset", desc := "(I[B)V" }) prog_49_method_92_code (2 : Nat) (Option.none : Option FieldType) ∈ lw_all := am_wa 1931 rfl rfl
theorem w_1932 : Cond.methodLink "java/lang/StringUTF16" (417 : Nat) ({ cls := "java/lang/String", name := "checkOffset", desc := "(II)V" }) ∈ lw_all := am_wa 1932 rfl rfl
theorem w_1933 : Cond.static ({ cls := "java/lang/String", name := "checkOffset", desc := "(II)V" }) ∈ lw_all := am_wa 1933 rfl rfl
theorem w_1934 : Cond.code ({ cls := "java/lang/String", name := "checkOffset", desc := "(II)V" }) prog_46_method_156_code (2 : Nat) (Option.none : Option FieldType) ∈ lw_all := am_wa 1934 rfl rfl
theorem w_1935 : Cond.methodLink "java/lang/AbstractStringBuilder" (94 : Nat) ({ cls := "java/lang/StringLatin1", name := "compareToUTF16", desc := "([B[BII)I" }) ∈ lw_all := am_wa 1935 rfl rfl
theorem w_1936 : Cond.static ({ cls := "java/lang/StringLatin1", name := "compareToUTF16", desc := "([B[BII)I" }) ∈ lw_all := am_wa 1936 rfl rfl
theorem w_1937 : Cond.code ({ cls := "java/lang/StringLatin1", name := "compareToUTF16", desc := "([B[BII)I" }) prog_48_method_17_code (4 : Nat) (Option.some FieldType.int) ∈ lw_all := am_wa 1937 rfl rfl
theorem w_1938 : Cond.methodLink "java/lang/StringLatin1" (62 : Nat) ({ cls := "java/lang/String", name := "checkOffset", desc := "(II)V" }) ∈ lw_all := am_wa 1938 rfl rfl
theorem w_1939 : Cond.methodLink "java/lang/AbstractStringBuilder" (97 : Nat) ({ cls := "java/lang/StringUTF16", name := "compareToLatin1", desc := "([B[BII)I" }) ∈ lw_all := am_wa 1939 rfl rfl
theorem w_1940 : Cond.static ({ cls := "java/lang/StringUTF16", name := "compareToLatin1", desc := "([B[BII)I" }) ∈ lw_all := am_wa 1940 rfl rfl
theorem w_1941 : Cond.code ({ cls := "java/lang/StringUTF16", name := "compareToLatin1", desc := "([B[BII)I" }) prog_49_method_33_code (4 : Nat) (Option.some FieldType.int) ∈ lw_all := am_wa 1941 rfl rfl
theorem w_1942 : Cond.methodLink "java/lang/StringUTF16" (193 : Nat) ({ cls := "java/lang/StringLatin1", name := "compareToUTF16", desc := "([B[BII)I" }) ∈ lw_all := am_wa 1942 rfl rfl
theorem w_1943 : Cond.methodLink "java/util/ArrayList" (194 : Nat) ({ cls := "java/util/ArrayList", name := "shiftTailOverGap", desc := "([Ljava/lang/Object;II)V" }) ∈ lw_all := am_wa 1943 rfl rfl
theorem v_1944 : Cond.privateMethod ({ cls := "java/util/ArrayList", name := "shiftTailOverGap", desc := "([Ljava/lang/Object;II)V" }) ∈ lw_tbl := am_wv 1944 rfl
theorem w_1945 : Cond.instanceMethod ({ cls := "java/util/ArrayList", name := "shiftTailOverGap", desc := "([Ljava/lang/Object;II)V" }) ∈ lw_all := am_wa 1945 rfl rfl
theorem w_1946 : Cond.code ({ cls := "java/util/ArrayList", name := "shiftTailOverGap", desc := "([Ljava/lang/Object;II)V" }) prog_63_method_44_code (6 : Nat) (Option.none : Option FieldType) ∈ lw_all := am_wa 1946 rfl rfl
theorem w_1947 : Cond.methodLink "UmbrellaBank$Command" (89 : Nat) ({ cls := "UmbrellaBank$State", name := "setRain", desc := "(II)I" }) ∈ lw_all := am_wa 1947 rfl rfl
theorem w_1948 : Cond.instanceMethod ({ cls := "UmbrellaBank$State", name := "setRain", desc := "(II)I" }) ∈ lw_all := am_wa 1948 rfl rfl
theorem w_1949 : Cond.selects "UmbrellaBank$State" ({ cls := "UmbrellaBank$State", name := "setRain", desc := "(II)I" }) ({ cls := "UmbrellaBank$State", name := "setRain", desc := "(II)I" }) ∈ lw_all := am_wa 1949 rfl rfl
theorem w_1950 : Cond.code ({ cls := "UmbrellaBank$State", name := "setRain", desc := "(II)I" }) prog_20_method_22_code (4 : Nat) (Option.some FieldType.int) ∈ lw_all := am_wa 1950 rfl rfl
theorem w_1951 : Cond.methodLink "UmbrellaBank$Command" (92 : Nat) ({ cls := "UmbrellaBank$State", name := "setGust", desc := "(I)I" }) ∈ lw_all := am_wa 1951 rfl rfl
theorem w_1952 : Cond.instanceMethod ({ cls := "UmbrellaBank$State", name := "setGust", desc := "(I)I" }) ∈ lw_all := am_wa 1952 rfl rfl
theorem w_1953 : Cond.selects "UmbrellaBank$State" ({ cls := "UmbrellaBank$State", name := "setGust", desc := "(I)I" }) ({ cls := "UmbrellaBank$State", name := "setGust", desc := "(I)I" }) ∈ lw_all := am_wa 1953 rfl rfl
theorem w_1954 : Cond.code ({ cls := "UmbrellaBank$State", name := "setGust", desc := "(I)I" }) prog_20_method_23_code (3 : Nat) (Option.some FieldType.int) ∈ lw_all := am_wa 1954 rfl rfl
theorem w_1955 : Cond.methodLink "UmbrellaBank$Command" (95 : Nat) ({ cls := "UmbrellaBank$State", name := "setRatio", desc := "(I)I" }) ∈ lw_all := am_wa 1955 rfl rfl
theorem w_1956 : Cond.instanceMethod ({ cls := "UmbrellaBank$State", name := "setRatio", desc := "(I)I" }) ∈ lw_all := am_wa 1956 rfl rfl
theorem w_1957 : Cond.selects "UmbrellaBank$State" ({ cls := "UmbrellaBank$State", name := "setRatio", desc := "(I)I" }) ({ cls := "UmbrellaBank$State", name := "setRatio", desc := "(I)I" }) ∈ lw_all := am_wa 1957 rfl rfl
theorem w_1958 : Cond.code ({ cls := "UmbrellaBank$State", name := "setRatio", desc := "(I)I" }) prog_20_method_24_code (3 : Nat) (Option.some FieldType.int) ∈ lw_all := am_wa 1958 rfl rfl
theorem w_1959 : Cond.methodLink "UmbrellaBank$Command" (98 : Nat) ({ cls := "UmbrellaBank$State", name := "passDays", desc := "(I)I" }) ∈ lw_all := am_wa 1959 rfl rfl
theorem w_1960 : Cond.instanceMethod ({ cls := "UmbrellaBank$State", name := "passDays", desc := "(I)I" }) ∈ lw_all := am_wa 1960 rfl rfl
theorem w_1961 : Cond.selects "UmbrellaBank$State" ({ cls := "UmbrellaBank$State", name := "passDays", desc := "(I)I" }) ({ cls := "UmbrellaBank$State", name := "passDays", desc := "(I)I" }) ∈ lw_all := am_wa 1961 rfl rfl
theorem w_1962 : Cond.code ({ cls := "UmbrellaBank$State", name := "passDays", desc := "(I)I" }) prog_20_method_27_code (4 : Nat) (Option.some FieldType.int) ∈ lw_all := am_wa 1962 rfl rfl
theorem w_1963 : Cond.methodLink "UmbrellaBank$State" (232 : Nat) ({ cls := "UmbrellaBank$State", name := "passDay", desc := "()I" }) ∈ lw_all := am_wa 1963 rfl rfl
theorem v_1964 : Cond.privateMethod ({ cls := "UmbrellaBank$State", name := "passDay", desc := "()I" }) ∈ lw_tbl := am_wv 1964 rfl
theorem w_1965 : Cond.instanceMethod ({ cls := "UmbrellaBank$State", name := "passDay", desc := "()I" }) ∈ lw_all := am_wa 1965 rfl rfl
theorem w_1966 : Cond.code ({ cls := "UmbrellaBank$State", name := "passDay", desc := "()I" }) prog_20_method_26_code (4 : Nat) (Option.some FieldType.int) ∈ lw_all := am_wa 1966 rfl rfl
theorem w_1967 : Cond.methodLink "UmbrellaBank$State" (218 : Nat) ({ cls := "UmbrellaBank$Loan", name := "owing", desc := "(I)LUmbrellaBank$Loan;" }) ∈ lw_all := am_wa 1967 rfl rfl
theorem w_1968 : Cond.instanceMethod ({ cls := "UmbrellaBank$Loan", name := "owing", desc := "(I)LUmbrellaBank$Loan;" }) ∈ lw_all := am_wa 1968 rfl rfl
theorem w_1969 : Cond.selects "UmbrellaBank$Loan" ({ cls := "UmbrellaBank$Loan", name := "owing", desc := "(I)LUmbrellaBank$Loan;" }) ({ cls := "UmbrellaBank$Loan", name := "owing", desc := "(I)LUmbrellaBank$Loan;" }) ∈ lw_all := am_wa 1969 rfl rfl
theorem w_1970 : Cond.code ({ cls := "UmbrellaBank$Loan", name := "owing", desc := "(I)LUmbrellaBank$Loan;" }) prog_10_method_3_code (2 : Nat) (Option.some (FieldType.object "UmbrellaBank$Loan")) ∈ lw_all := am_wa 1970 rfl rfl
theorem w_1971 : Cond.classLink "UmbrellaBank$Loan" (8 : Nat) "UmbrellaBank$Loan" ∈ lw_all := am_wa 1971 rfl rfl
theorem w_1972 : Cond.methodLink "UmbrellaBank$State" (221 : Nat) ({ cls := "java/util/ArrayList", name := "set", desc := "(ILjava/lang/Object;)Ljava/lang/Object;" }) ∈ lw_all := am_wa 1972 rfl rfl
theorem w_1973 : Cond.instanceMethod ({ cls := "java/util/ArrayList", name := "set", desc := "(ILjava/lang/Object;)Ljava/lang/Object;" }) ∈ lw_all := am_wa 1973 rfl rfl
theorem w_1974 : Cond.selects "java/util/ArrayList" ({ cls := "java/util/ArrayList", name := "set", desc := "(ILjava/lang/Object;)Ljava/lang/Object;" }) ({ cls := "java/util/ArrayList", name := "set", desc := "(ILjava/lang/Object;)Ljava/lang/Object;" }) ∈ lw_all := am_wa 1974 rfl rfl
theorem w_1975 : Cond.code ({ cls := "java/util/ArrayList", name := "set", desc := "(ILjava/lang/Object;)Ljava/lang/Object;" }) prog_63_method_23_code (4 : Nat) (Option.some (FieldType.object "java/lang/Object")) ∈ lw_all := am_wa 1975 rfl rfl
theorem w_1976 : Cond.methodLink "UmbrellaBank$State" (73 : Nat) ({ cls := "java/util/ArrayList", name := "iterator", desc := "()Ljava/util/Iterator;" }) ∈ lw_all := am_wa 1976 rfl rfl
theorem w_1977 : Cond.methodLink "UmbrellaBank$State" (225 : Nat) ({ cls := "UmbrellaBank$Loan", name := "dueDay", desc := "()I" }) ∈ lw_all := am_wa 1977 rfl rfl
theorem w_1978 : Cond.methodLink "UmbrellaBank$State" (228 : Nat) ({ cls := "UmbrellaBank$State", name := "fail", desc := "(LUmbrellaBank$Loan;)V" }) ∈ lw_all := am_wa 1978 rfl rfl
theorem v_1979 : Cond.privateMethod ({ cls := "UmbrellaBank$State", name := "fail", desc := "(LUmbrellaBank$Loan;)V" }) ∈ lw_tbl := am_wv 1979 rfl
theorem w_1980 : Cond.instanceMethod ({ cls := "UmbrellaBank$State", name := "fail", desc := "(LUmbrellaBank$Loan;)V" }) ∈ lw_all := am_wa 1980 rfl rfl
theorem w_1981 : Cond.code ({ cls := "UmbrellaBank$State", name := "fail", desc := "(LUmbrellaBank$Loan;)V" }) prog_20_method_25_code (3 : Nat) (Option.none : Option FieldType) ∈ lw_all := am_wa 1981 rfl rfl
theorem w_1982 : Cond.methodLink "UmbrellaBank$State" (209 : Nat) ({ cls := "UmbrellaBank$Loan", name := "borrower", desc := "()I" }) ∈ lw_all := am_wa 1982 rfl rfl
theorem w_1983 : Cond.instanceMethod ({ cls := "UmbrellaBank$Loan", name := "borrower", desc := "()I" }) ∈ lw_all := am_wa 1983 rfl rfl
theorem w_1984 : Cond.selects "UmbrellaBank$Loan" ({ cls := "UmbrellaBank$Loan", name := "borrower", desc := "()I" }) ({ cls := "UmbrellaBank$Loan", name := "borrower", desc := "()I" }) ∈ lw_all := am_wa 1984 rfl rfl
theorem w_1985 : Cond.code ({ cls := "UmbrellaBank$Loan", name := "borrower", desc := "()I" }) prog_10_method_8_code (1 : Nat) (Option.some FieldType.int) ∈ lw_all := am_wa 1985 rfl rfl
theorem w_1986 : Cond.methodLink "UmbrellaBank$State" (212 : Nat) ({ cls := "java/lang/Math", name := "min", desc := "(II)I" }) ∈ lw_all := am_wa 1986 rfl rfl
theorem w_1988 : Cond.methodLink "UmbrellaBank$State" (193 : Nat) ({ cls := "java/util/Iterator", name := "remove", desc := "()V" }) ∈ lw_all := am_wa 1988 rfl rfl
theorem v_1989 : Cond.interfaceMethod "java/util/Iterator" "java/util/Iterator" "remove" "()V" ∈ lw_tbl := am_wv 1989 rfl
theorem v_1990 : Cond.declares ({ cls := "java/util/Iterator", name := "remove", desc := "()V" }) ∈ lw_tbl := am_wv 1990 rfl
theorem v_1991 : Cond.unhidden "UmbrellaBank$LoanSet$1" "remove" "()V" ∈ lw_tbl := am_wv 1991 rfl
theorem w_1992 : Cond.instanceMethod ({ cls := "java/util/Iterator", name := "remove", desc := "()V" }) ∈ lw_all := am_wa 1992 rfl rfl
theorem v_1993 : Cond.publicMethod ({ cls := "java/util/Iterator", name := "remove", desc := "()V" }) ∈ lw_tbl := am_wv 1993 rfl
theorem w_1994 : Cond.code ({ cls := "java/util/Iterator", name := "remove", desc := "()V" }) prog_76_method_3_code (1 : Nat) (Option.none : Option FieldType) ∈ lw_all := am_wa 1994 rfl rfl
theorem w_1995 : Cond.classLink "java/util/Iterator" (1 : Nat) "java/lang/UnsupportedOperationException" ∈ lw_all := am_wa 1995 rfl rfl
theorem w_1997 : Cond.methodLink "java/util/Iterator" (5 : Nat) ({ cls := "java/lang/UnsupportedOperationException", name := "<init>", desc := "(Ljava/lang/String;)V" }) ∈ lw_all := am_wa 1997 rfl rfl
theorem w_1998 : Cond.instanceMethod ({ cls := "java/lang/UnsupportedOperationException", name := "<init>", desc := "(Ljava/lang/String;)V" }) ∈ lw_all := am_wa 1998 rfl rfl
theorem w_1999 : Cond.code ({ cls := "java/lang/UnsupportedOperationException", name := "<init>", desc := "(Ljava/lang/String;)V" }) prog_53_method_2_code (2 : Nat) (Option.none : Option FieldType) ∈ lw_all := am_wa 1999 rfl rfl
theorem w_2000 : Cond.methodLink "java/lang/UnsupportedOperationException" (7 : Nat) ({ cls := "java/lang/RuntimeException", name := "<init>", desc := "(Ljava/lang/String;)V" }) ∈ lw_all := am_wa 2000 rfl rfl
theorem w_2001 : Cond.selects "java/util/ArrayDeque$DeqIterator" ({ cls := "java/util/Iterator", name := "remove", desc := "()V" }) ({ cls := "java/util/ArrayDeque$DeqIterator", name := "remove", desc := "()V" }) ∈ lw_all := am_wa 2001 rfl rfl
theorem v_2002 : Cond.unhidden "java/util/ArrayDeque$DeqIterator" "remove" "()V" ∈ lw_tbl := am_wv 2002 rfl
theorem w_2003 : Cond.instanceMethod ({ cls := "java/util/ArrayDeque$DeqIterator", name := "remove", desc := "()V" }) ∈ lw_all := am_wa 2003 rfl rfl
theorem v_2004 : Cond.publicMethod ({ cls := "java/util/ArrayDeque$DeqIterator", name := "remove", desc := "()V" }) ∈ lw_tbl := am_wv 2004 rfl
theorem w_2005 : Cond.code ({ cls := "java/util/ArrayDeque$DeqIterator", name := "remove", desc := "()V" }) prog_62_method_5_code (1 : Nat) (Option.none : Option FieldType) ∈ lw_all := am_wa 2005 rfl rfl
theorem w_2006 : Cond.classLink "java/util/ArrayDeque$DeqIterator" (50 : Nat) "java/lang/IllegalStateException" ∈ lw_all := am_wa 2006 rfl rfl
theorem w_2007 : Cond.methodLink "java/util/ArrayDeque$DeqIterator" (52 : Nat) ({ cls := "java/lang/IllegalStateException", name := "<init>", desc := "()V" }) ∈ lw_all := am_wa 2007 rfl rfl
theorem w_2008 : Cond.methodLink "java/util/ArrayDeque$DeqIterator" (53 : Nat) ({ cls := "java/util/ArrayDeque", name := "delete", desc := "(I)Z" }) ∈ lw_all := am_wa 2008 rfl rfl
theorem w_2009 : Cond.instanceMethod ({ cls := "java/util/ArrayDeque", name := "delete", desc := "(I)Z" }) ∈ lw_all := am_wa 2009 rfl rfl
theorem w_2010 : Cond.selects "java/util/ArrayDeque" ({ cls := "java/util/ArrayDeque", name := "delete", desc := "(I)Z" }) ({ cls := "java/util/ArrayDeque", name := "delete", desc := "(I)Z" }) ∈ lw_all := am_wa 2010 rfl rfl
theorem w_2011 : Cond.code ({ cls := "java/util/ArrayDeque", name := "delete", desc := "(I)Z" }) prog_61_method_36_code (8 : Nat) (Option.some FieldType.boolean) ∈ lw_all := am_wa 2011 rfl rfl
theorem w_2012 : Cond.methodLink "java/util/ArrayDeque" (68 : Nat) ({ cls := "java/util/ArrayDeque", name := "dec", desc := "(II)I" }) ∈ lw_all := am_wa 2012 rfl rfl
theorem w_2013 : Cond.static ({ cls := "java/util/ArrayDeque", name := "dec", desc := "(II)I" }) ∈ lw_all := am_wa 2013 rfl rfl
theorem w_2014 : Cond.code ({ cls := "java/util/ArrayDeque", name := "dec", desc := "(II)I" }) prog_61_method_7_code (2 : Nat) (Option.some FieldType.int) ∈ lw_all := am_wa 2014 rfl rfl
theorem w_2015 : Cond.methodLink "java/util/ArrayDeque$DeqIterator" (57 : Nat) ({ cls := "java/util/ArrayDeque$DeqIterator", name := "postDelete", desc := "(Z)V" }) ∈ lw_all := am_wa 2015 rfl rfl
theorem w_2016 : Cond.instanceMethod ({ cls := "java/util/ArrayDeque$DeqIterator", name := "postDelete", desc := "(Z)V" }) ∈ lw_all := am_wa 2016 rfl rfl
theorem w_2017 : Cond.selects "java/util/ArrayDeque$DeqIterator" ({ cls := "java/util/ArrayDeque$DeqIterator", name := "postDelete", desc := "(Z)V" }) ({ cls := "java/util/ArrayDeque$DeqIterator", name := "postDelete", desc := "(Z)V" }) ∈ lw_all := am_wa 2017 rfl rfl
theorem w_2018 : Cond.code ({ cls := "java/util/ArrayDeque$DeqIterator", name := "postDelete", desc := "(Z)V" }) prog_62_method_4_code (2 : Nat) (Option.none : Option FieldType) ∈ lw_all := am_wa 2018 rfl rfl
theorem w_2019 : Cond.methodLink "java/util/ArrayDeque$DeqIterator" (47 : Nat) ({ cls := "java/util/ArrayDeque", name := "dec", desc := "(II)I" }) ∈ lw_all := am_wa 2019 rfl rfl
theorem w_2020 : Cond.selects "java/util/ArrayList$Itr" ({ cls := "java/util/Iterator", name := "remove", desc := "()V" }) ({ cls := "java/util/ArrayList$Itr", name := "remove", desc := "()V" }) ∈ lw_all := am_wa 2020 rfl rfl
theorem v_2021 : Cond.unhidden "java/util/ArrayList$Itr" "remove" "()V" ∈ lw_tbl := am_wv 2021 rfl
theorem w_2022 : Cond.instanceMethod ({ cls := "java/util/ArrayList$Itr", name := "remove", desc := "()V" }) ∈ lw_all := am_wa 2022 rfl rfl
theorem v_2023 : Cond.publicMethod ({ cls := "java/util/ArrayList$Itr", name := "remove", desc := "()V" }) ∈ lw_tbl := am_wv 2023 rfl
theorem w_2024 : Cond.codeWith ({ cls := "java/util/ArrayList$Itr", name := "remove", desc := "()V" }) prog_64_method_4_code (2 : Nat) (Option.none : Option FieldType) [((19 : Nat), (55 : Nat), (58 : Nat), (51 : Nat))] ∈ lw_all := am_wa 2024 rfl rfl
theorem w_2025 : Cond.classLink "java/util/ArrayList$Itr" (44 : Nat) "java/lang/IllegalStateException" ∈ lw_all := am_wa 2025 rfl rfl
theorem w_2026 : Cond.methodLink "java/util/ArrayList$Itr" (46 : Nat) ({ cls := "java/lang/IllegalStateException", name := "<init>", desc := "()V" }) ∈ lw_all := am_wa 2026 rfl rfl
theorem w_2027 : Cond.methodLink "java/util/ArrayList$Itr" (47 : Nat) ({ cls := "java/util/ArrayList", name := "remove", desc := "(I)Ljava/lang/Object;" }) ∈ lw_all := am_wa 2027 rfl rfl
theorem w_2028 : Cond.instanceMethod ({ cls := "java/util/ArrayList", name := "remove", desc := "(I)Ljava/lang/Object;" }) ∈ lw_all := am_wa 2028 rfl rfl
theorem w_2029 : Cond.selects "java/util/ArrayList" ({ cls := "java/util/ArrayList", name := "remove", desc := "(I)Ljava/lang/Object;" }) ({ cls := "java/util/ArrayList", name := "remove", desc := "(I)Ljava/lang/Object;" }) ∈ lw_all := am_wa 2029 rfl rfl
theorem w_2030 : Cond.code ({ cls := "java/util/ArrayList", name := "remove", desc := "(I)Ljava/lang/Object;" }) prog_63_method_29_code (4 : Nat) (Option.some (FieldType.object "java/lang/Object")) ∈ lw_all := am_wa 2030 rfl rfl
theorem w_2031 : Cond.classLink "java/util/ArrayList$Itr" (41 : Nat) "java/util/ConcurrentModificationException" ∈ lw_all := am_wa 2031 rfl rfl
theorem w_2032 : Cond.instantiable "java/util/ConcurrentModificationException" (6 : Nat) ∈ lw_all := am_wa 2032 rfl rfl
theorem v_2033 : Cond.castable "java/util/ConcurrentModificationException" "java/util/ConcurrentModificationException" ∈ lw_tbl := am_wv 2033 rfl
theorem w_2034 : Cond.selects "java/util/ConcurrentModificationException" ({ cls := "java/lang/Throwable", name := "fillInStackTrace", desc := "(I)Ljava/lang/Throwable;" }) ({ cls := "java/lang/Throwable", name := "fillInStackTrace", desc := "(I)Ljava/lang/Throwable;" }) ∈ lw_all := am_wa 2034 rfl rfl
theorem w_2040 : Cond.methodLink "java/util/ArrayList$Itr" (43 : Nat) ({ cls := "java/util/ConcurrentModificationException", name := "<init>", desc := "()V" }) ∈ lw_all := am_wa 2040 rfl rfl
theorem w_2041 : Cond.instanceMethod ({ cls := "java/util/ConcurrentModificationException", name := "<init>", desc := "()V" }) ∈ lw_all := am_wa 2041 rfl rfl
theorem w_2042 : Cond.code ({ cls := "java/util/ConcurrentModificationException", name := "<init>", desc := "()V" }) prog_68_method_1_code (1 : Nat) (Option.none : Option FieldType) ∈ lw_all := am_wa 2042 rfl rfl
theorem w_2043 : Cond.methodLink "java/util/ConcurrentModificationException" (1 : Nat) ({ cls := "java/lang/RuntimeException", name := "<init>", desc := "()V" }) ∈ lw_all := am_wa 2043 rfl rfl
theorem w_2045 : Cond.superclass "java/util/ConcurrentModificationException" "java/lang/RuntimeException" ∈ lw_all := am_wa 2045 rfl rfl
theorem w_2046 : Cond.selects "java/util/ImmutableCollections$ListItr" ({ cls := "java/util/Iterator", name := "remove", desc := "()V" }) ({ cls := "java/util/ImmutableCollections$ListItr", name := "remove", desc := "()V" }) ∈ lw_all := am_wa 2046 rfl rfl
theorem v_2047 : Cond.unhidden "java/util/ImmutableCollections$ListItr" "remove" "()V" ∈ lw_tbl := am_wv 2047 rfl
theorem w_2048 : Cond.instanceMethod ({ cls := "java/util/ImmutableCollections$ListItr", name := "remove", desc := "()V" }) ∈ lw_all := am_wa 2048 rfl rfl
theorem v_2049 : Cond.publicMethod ({ cls := "java/util/ImmutableCollections$ListItr", name := "remove", desc := "()V" }) ∈ lw_tbl := am_wv 2049 rfl
theorem w_2050 : Cond.code ({ cls := "java/util/ImmutableCollections$ListItr", name := "remove", desc := "()V" }) prog_74_method_5_code (1 : Nat) (Option.none : Option FieldType) ∈ lw_all := am_wa 2050 rfl rfl
theorem w_2051 : Cond.methodLink "java/util/ImmutableCollections$ListItr" (35 : Nat) ({ cls := "java/util/ImmutableCollections", name := "uoe", desc := "()Ljava/lang/UnsupportedOperationException;" }) ∈ lw_all := am_wa 2051 rfl rfl
theorem w_2052 : Cond.static ({ cls := "java/util/ImmutableCollections", name := "uoe", desc := "()Ljava/lang/UnsupportedOperationException;" }) ∈ lw_all := am_wa 2052 rfl rfl
theorem w_2053 : Cond.code ({ cls := "java/util/ImmutableCollections", name := "uoe", desc := "()Ljava/lang/UnsupportedOperationException;" }) prog_70_method_2_code (0 : Nat) (Option.some (FieldType.object "java/lang/UnsupportedOperationException")) ∈ lw_all := am_wa 2053 rfl rfl
theorem w_2054 : Cond.classLink "java/util/ImmutableCollections" (7 : Nat) "java/lang/UnsupportedOperationException" ∈ lw_all := am_wa 2054 rfl rfl
theorem w_2055 : Cond.methodLink "java/util/ImmutableCollections" (9 : Nat) ({ cls := "java/lang/UnsupportedOperationException", name := "<init>", desc := "()V" }) ∈ lw_all := am_wa 2055 rfl rfl
theorem w_2056 : Cond.selects "java/util/PriorityQueue$Itr" ({ cls := "java/util/Iterator", name := "remove", desc := "()V" }) ({ cls := "java/util/PriorityQueue$Itr", name := "remove", desc := "()V" }) ∈ lw_all := am_wa 2056 rfl rfl
theorem v_2057 : Cond.unhidden "java/util/PriorityQueue$Itr" "remove" "()V" ∈ lw_tbl := am_wv 2057 rfl
theorem w_2058 : Cond.instanceMethod ({ cls := "java/util/PriorityQueue$Itr", name := "remove", desc := "()V" }) ∈ lw_all := am_wa 2058 rfl rfl
theorem v_2059 : Cond.publicMethod ({ cls := "java/util/PriorityQueue$Itr", name := "remove", desc := "()V" }) ∈ lw_tbl := am_wv 2059 rfl
theorem w_2060 : Cond.code ({ cls := "java/util/PriorityQueue$Itr", name := "remove", desc := "()V" }) prog_87_method_4_code (2 : Nat) (Option.none : Option FieldType) ∈ lw_all := am_wa 2060 rfl rfl
theorem w_2061 : Cond.methodLink "java/util/PriorityQueue$Itr" (59 : Nat) ({ cls := "java/util/PriorityQueue", name := "removeAt", desc := "(I)Ljava/lang/Object;" }) ∈ lw_all := am_wa 2061 rfl rfl
theorem w_2062 : Cond.instanceMethod ({ cls := "java/util/PriorityQueue", name := "removeAt", desc := "(I)Ljava/lang/Object;" }) ∈ lw_all := am_wa 2062 rfl rfl
theorem w_2063 : Cond.selects "java/util/PriorityQueue" ({ cls := "java/util/PriorityQueue", name := "removeAt", desc := "(I)Ljava/lang/Object;" }) ({ cls := "java/util/PriorityQueue", name := "removeAt", desc := "(I)Ljava/lang/Object;" }) ∈ lw_all := am_wa 2063 rfl rfl
theorem w_2064 : Cond.code ({ cls := "java/util/PriorityQueue", name := "removeAt", desc := "(I)Ljava/lang/Object;" }) prog_86_method_26_code (5 : Nat) (Option.some (FieldType.object "java/lang/Object")) ∈ lw_all := am_wa 2064 rfl rfl
theorem w_2065 : Cond.methodLink "java/util/PriorityQueue" (133 : Nat) ({ cls := "java/util/PriorityQueue", name := "siftDown", desc := "(ILjava/lang/Object;)V" }) ∈ lw_all := am_wa 2065 rfl rfl
theorem v_2066 : Cond.privateMethod ({ cls := "java/util/PriorityQueue", name := "siftDown", desc := "(ILjava/lang/Object;)V" }) ∈ lw_tbl := am_wv 2066 rfl
theorem w_2067 : Cond.instanceMethod ({ cls := "java/util/PriorityQueue", name := "siftDown", desc := "(ILjava/lang/Object;)V" }) ∈ lw_all := am_wa 2067 rfl rfl
theorem w_2068 : Cond.code ({ cls := "java/util/PriorityQueue", name := "siftDown", desc := "(ILjava/lang/Object;)V" }) prog_86_method_30_code (3 : Nat) (Option.none : Option FieldType) ∈ lw_all := am_wa 2068 rfl rfl
theorem w_2069 : Cond.methodLink "java/util/PriorityQueue" (129 : Nat) ({ cls := "java/util/PriorityQueue", name := "siftDownUsingComparator", desc := "(ILjava/lang/Object;[Ljava/lang/Object;ILjava/util/Comparator;)V" }) ∈ lw_all := am_wa 2069 rfl rfl
theorem w_2070 : Cond.static ({ cls := "java/util/PriorityQueue", name := "siftDownUsingComparator", desc := "(ILjava/lang/Object;[Ljava/lang/Object;ILjava/util/Comparator;)V" }) ∈ lw_all := am_wa 2070 rfl rfl
theorem w_2071 : Cond.code ({ cls := "java/util/PriorityQueue", name := "siftDownUsingComparator", desc := "(ILjava/lang/Object;[Ljava/lang/Object;ILjava/util/Comparator;)V" }) prog_86_method_32_code (9 : Nat) (Option.none : Option FieldType) ∈ lw_all := am_wa 2071 rfl rfl
theorem w_2073 : Cond.methodLink "java/util/PriorityQueue" (149 : Nat) ({ cls := "java/util/Comparator", name := "compare", desc := "(Ljava/lang/Object;Ljava/lang/Object;)I" }) ∈ lw_all := am_wa 2073 rfl rfl
theorem w_2074 : Cond.methodLink "java/util/PriorityQueue" (125 : Nat) ({ cls := "java/util/PriorityQueue", name := "siftDownComparable", desc := "(ILjava/lang/Object;[Ljava/lang/Object;I)V" }) ∈ lw_all := am_wa 2074 rfl rfl
theorem w_2075 : Cond.static ({ cls := "java/util/PriorityQueue", name := "siftDownComparable", desc := "(ILjava/lang/Object;[Ljava/lang/Object;I)V" }) ∈ lw_all := am_wa 2075 rfl rfl
theorem w_2076 : Cond.code ({ cls := "java/util/PriorityQueue", name := "siftDownComparable", desc := "(ILjava/lang/Object;[Ljava/lang/Object;I)V" }) prog_86_method_31_code (9 : Nat) (Option.none : Option FieldType) ∈ lw_all := am_wa 2076 rfl rfl
theorem w_2077 : Cond.classLink "java/util/PriorityQueue" (144 : Nat) "java/lang/Comparable" ∈ lw_all := am_wa 2077 rfl rfl
theorem w_2079 : Cond.methodLink "java/util/PriorityQueue" (146 : Nat) ({ cls := "java/lang/Comparable", name := "compareTo", desc := "(Ljava/lang/Object;)I" }) ∈ lw_all := am_wa 2079 rfl rfl
theorem w_2080 : Cond.methodLink "java/util/PriorityQueue" (100 : Nat) ({ cls := "java/util/PriorityQueue", name := "siftUp", desc := "(ILjava/lang/Object;)V" }) ∈ lw_all := am_wa 2080 rfl rfl
theorem v_2081 : Cond.privateMethod ({ cls := "java/util/PriorityQueue", name := "siftUp", desc := "(ILjava/lang/Object;)V" }) ∈ lw_tbl := am_wv 2081 rfl
theorem w_2082 : Cond.instanceMethod ({ cls := "java/util/PriorityQueue", name := "siftUp", desc := "(ILjava/lang/Object;)V" }) ∈ lw_all := am_wa 2082 rfl rfl
theorem w_2083 : Cond.code ({ cls := "java/util/PriorityQueue", name := "siftUp", desc := "(ILjava/lang/Object;)V" }) prog_86_method_27_code (3 : Nat) (Option.none : Option FieldType) ∈ lw_all := am_wa 2083 rfl rfl
theorem w_2084 : Cond.methodLink "java/util/PriorityQueue" (136 : Nat) ({ cls := "java/util/PriorityQueue", name := "siftUpUsingComparator", desc := "(ILjava/lang/Object;[Ljava/lang/Object;Ljava/util/Comparator;)V" }) ∈ lw_all := am_wa 2084 rfl rfl
theorem w_2085 : Cond.static ({ cls := "java/util/PriorityQueue", name := "siftUpUsingComparator", desc := "(ILjava/lang/Object;[Ljava/lang/Object;Ljava/util/Comparator;)V" }) ∈ lw_all := am_wa 2085 rfl rfl
theorem w_2086 : Cond.code ({ cls := "java/util/PriorityQueue", name := "siftUpUsingComparator", desc := "(ILjava/lang/Object;[Ljava/lang/Object;Ljava/util/Comparator;)V" }) prog_86_method_29_code (6 : Nat) (Option.none : Option FieldType) ∈ lw_all := am_wa 2086 rfl rfl
theorem w_2087 : Cond.methodLink "java/util/PriorityQueue" (140 : Nat) ({ cls := "java/util/PriorityQueue", name := "siftUpComparable", desc := "(ILjava/lang/Object;[Ljava/lang/Object;)V" }) ∈ lw_all := am_wa 2087 rfl rfl
theorem w_2088 : Cond.static ({ cls := "java/util/PriorityQueue", name := "siftUpComparable", desc := "(ILjava/lang/Object;[Ljava/lang/Object;)V" }) ∈ lw_all := am_wa 2088 rfl rfl
theorem w_2089 : Cond.code ({ cls := "java/util/PriorityQueue", name := "siftUpComparable", desc := "(ILjava/lang/Object;[Ljava/lang/Object;)V" }) prog_86_method_28_code (6 : Nat) (Option.none : Option FieldType) ∈ lw_all := am_wa 2089 rfl rfl
theorem w_2090 : Cond.classLink "java/util/PriorityQueue$Itr" (36 : Nat) "java/util/ArrayDeque" ∈ lw_all := am_wa 2090 rfl rfl
theorem w_2091 : Cond.methodLink "java/util/PriorityQueue$Itr" (63 : Nat) ({ cls := "java/util/ArrayDeque", name := "<init>", desc := "()V" }) ∈ lw_all := am_wa 2091 rfl rfl
theorem w_2092 : Cond.methodLink "java/util/PriorityQueue$Itr" (64 : Nat) ({ cls := "java/util/ArrayDeque", name := "add", desc := "(Ljava/lang/Object;)Z" }) ∈ lw_all := am_wa 2092 rfl rfl
theorem w_2093 : Cond.instanceMethod ({ cls := "java/util/ArrayDeque", name := "add", desc := "(Ljava/lang/Object;)Z" }) ∈ lw_all := am_wa 2093 rfl rfl
theorem w_2094 : Cond.selects "java/util/ArrayDeque" ({ cls := "java/util/ArrayDeque", name := "add", desc := "(Ljava/lang/Object;)Z" }) ({ cls := "java/util/ArrayDeque", name := "add", desc := "(Ljava/lang/Object;)Z" }) ∈ lw_all := am_wa 2094 rfl rfl
theorem w_2095 : Cond.code ({ cls := "java/util/ArrayDeque", name := "add", desc := "(Ljava/lang/Object;)Z" }) prog_61_method_28_code (2 : Nat) (Option.some FieldType.boolean) ∈ lw_all := am_wa 2095 rfl rfl
theorem w_2096 : Cond.methodLink "java/util/ArrayDeque" (90 : Nat) ({ cls := "java/util/ArrayDeque", name := "addLast", desc := "(Ljava/lang/Object;)V" }) ∈ lw_all := am_wa 2096 rfl rfl
theorem w_2097 : Cond.instanceMethod ({ cls := "java/util/ArrayDeque", name := "addLast", desc := "(Ljava/lang/Object;)V" }) ∈ lw_all := am_wa 2097 rfl rfl
theorem w_2098 : Cond.selects "java/util/ArrayDeque" ({ cls := "java/util/ArrayDeque", name := "addLast", desc := "(Ljava/lang/Object;)V" }) ({ cls := "java/util/ArrayDeque", name := "addLast", desc := "(Ljava/lang/Object;)V" }) ∈ lw_all := am_wa 2098 rfl rfl
theorem w_2099 : Cond.code ({ cls := "java/util/ArrayDeque", name := "addLast", desc := "(Ljava/lang/Object;)V" }) prog_61_method_13_code (3 : Nat) (Option.none : Option FieldType) ∈ lw_all := am_wa 2099 rfl rfl
theorem w_2100 : Cond.methodLink "java/util/ArrayDeque" (71 : Nat) ({ cls := "java/util/ArrayDeque", name := "grow", desc := "(I)V" }) ∈ lw_all := am_wa 2100 rfl rfl
theorem v_2101 : Cond.privateMethod ({ cls := "java/util/ArrayDeque", name := "grow", desc := "(I)V" }) ∈ lw_tbl := am_wv 2101 rfl
theorem w_2102 : Cond.instanceMethod ({ cls := "java/util/ArrayDeque", name := "grow", desc := "(I)V" }) ∈ lw_all := am_wa 2102 rfl rfl
theorem w_2103 : Cond.code ({ cls := "java/util/ArrayDeque", name := "grow", desc := "(I)V" }) prog_61_method_1_code (9 : Nat) (Option.none : Option FieldType) ∈ lw_all := am_wa 2103 rfl rfl
theorem w_2104 : Cond.constant "java/util/ArrayDeque" (9 : Nat) (2147483639 : Int32) ∈ lw_all := am_wa 2104 rfl rfl
theorem w_2105 : Cond.methodLink "java/util/ArrayDeque" (10 : Nat) ({ cls := "java/util/ArrayDeque", name := "newCapacity", desc := "(II)I" }) ∈ lw_all := am_wa 2105 rfl rfl
theorem v_2106 : Cond.privateMethod ({ cls := "java/util/ArrayDeque", name := "newCapacity", desc := "(II)I" }) ∈ lw_tbl := am_wv 2106 rfl
theorem w_2107 : Cond.instanceMethod ({ cls := "java/util/ArrayDeque", name := "newCapacity", desc := "(II)I" }) ∈ lw_all := am_wa 2107 rfl rfl
theorem w_2108 : Cond.code ({ cls := "java/util/ArrayDeque", name := "newCapacity", desc := "(II)I" }) prog_61_method_2_code (5 : Nat) (Option.some FieldType.int) ∈ lw_all := am_wa 2108 rfl rfl
theorem w_2109 : Cond.classLink "java/util/ArrayDeque" (33 : Nat) "java/lang/IllegalStateException" ∈ lw_all := am_wa 2109 rfl rfl
theorem w_2111 : Cond.methodLink "java/util/ArrayDeque" (37 : Nat) ({ cls := "java/lang/IllegalStateException", name := "<init>", desc := "(Ljava/lang/String;)V" }) ∈ lw_all := am_wa 2111 rfl rfl
theorem w_2112 : Cond.instanceMethod ({ cls := "java/lang/IllegalStateException", name := "<init>", desc := "(Ljava/lang/String;)V" }) ∈ lw_all := am_wa 2112 rfl rfl
theorem w_2113 : Cond.code ({ cls := "java/lang/IllegalStateException", name := "<init>", desc := "(Ljava/lang/String;)V" }) prog_36_method_2_code (2 : Nat) (Option.none : Option FieldType) ∈ lw_all := am_wa 2113 rfl rfl
theorem w_2114 : Cond.methodLink "java/lang/IllegalStateException" (7 : Nat) ({ cls := "java/lang/RuntimeException", name := "<init>", desc := "(Ljava/lang/String;)V" }) ∈ lw_all := am_wa 2114 rfl rfl
theorem w_2115 : Cond.constant "java/util/ArrayDeque" (41 : Nat) (2147483647 : Int32) ∈ lw_all := am_wa 2115 rfl rfl
theorem w_2116 : Cond.methodLink "java/util/ArrayDeque" (14 : Nat) ({ cls := "java/util/Arrays", name := "copyOf", desc := "([Ljava/lang/Object;I)[Ljava/lang/Object;" }) ∈ lw_all := am_wa 2116 rfl rfl
theorem w_2117 : Cond.methodLink "java/util/PriorityQueue$Itr" (68 : Nat) ({ cls := "java/util/PriorityQueue", name := "removeEq", desc := "(Ljava/lang/Object;)V" }) ∈ lw_all := am_wa 2117 rfl rfl
theorem w_2118 : Cond.instanceMethod ({ cls := "java/util/PriorityQueue", name := "removeEq", desc := "(Ljava/lang/Object;)V" }) ∈ lw_all := am_wa 2118 rfl rfl
theorem w_2119 : Cond.selects "java/util/PriorityQueue" ({ cls := "java/util/PriorityQueue", name := "removeEq", desc := "(Ljava/lang/Object;)V" }) ({ cls := "java/util/PriorityQueue", name := "removeEq", desc := "(Ljava/lang/Object;)V" }) ∈ lw_all := am_wa 2119 rfl rfl
theorem w_2120 : Cond.code ({ cls := "java/util/PriorityQueue", name := "removeEq", desc := "(Ljava/lang/Object;)V" }) prog_86_method_18_code (5 : Nat) (Option.none : Option FieldType) ∈ lw_all := am_wa 2120 rfl rfl
theorem w_2121 : Cond.methodLink "java/util/PriorityQueue" (111 : Nat) ({ cls := "java/util/PriorityQueue", name := "removeAt", desc := "(I)Ljava/lang/Object;" }) ∈ lw_all := am_wa 2121 rfl rfl
theorem w_2122 : Cond.classLink "java/util/PriorityQueue$Itr" (72 : Nat) "java/lang/IllegalStateException" ∈ lw_all := am_wa 2122 rfl rfl
theorem w_2123 : Cond.methodLink "java/util/PriorityQueue$Itr" (74 : Nat) ({ cls := "java/lang/IllegalStateException", name := "<init>", desc := "()V" }) ∈ lw_all := am_wa 2123 rfl rfl
theorem w_2124 : Cond.selects "java/util/TreeMap$KeyIterator" ({ cls := "java/util/Iterator", name := "remove", desc := "()V" }) ({ cls := "java/util/TreeMap$PrivateEntryIterator", name := "remove", desc := "()V" }) ∈ lw_all := am_wa 2124 rfl rfl
theorem v_2125 : Cond.unhidden "java/util/TreeMap$KeyIterator" "remove" "()V" ∈ lw_tbl := am_wv 2125 rfl
theorem w_2126 : Cond.instanceMethod ({ cls := "java/util/TreeMap$PrivateEntryIterator", name := "remove", desc := "()V" }) ∈ lw_all := am_wa 2126 rfl rfl
theorem v_2127 : Cond.publicMethod ({ cls := "java/util/TreeMap$PrivateEntryIterator", name := "remove", desc := "()V" }) ∈ lw_tbl := am_wv 2127 rfl
theorem w_2128 : Cond.code ({ cls := "java/util/TreeMap$PrivateEntryIterator", name := "remove", desc := "()V" }) prog_101_method_5_code (1 : Nat) (Option.none : Option FieldType) ∈ lw_all := am_wa 2128 rfl rfl
theorem w_2129 : Cond.classLink "java/util/TreeMap$PrivateEntryIterator" (42 : Nat) "java/lang/IllegalStateException" ∈ lw_all := am_wa 2129 rfl rfl
theorem w_2130 : Cond.methodLink "java/util/TreeMap$PrivateEntryIterator" (44 : Nat) ({ cls := "java/lang/IllegalStateException", name := "<init>", desc := "()V" }) ∈ lw_all := am_wa 2130 rfl rfl
theorem v_2131 : Cond.methodLinkNest "java/util/TreeMap$PrivateEntryIterator" (53 : Nat) ({ cls := "java/util/TreeMap", name := "deleteEntry", desc := "(Ljava/util/TreeMap$Entry;)V" }) "java/util/TreeMap" ∈ lw_tbl := am_wv 2131 rfl
theorem v_2132 : Cond.privateMethod ({ cls := "java/util/TreeMap", name := "deleteEntry", desc := "(Ljava/util/TreeMap$Entry;)V" }) ∈ lw_tbl := am_wv 2132 rfl
theorem w_2133 : Cond.instanceMethod ({ cls := "java/util/TreeMap", name := "deleteEntry", desc := "(Ljava/util/TreeMap$Entry;)V" }) ∈ lw_all := am_wa 2133 rfl rfl
theorem w_2134 : Cond.instantiable "java/util/TreeMap" (9 : Nat) ∈ lw_all := am_wa 2134 rfl rfl
theorem w_2135 : Cond.code ({ cls := "java/util/TreeMap", name := "deleteEntry", desc := "(Ljava/util/TreeMap$Entry;)V" }) prog_96_method_84_code (3 : Nat) (Option.none : Option FieldType) ∈ lw_all := am_wa 2135 rfl rfl
theorem w_2136 : Cond.methodLink "java/util/TreeMap" (68 : Nat) ({ cls := "java/util/TreeMap", name := "successor", desc := "(Ljava/util/TreeMap$Entry;)Ljava/util/TreeMap$Entry;" }) ∈ lw_all := am_wa 2136 rfl rfl
theorem w_2137 : Cond.methodLink "java/util/TreeMap" (317 : Nat) ({ cls := "java/util/TreeMap", name := "fixAfterDeletion", desc := "(Ljava/util/TreeMap$Entry;)V" }) ∈ lw_all := am_wa 2137 rfl rfl
theorem v_2138 : Cond.privateMethod ({ cls := "java/util/TreeMap", name := "fixAfterDeletion", desc := "(Ljava/util/TreeMap$Entry;)V" }) ∈ lw_tbl := am_wv 2138 rfl
theorem w_2139 : Cond.instanceMethod ({ cls := "java/util/TreeMap", name := "fixAfterDeletion", desc := "(Ljava/util/TreeMap$Entry;)V" }) ∈ lw_all := am_wa 2139 rfl rfl
theorem w_2140 : Cond.code ({ cls := "java/util/TreeMap", name := "fixAfterDeletion", desc := "(Ljava/util/TreeMap$Entry;)V" }) prog_96_method_85_code (3 : Nat) (Option.none : Option FieldType) ∈ lw_all := am_wa 2140 rfl rfl
theorem w_2141 : Cond.methodLink "java/util/TreeMap" (303 : Nat) ({ cls := "java/util/TreeMap", name := "colorOf", desc := "(Ljava/util/TreeMap$Entry;)Z" }) ∈ lw_all := am_wa 2141 rfl rfl
theorem w_2142 : Cond.static ({ cls := "java/util/TreeMap", name := "colorOf", desc := "(Ljava/util/TreeMap$Entry;)Z" }) ∈ lw_all := am_wa 2142 rfl rfl
theorem w_2143 : Cond.code ({ cls := "java/util/TreeMap", name := "colorOf", desc := "(Ljava/util/TreeMap$Entry;)Z" }) prog_96_method_76_code (1 : Nat) (Option.some FieldType.boolean) ∈ lw_all := am_wa 2143 rfl rfl
theorem w_2144 : Cond.methodLink "java/util/TreeMap" (294 : Nat) ({ cls := "java/util/TreeMap", name := "parentOf", desc := "(Ljava/util/TreeMap$Entry;)Ljava/util/TreeMap$Entry;" }) ∈ lw_all := am_wa 2144 rfl rfl
theorem w_2145 : Cond.static ({ cls := "java/util/TreeMap", name := "parentOf", desc := "(Ljava/util/TreeMap$Entry;)Ljava/util/TreeMap$Entry;" }) ∈ lw_all := am_wa 2145 rfl rfl
theorem w_2146 : Cond.code ({ cls := "java/util/TreeMap", name := "parentOf", desc := "(Ljava/util/TreeMap$Entry;)Ljava/util/TreeMap$Entry;" }) prog_96_method_77_code (1 : Nat) (Option.some (FieldType.object "java/util/TreeMap$Entry")) ∈ lw_all := am_wa 2146 rfl rfl
theorem w_2147 : Cond.methodLink "java/util/TreeMap" (297 : Nat) ({ cls := "java/util/TreeMap", name := "leftOf", desc := "(Ljava/util/TreeMap$Entry;)Ljava/util/TreeMap$Entry;" }) ∈ lw_all := am_wa 2147 rfl rfl
theorem w_2148 : Cond.static ({ cls := "java/util/TreeMap", name := "leftOf", desc := "(Ljava/util/TreeMap$Entry;)Ljava/util/TreeMap$Entry;" }) ∈ lw_all := am_wa 2148 rfl rfl
theorem w_2149 : Cond.code ({ cls := "java/util/TreeMap", name := "leftOf", desc := "(Ljava/util/TreeMap$Entry;)Ljava/util/TreeMap$Entry;" }) prog_96_method_79_code (1 : Nat) (Option.some (FieldType.object "java/util/TreeMap$Entry")) ∈ lw_all := am_wa 2149 rfl rfl
theorem w_2150 : Cond.methodLink "java/util/TreeMap" (300 : Nat) ({ cls := "java/util/TreeMap", name := "rightOf", desc := "(Ljava/util/TreeMap$Entry;)Ljava/util/TreeMap$Entry;" }) ∈ lw_all := am_wa 2150 rfl rfl
theorem w_2151 : Cond.static ({ cls := "java/util/TreeMap", name := "rightOf", desc := "(Ljava/util/TreeMap$Entry;)Ljava/util/TreeMap$Entry;" }) ∈ lw_all := am_wa 2151 rfl rfl
theorem w_2152 : Cond.code ({ cls := "java/util/TreeMap", name := "rightOf", desc := "(Ljava/util/TreeMap$Entry;)Ljava/util/TreeMap$Entry;" }) prog_96_method_80_code (1 : Nat) (Option.some (FieldType.object "java/util/TreeMap$Entry")) ∈ lw_all := am_wa 2152 rfl rfl
theorem w_2153 : Cond.methodLink "java/util/TreeMap" (307 : Nat) ({ cls := "java/util/TreeMap", name := "setColor", desc := "(Ljava/util/TreeMap$Entry;Z)V" }) ∈ lw_all := am_wa 2153 rfl rfl
theorem w_2154 : Cond.static ({ cls := "java/util/TreeMap", name := "setColor", desc := "(Ljava/util/TreeMap$Entry;Z)V" }) ∈ lw_all := am_wa 2154 rfl rfl
theorem w_2155 : Cond.code ({ cls := "java/util/TreeMap", name := "setColor", desc := "(Ljava/util/TreeMap$Entry;Z)V" }) prog_96_method_78_code (2 : Nat) (Option.none : Option FieldType) ∈ lw_all := am_wa 2155 rfl rfl
theorem w_2156 : Cond.methodLink "java/util/TreeMap" (311 : Nat) ({ cls := "java/util/TreeMap", name := "rotateLeft", desc := "(Ljava/util/TreeMap$Entry;)V" }) ∈ lw_all := am_wa 2156 rfl rfl
theorem v_2157 : Cond.privateMethod ({ cls := "java/util/TreeMap", name := "rotateLeft", desc := "(Ljava/util/TreeMap$Entry;)V" }) ∈ lw_tbl := am_wv 2157 rfl
theorem w_2158 : Cond.instanceMethod ({ cls := "java/util/TreeMap", name := "rotateLeft", desc := "(Ljava/util/TreeMap$Entry;)V" }) ∈ lw_all := am_wa 2158 rfl rfl
theorem w_2159 : Cond.code ({ cls := "java/util/TreeMap", name := "rotateLeft", desc := "(Ljava/util/TreeMap$Entry;)V" }) prog_96_method_81_code (3 : Nat) (Option.none : Option FieldType) ∈ lw_all := am_wa 2159 rfl rfl
theorem w_2160 : Cond.methodLink "java/util/TreeMap" (314 : Nat) ({ cls := "java/util/TreeMap", name := "rotateRight", desc := "(Ljava/util/TreeMap$Entry;)V" }) ∈ lw_all := am_wa 2160 rfl rfl
theorem v_2161 : Cond.privateMethod ({ cls := "java/util/TreeMap", name := "rotateRight", desc := "(Ljava/util/TreeMap$Entry;)V" }) ∈ lw_tbl := am_wv 2161 rfl
theorem w_2162 : Cond.instanceMethod ({ cls := "java/util/TreeMap", name := "rotateRight", desc := "(Ljava/util/TreeMap$Entry;)V" }) ∈ lw_all := am_wa 2162 rfl rfl
theorem w_2163 : Cond.code ({ cls := "java/util/TreeMap", name := "rotateRight", desc := "(Ljava/util/TreeMap$Entry;)V" }) prog_96_method_82_code (3 : Nat) (Option.none : Option FieldType) ∈ lw_all := am_wa 2163 rfl rfl
theorem w_2164 : Cond.methodLink "UmbrellaBank$Command" (101 : Nat) ({ cls := "UmbrellaBank$Command", name := "applyToOwners", desc := "(LUmbrellaBank$State;)I" }) ∈ lw_all := am_wa 2164 rfl rfl
theorem v_2165 : Cond.privateMethod ({ cls := "UmbrellaBank$Command", name := "applyToOwners", desc := "(LUmbrellaBank$State;)I" }) ∈ lw_tbl := am_wv 2165 rfl
theorem w_2166 : Cond.instanceMethod ({ cls := "UmbrellaBank$Command", name := "applyToOwners", desc := "(LUmbrellaBank$State;)I" }) ∈ lw_all := am_wa 2166 rfl rfl
theorem w_2167 : Cond.code ({ cls := "UmbrellaBank$Command", name := "applyToOwners", desc := "(LUmbrellaBank$State;)I" }) prog_9_method_2_code (4 : Nat) (Option.some FieldType.int) ∈ lw_all := am_wa 2167 rfl rfl
theorem w_2174 : Cond.methodLink "UmbrellaBank$Command" (43 : Nat) ({ cls := "UmbrellaBank$State", name := "join", desc := "()I" }) ∈ lw_all := am_wa 2174 rfl rfl
theorem w_2175 : Cond.instanceMethod ({ cls := "UmbrellaBank$State", name := "join", desc := "()I" }) ∈ lw_all := am_wa 2175 rfl rfl
theorem w_2176 : Cond.selects "UmbrellaBank$State" ({ cls := "UmbrellaBank$State", name := "join", desc := "()I" }) ({ cls := "UmbrellaBank$State", name := "join", desc := "()I" }) ∈ lw_all := am_wa 2176 rfl rfl
theorem w_2177 : Cond.code ({ cls := "UmbrellaBank$State", name := "join", desc := "()I" }) prog_20_method_11_code (1 : Nat) (Option.some FieldType.int) ∈ lw_all := am_wa 2177 rfl rfl
theorem w_2178 : Cond.methodLink "UmbrellaBank$Command" (47 : Nat) ({ cls := "UmbrellaBank$State", name := "deposit", desc := "(II)I" }) ∈ lw_all := am_wa 2178 rfl rfl
theorem w_2179 : Cond.instanceMethod ({ cls := "UmbrellaBank$State", name := "deposit", desc := "(II)I" }) ∈ lw_all := am_wa 2179 rfl rfl
theorem w_2180 : Cond.selects "UmbrellaBank$State" ({ cls := "UmbrellaBank$State", name := "deposit", desc := "(II)I" }) ({ cls := "UmbrellaBank$State", name := "deposit", desc := "(II)I" }) ∈ lw_all := am_wa 2180 rfl rfl
theorem w_2181 : Cond.code ({ cls := "UmbrellaBank$State", name := "deposit", desc := "(II)I" }) prog_20_method_12_code (3 : Nat) (Option.some FieldType.int) ∈ lw_all := am_wa 2181 rfl rfl
theorem w_2182 : Cond.methodLink "UmbrellaBank$Command" (51 : Nat) ({ cls := "UmbrellaBank$State", name := "withdraw", desc := "(II)I" }) ∈ lw_all := am_wa 2182 rfl rfl
theorem w_2183 : Cond.instanceMethod ({ cls := "UmbrellaBank$State", name := "withdraw", desc := "(II)I" }) ∈ lw_all := am_wa 2183 rfl rfl
theorem w_2184 : Cond.selects "UmbrellaBank$State" ({ cls := "UmbrellaBank$State", name := "withdraw", desc := "(II)I" }) ({ cls := "UmbrellaBank$State", name := "withdraw", desc := "(II)I" }) ∈ lw_all := am_wa 2184 rfl rfl
theorem w_2185 : Cond.code ({ cls := "UmbrellaBank$State", name := "withdraw", desc := "(II)I" }) prog_20_method_13_code (3 : Nat) (Option.some FieldType.int) ∈ lw_all := am_wa 2185 rfl rfl
theorem w_2186 : Cond.methodLink "UmbrellaBank$Command" (54 : Nat) ({ cls := "UmbrellaBank$State", name := "addClaim", desc := "(II)I" }) ∈ lw_all := am_wa 2186 rfl rfl
theorem w_2187 : Cond.instanceMethod ({ cls := "UmbrellaBank$State", name := "addClaim", desc := "(II)I" }) ∈ lw_all := am_wa 2187 rfl rfl
theorem w_2188 : Cond.selects "UmbrellaBank$State" ({ cls := "UmbrellaBank$State", name := "addClaim", desc := "(II)I" }) ({ cls := "UmbrellaBank$State", name := "addClaim", desc := "(II)I" }) ∈ lw_all := am_wa 2188 rfl rfl
theorem w_2189 : Cond.code ({ cls := "UmbrellaBank$State", name := "addClaim", desc := "(II)I" }) prog_20_method_17_code (3 : Nat) (Option.some FieldType.int) ∈ lw_all := am_wa 2189 rfl rfl
theorem w_2190 : Cond.classLink "UmbrellaBank$State" (181 : Nat) "UmbrellaBank$Claim" ∈ lw_all := am_wa 2190 rfl rfl
theorem w_2191 : Cond.instantiable "UmbrellaBank$Claim" (2 : Nat) ∈ lw_all := am_wa 2191 rfl rfl
theorem v_2192 : Cond.methodLinkNest "UmbrellaBank$State" (183 : Nat) ({ cls := "UmbrellaBank$Claim", name := "<init>", desc := "(II)V" }) "UmbrellaBank" ∈ lw_tbl := am_wv 2192 rfl
theorem w_2193 : Cond.instanceMethod ({ cls := "UmbrellaBank$Claim", name := "<init>", desc := "(II)V" }) ∈ lw_all := am_wa 2193 rfl rfl
theorem w_2194 : Cond.code ({ cls := "UmbrellaBank$Claim", name := "<init>", desc := "(II)V" }) prog_8_method_1_code (3 : Nat) (Option.none : Option FieldType) ∈ lw_all := am_wa 2194 rfl rfl
theorem w_2195 : Cond.methodLink "UmbrellaBank$Claim" (1 : Nat) ({ cls := "java/lang/Record", name := "<init>", desc := "()V" }) ∈ lw_all := am_wa 2195 rfl rfl
theorem w_2196 : Cond.fieldLink "UmbrellaBank$Claim" (7 : Nat) "UmbrellaBank$Claim" "owner" "I" ∈ lw_all := am_wa 2196 rfl rfl
theorem w_2197 : Cond.fieldLink "UmbrellaBank$Claim" (13 : Nat) "UmbrellaBank$Claim" "umbrellas" "I" ∈ lw_all := am_wa 2197 rfl rfl
theorem w_2202 : Cond.superclass "UmbrellaBank$Claim" "java/lang/Record" ∈ lw_all := am_wa 2202 rfl rfl
theorem w_2203 : Cond.methodLink "UmbrellaBank$Command" (57 : Nat) ({ cls := "UmbrellaBank$State", name := "payClaims", desc := "()I" }) ∈ lw_all := am_wa 2203 rfl rfl
theorem w_2204 : Cond.instanceMethod ({ cls := "UmbrellaBank$State", name := "payClaims", desc := "()I" }) ∈ lw_all := am_wa 2204 rfl rfl
theorem w_2205 : Cond.selects "UmbrellaBank$State" ({ cls := "UmbrellaBank$State", name := "payClaims", desc := "()I" }) ({ cls := "UmbrellaBank$State", name := "payClaims", desc := "()I" }) ∈ lw_all := am_wa 2205 rfl rfl
theorem w_2206 : Cond.code ({ cls := "UmbrellaBank$State", name := "payClaims", desc := "()I" }) prog_20_method_19_code (3 : Nat) (Option.some FieldType.int) ∈ lw_all := am_wa 2206 rfl rfl
theorem w_2207 : Cond.methodLink "UmbrellaBank$State" (189 : Nat) ({ cls := "UmbrellaBank$State", name := "pays", desc := "(LUmbrellaBank$Claim;)Z" }) ∈ lw_all := am_wa 2207 rfl rfl
theorem v_2208 : Cond.privateMethod ({ cls := "UmbrellaBank$State", name := "pays", desc := "(LUmbrellaBank$Claim;)Z" }) ∈ lw_tbl := am_wv 2208 rfl
theorem w_2209 : Cond.instanceMethod ({ cls := "UmbrellaBank$State", name := "pays", desc := "(LUmbrellaBank$Claim;)Z" }) ∈ lw_all := am_wa 2209 rfl rfl
theorem w_2210 : Cond.code ({ cls := "UmbrellaBank$State", name := "pays", desc := "(LUmbrellaBank$Claim;)Z" }) prog_20_method_18_code (2 : Nat) (Option.some FieldType.boolean) ∈ lw_all := am_wa 2210 rfl rfl
theorem w_2211 : Cond.methodLink "UmbrellaBank$State" (185 : Nat) ({ cls := "UmbrellaBank$Claim", name := "owner", desc := "()I" }) ∈ lw_all := am_wa 2211 rfl rfl
theorem w_2212 : Cond.instanceMethod ({ cls := "UmbrellaBank$Claim", name := "owner", desc := "()I" }) ∈ lw_all := am_wa 2212 rfl rfl
theorem w_2213 : Cond.selects "UmbrellaBank$Claim" ({ cls := "UmbrellaBank$Claim", name := "owner", desc := "()I" }) ({ cls := "UmbrellaBank$Claim", name := "owner", desc := "()I" }) ∈ lw_all := am_wa 2213 rfl rfl
theorem w_2214 : Cond.code ({ cls := "UmbrellaBank$Claim", name := "owner", desc := "()I" }) prog_8_method_5_code (1 : Nat) (Option.some FieldType.int) ∈ lw_all := am_wa 2214 rfl rfl
theorem w_2215 : Cond.methodLink "UmbrellaBank$State" (188 : Nat) ({ cls := "UmbrellaBank$Claim", name := "umbrellas", desc := "()I" }) ∈ lw_all := am_wa 2215 rfl rfl
theorem w_2216 : Cond.instanceMethod ({ cls := "UmbrellaBank$Claim", name := "umbrellas", desc := "()I" }) ∈ lw_all := am_wa 2216 rfl rfl
theorem w_2217 : Cond.selects "UmbrellaBank$Claim" ({ cls := "UmbrellaBank$Claim", name := "umbrellas", desc := "()I" }) ({ cls := "UmbrellaBank$Claim", name := "umbrellas", desc := "()I" }) ∈ lw_all := am_wa 2217 rfl rfl
theorem w_2218 : Cond.code ({ cls := "UmbrellaBank$Claim", name := "umbrellas", desc := "()I" }) prog_8_method_6_code (1 : Nat) (Option.some FieldType.int) ∈ lw_all := am_wa 2218 rfl rfl
theorem w_2219 : Cond.methodLink "UmbrellaBank$Command" (60 : Nat) ({ cls := "UmbrellaBank$State", name := "promise", desc := "(III)I" }) ∈ lw_all := am_wa 2219 rfl rfl
theorem w_2220 : Cond.instanceMethod ({ cls := "UmbrellaBank$State", name := "promise", desc := "(III)I" }) ∈ lw_all := am_wa 2220 rfl rfl
theorem w_2221 : Cond.selects "UmbrellaBank$State" ({ cls := "UmbrellaBank$State", name := "promise", desc := "(III)I" }) ({ cls := "UmbrellaBank$State", name := "promise", desc := "(III)I" }) ∈ lw_all := am_wa 2221 rfl rfl
theorem w_2222 : Cond.code ({ cls := "UmbrellaBank$State", name := "promise", desc := "(III)I" }) prog_20_method_20_code (4 : Nat) (Option.some FieldType.int) ∈ lw_all := am_wa 2222 rfl rfl
theorem w_2223 : Cond.methodLink "UmbrellaBank$Command" (63 : Nat) ({ cls := "UmbrellaBank$State", name := "netPromises", desc := "()I" }) ∈ lw_all := am_wa 2223 rfl rfl
theorem w_2224 : Cond.instanceMethod ({ cls := "UmbrellaBank$State", name := "netPromises", desc := "()I" }) ∈ lw_all := am_wa 2224 rfl rfl
theorem w_2225 : Cond.selects "UmbrellaBank$State" ({ cls := "UmbrellaBank$State", name := "netPromises", desc := "()I" }) ({ cls := "UmbrellaBank$State", name := "netPromises", desc := "()I" }) ∈ lw_all := am_wa 2225 rfl rfl
theorem w_2226 : Cond.code ({ cls := "UmbrellaBank$State", name := "netPromises", desc := "()I" }) prog_20_method_21_code (6 : Nat) (Option.some FieldType.int) ∈ lw_all := am_wa 2226 rfl rfl
theorem w_2227 : Cond.classLink "UmbrellaBank$State" (195 : Nat) "UmbrellaBank$Netting" ∈ lw_all := am_wa 2227 rfl rfl
theorem w_2228 : Cond.instantiable "UmbrellaBank$Netting" (1 : Nat) ∈ lw_all := am_wa 2228 rfl rfl
theorem w_2229 : Cond.methodLink "UmbrellaBank$State" (197 : Nat) ({ cls := "UmbrellaBank$Netting", name := "<init>", desc := "(LUmbrellaBank$State;)V" }) ∈ lw_all := am_wa 2229 rfl rfl
theorem w_2230 : Cond.instanceMethod ({ cls := "UmbrellaBank$Netting", name := "<init>", desc := "(LUmbrellaBank$State;)V" }) ∈ lw_all := am_wa 2230 rfl rfl
theorem w_2231 : Cond.code ({ cls := "UmbrellaBank$Netting", name := "<init>", desc := "(LUmbrellaBank$State;)V" }) prog_14_method_1_code (2 : Nat) (Option.none : Option FieldType) ∈ lw_all := am_wa 2231 rfl rfl
theorem w_2232 : Cond.methodLink "UmbrellaBank$Netting" (3 : Nat) ({ cls := "java/lang/Object", name := "<init>", desc := "()V" }) ∈ lw_all := am_wa 2232 rfl rfl
theorem w_2233 : Cond.fieldLink "UmbrellaBank$Netting" (9 : Nat) "UmbrellaBank$Netting" "of" "LUmbrellaBank$State;" ∈ lw_all := am_wa 2233 rfl rfl
theorem w_2236 : Cond.superclass "UmbrellaBank$Netting" "java/lang/Object" ∈ lw_all := am_wa 2236 rfl rfl
theorem w_2237 : Cond.methodLink "UmbrellaBank$State" (200 : Nat) ({ cls := "UmbrellaBank$Netting", name := "paymentsByQueues", desc := "()I" }) ∈ lw_all := am_wa 2237 rfl rfl
theorem w_2238 : Cond.instanceMethod ({ cls := "UmbrellaBank$Netting", name := "paymentsByQueues", desc := "()I" }) ∈ lw_all := am_wa 2238 rfl rfl
theorem w_2239 : Cond.selects "UmbrellaBank$Netting" ({ cls := "UmbrellaBank$Netting", name := "paymentsByQueues", desc := "()I" }) ({ cls := "UmbrellaBank$Netting", name := "paymentsByQueues", desc := "()I" }) ∈ lw_all := am_wa 2239 rfl rfl
theorem w_2240 : Cond.code ({ cls := "UmbrellaBank$Netting", name := "paymentsByQueues", desc := "()I" }) prog_14_method_2_code (8 : Nat) (Option.some FieldType.int) ∈ lw_all := am_wa 2240 rfl rfl
theorem w_2241 : Cond.classLink "UmbrellaBank$Netting" (15 : Nat) "java/util/PriorityQueue" ∈ lw_all := am_wa 2241 rfl rfl
theorem w_2242 : Cond.classLink "UmbrellaBank$Netting" (17 : Nat) "UmbrellaBank$ByDrops" ∈ lw_all := am_wa 2242 rfl rfl
theorem w_2243 : Cond.instantiable "UmbrellaBank$ByDrops" (1 : Nat) ∈ lw_all := am_wa 2243 rfl rfl
theorem w_2244 : Cond.methodLink "UmbrellaBank$Netting" (19 : Nat) ({ cls := "UmbrellaBank$ByDrops", name := "<init>", desc := "(I)V" }) ∈ lw_all := am_wa 2244 rfl rfl
theorem w_2245 : Cond.instanceMethod ({ cls := "UmbrellaBank$ByDrops", name := "<init>", desc := "(I)V" }) ∈ lw_all := am_wa 2245 rfl rfl
theorem w_2246 : Cond.code ({ cls := "UmbrellaBank$ByDrops", name := "<init>", desc := "(I)V" }) prog_5_method_1_code (2 : Nat) (Option.none : Option FieldType) ∈ lw_all := am_wa 2246 rfl rfl
theorem w_2247 : Cond.methodLink "UmbrellaBank$ByDrops" (1 : Nat) ({ cls := "java/lang/Object", name := "<init>", desc := "()V" }) ∈ lw_all := am_wa 2247 rfl rfl
theorem w_2248 : Cond.fieldLink "UmbrellaBank$ByDrops" (7 : Nat) "UmbrellaBank$ByDrops" "sign" "I" ∈ lw_all := am_wa 2248 rfl rfl
theorem w_2251 : Cond.superclass "UmbrellaBank$ByDrops" "java/lang/Object" ∈ lw_all := am_wa 2251 rfl rfl
theorem w_2252 : Cond.methodLink "UmbrellaBank$Netting" (22 : Nat) ({ cls := "java/util/PriorityQueue", name := "<init>", desc := "(Ljava/util/Comparator;)V" }) ∈ lw_all := am_wa 2252 rfl rfl
theorem w_2253 : Cond.instanceMethod ({ cls := "java/util/PriorityQueue", name := "<init>", desc := "(Ljava/util/Comparator;)V" }) ∈ lw_all := am_wa 2253 rfl rfl
theorem w_2254 : Cond.code ({ cls := "java/util/PriorityQueue", name := "<init>", desc := "(Ljava/util/Comparator;)V" }) prog_86_method_3_code (2 : Nat) (Option.none : Option FieldType) ∈ lw_all := am_wa 2254 rfl rfl
theorem w_2255 : Cond.methodLink "java/util/PriorityQueue" (3 : Nat) ({ cls := "java/util/PriorityQueue", name := "<init>", desc := "(ILjava/util/Comparator;)V" }) ∈ lw_all := am_wa 2255 rfl rfl
theorem w_2256 : Cond.instanceMethod ({ cls := "java/util/PriorityQueue", name := "<init>", desc := "(ILjava/util/Comparator;)V" }) ∈ lw_all := am_wa 2256 rfl rfl
theorem w_2257 : Cond.code ({ cls := "java/util/PriorityQueue", name := "<init>", desc := "(ILjava/util/Comparator;)V" }) prog_86_method_4_code (3 : Nat) (Option.none : Option FieldType) ∈ lw_all := am_wa 2257 rfl rfl
theorem w_2258 : Cond.methodLink "java/util/PriorityQueue" (7 : Nat) ({ cls := "java/util/AbstractQueue", name := "<init>", desc := "()V" }) ∈ lw_all := am_wa 2258 rfl rfl
theorem w_2259 : Cond.instanceMethod ({ cls := "java/util/AbstractQueue", name := "<init>", desc := "()V" }) ∈ lw_all := am_wa 2259 rfl rfl
theorem w_2260 : Cond.code ({ cls := "java/util/AbstractQueue", name := "<init>", desc := "()V" }) prog_59_method_1_code (1 : Nat) (Option.none : Option FieldType) ∈ lw_all := am_wa 2260 rfl rfl
theorem w_2261 : Cond.methodLink "java/util/AbstractQueue" (1 : Nat) ({ cls := "java/util/AbstractCollection", name := "<init>", desc := "()V" }) ∈ lw_all := am_wa 2261 rfl rfl
theorem w_2262 : Cond.classLink "java/util/PriorityQueue" (12 : Nat) "java/lang/IllegalArgumentException" ∈ lw_all := am_wa 2262 rfl rfl
theorem w_2263 : Cond.methodLink "java/util/PriorityQueue" (14 : Nat) ({ cls := "java/lang/IllegalArgumentException", name := "<init>", desc := "()V" }) ∈ lw_all := am_wa 2263 rfl rfl
theorem w_2264 : Cond.classLink "java/util/PriorityQueue" (15 : Nat) "java/lang/Object" ∈ lw_all := am_wa 2264 rfl rfl
theorem w_2265 : Cond.fieldLink "java/util/PriorityQueue$Itr" (44 : Nat) "java/util/PriorityQueue" "queue" "[Ljava/lang/Object;" ∈ lw_all := am_wa 2265 rfl rfl
theorem w_2266 : Cond.fieldLink "java/util/PriorityQueue" (17 : Nat) "java/util/PriorityQueue" "queue" "[Ljava/lang/Object;" ∈ lw_all := am_wa 2266 rfl rfl
theorem w_2267 : Cond.fieldLink "java/util/PriorityQueue$Itr" (28 : Nat) "java/util/PriorityQueue" "size" "I" ∈ lw_all := am_wa 2267 rfl rfl
theorem w_2268 : Cond.fieldLink "java/util/PriorityQueue" (58 : Nat) "java/util/PriorityQueue" "size" "I" ∈ lw_all := am_wa 2268 rfl rfl
theorem w_2269 : Cond.fieldLink "java/util/PriorityQueue" (21 : Nat) "java/util/PriorityQueue" "comparator" "Ljava/util/Comparator;" ∈ lw_all := am_wa 2269 rfl rfl
theorem w_2270 : Cond.fieldLink "java/util/PriorityQueue$Itr" (17 : Nat) "java/util/PriorityQueue" "modCount" "I" ∈ lw_all := am_wa 2270 rfl rfl
theorem w_2271 : Cond.fieldLink "java/util/PriorityQueue" (93 : Nat) "java/util/PriorityQueue" "modCount" "I" ∈ lw_all := am_wa 2271 rfl rfl
theorem w_2280 : Cond.superclass "java/util/PriorityQueue" "java/util/AbstractQueue" ∈ lw_all := am_wa 2280 rfl rfl
theorem w_2281 : Cond.classLink "UmbrellaBank$Netting" (31 : Nat) "UmbrellaBank$Net" ∈ lw_all := am_wa 2281 rfl rfl
theorem w_2282 : Cond.instantiable "UmbrellaBank$Net" (2 : Nat) ∈ lw_all := am_wa 2282 rfl rfl
theorem w_2283 : Cond.methodLink "UmbrellaBank$Netting" (33 : Nat) ({ cls := "UmbrellaBank$State", name := "net", desc := "(I)I" }) ∈ lw_all := am_wa 2283 rfl rfl
theorem w_2284 : Cond.instanceMethod ({ cls := "UmbrellaBank$State", name := "net", desc := "(I)I" }) ∈ lw_all := am_wa 2284 rfl rfl
theorem w_2285 : Cond.selects "UmbrellaBank$State" ({ cls := "UmbrellaBank$State", name := "net", desc := "(I)I" }) ({ cls := "UmbrellaBank$State", name := "net", desc := "(I)I" }) ∈ lw_all := am_wa 2285 rfl rfl
theorem w_2286 : Cond.code ({ cls := "UmbrellaBank$State", name := "net", desc := "(I)I" }) prog_20_method_10_code (4 : Nat) (Option.some FieldType.int) ∈ lw_all := am_wa 2286 rfl rfl
theorem v_2287 : Cond.methodLinkNest "UmbrellaBank$Netting" (37 : Nat) ({ cls := "UmbrellaBank$Net", name := "<init>", desc := "(II)V" }) "UmbrellaBank" ∈ lw_tbl := am_wv 2287 rfl
theorem w_2288 : Cond.instanceMethod ({ cls := "UmbrellaBank$Net", name := "<init>", desc := "(II)V" }) ∈ lw_all := am_wa 2288 rfl rfl
theorem w_2289 : Cond.code ({ cls := "UmbrellaBank$Net", name := "<init>", desc := "(II)V" }) prog_13_method_1_code (3 : Nat) (Option.none : Option FieldType) ∈ lw_all := am_wa 2289 rfl rfl
theorem w_2290 : Cond.methodLink "UmbrellaBank$Net" (1 : Nat) ({ cls := "java/lang/Record", name := "<init>", desc := "()V" }) ∈ lw_all := am_wa 2290 rfl rfl
theorem w_2291 : Cond.fieldLink "UmbrellaBank$Net" (7 : Nat) "UmbrellaBank$Net" "owner" "I" ∈ lw_all := am_wa 2291 rfl rfl
theorem w_2292 : Cond.fieldLink "UmbrellaBank$Net" (13 : Nat) "UmbrellaBank$Net" "drops" "I" ∈ lw_all := am_wa 2292 rfl rfl
theorem w_2297 : Cond.superclass "UmbrellaBank$Net" "java/lang/Record" ∈ lw_all := am_wa 2297 rfl rfl
theorem w_2298 : Cond.methodLink "UmbrellaBank$Netting" (40 : Nat) ({ cls := "UmbrellaBank$Net", name := "drops", desc := "()I" }) ∈ lw_all := am_wa 2298 rfl rfl
theorem w_2299 : Cond.methodLink "UmbrellaBank$Netting" (44 : Nat) ({ cls := "java/util/PriorityQueue", name := "add", desc := "(Ljava/lang/Object;)Z" }) ∈ lw_all := am_wa 2299 rfl rfl
theorem w_2300 : Cond.instanceMethod ({ cls := "java/util/PriorityQueue", name := "add", desc := "(Ljava/lang/Object;)Z" }) ∈ lw_all := am_wa 2300 rfl rfl
theorem w_2301 : Cond.selects "java/util/PriorityQueue" ({ cls := "java/util/PriorityQueue", name := "add", desc := "(Ljava/lang/Object;)Z" }) ({ cls := "java/util/PriorityQueue", name := "add", desc := "(Ljava/lang/Object;)Z" }) ∈ lw_all := am_wa 2301 rfl rfl
theorem w_2302 : Cond.code ({ cls := "java/util/PriorityQueue", name := "add", desc := "(Ljava/lang/Object;)Z" }) prog_86_method_13_code (2 : Nat) (Option.some FieldType.boolean) ∈ lw_all := am_wa 2302 rfl rfl
theorem w_2303 : Cond.methodLink "java/util/PriorityQueue" (89 : Nat) ({ cls := "java/util/PriorityQueue", name := "offer", desc := "(Ljava/lang/Object;)Z" }) ∈ lw_all := am_wa 2303 rfl rfl
theorem w_2304 : Cond.instanceMethod ({ cls := "java/util/PriorityQueue", name := "offer", desc := "(Ljava/lang/Object;)Z" }) ∈ lw_all := am_wa 2304 rfl rfl
theorem w_2305 : Cond.selects "java/util/PriorityQueue" ({ cls := "java/util/PriorityQueue", name := "offer", desc := "(Ljava/lang/Object;)Z" }) ({ cls := "java/util/PriorityQueue", name := "offer", desc := "(Ljava/lang/Object;)Z" }) ∈ lw_all := am_wa 2305 rfl rfl
theorem w_2306 : Cond.code ({ cls := "java/util/PriorityQueue", name := "offer", desc := "(Ljava/lang/Object;)Z" }) prog_86_method_14_code (3 : Nat) (Option.some FieldType.boolean) ∈ lw_all := am_wa 2306 rfl rfl
theorem w_2307 : Cond.methodLink "java/util/PriorityQueue" (96 : Nat) ({ cls := "java/util/PriorityQueue", name := "grow", desc := "(I)V" }) ∈ lw_all := am_wa 2307 rfl rfl
theorem v_2308 : Cond.privateMethod ({ cls := "java/util/PriorityQueue", name := "grow", desc := "(I)V" }) ∈ lw_tbl := am_wv 2308 rfl
theorem w_2309 : Cond.instanceMethod ({ cls := "java/util/PriorityQueue", name := "grow", desc := "(I)V" }) ∈ lw_all := am_wa 2309 rfl rfl
theorem w_2310 : Cond.code ({ cls := "java/util/PriorityQueue", name := "grow", desc := "(I)V" }) prog_86_method_12_code (4 : Nat) (Option.none : Option FieldType) ∈ lw_all := am_wa 2310 rfl rfl
theorem w_2311 : Cond.methodLink "java/util/PriorityQueue" (80 : Nat) ({ cls := "jdk/internal/util/ArraysSupport", name := "newLength", desc := "(III)I" }) ∈ lw_all := am_wa 2311 rfl rfl
theorem w_2312 : Cond.methodLink "UmbrellaBank$Netting" (48 : Nat) ({ cls := "java/util/PriorityQueue", name := "isEmpty", desc := "()Z" }) ∈ lw_all := am_wa 2312 rfl rfl
theorem w_2313 : Cond.sameMethod "java/util/PriorityQueue" "java/util/AbstractCollection" "isEmpty" "()Z" ∈ lw_all := am_wa 2313 rfl rfl
theorem v_2314 : Cond.declares ({ cls := "java/util/AbstractCollection", name := "isEmpty", desc := "()Z" }) ∈ lw_tbl := am_wv 2314 rfl
theorem w_2315 : Cond.selects "java/util/PriorityQueue" ({ cls := "java/util/PriorityQueue", name := "isEmpty", desc := "()Z" }) ({ cls := "java/util/AbstractCollection", name := "isEmpty", desc := "()Z" }) ∈ lw_all := am_wa 2315 rfl rfl
theorem w_2316 : Cond.instanceMethod ({ cls := "java/util/AbstractCollection", name := "isEmpty", desc := "()Z" }) ∈ lw_all := am_wa 2316 rfl rfl
theorem w_2317 : Cond.code ({ cls := "java/util/AbstractCollection", name := "isEmpty", desc := "()Z" }) prog_56_method_4_code (1 : Nat) (Option.some FieldType.boolean) ∈ lw_all := am_wa 2317 rfl rfl
theorem w_2318 : Cond.methodLink "UmbrellaBank$Netting" (52 : Nat) ({ cls := "java/util/PriorityQueue", name := "poll", desc := "()Ljava/lang/Object;" }) ∈ lw_all := am_wa 2318 rfl rfl
theorem w_2319 : Cond.instanceMethod ({ cls := "java/util/PriorityQueue", name := "poll", desc := "()Ljava/lang/Object;" }) ∈ lw_all := am_wa 2319 rfl rfl
theorem w_2320 : Cond.selects "java/util/PriorityQueue" ({ cls := "java/util/PriorityQueue", name := "poll", desc := "()Ljava/lang/Object;" }) ({ cls := "java/util/PriorityQueue", name := "poll", desc := "()Ljava/lang/Object;" }) ∈ lw_all := am_wa 2320 rfl rfl
theorem w_2321 : Cond.code ({ cls := "java/util/PriorityQueue", name := "poll", desc := "()Ljava/lang/Object;" }) prog_86_method_25_code (6 : Nat) (Option.some (FieldType.object "java/lang/Object")) ∈ lw_all := am_wa 2321 rfl rfl
theorem w_2322 : Cond.methodLink "UmbrellaBank$Netting" (56 : Nat) ({ cls := "UmbrellaBank$Net", name := "owner", desc := "()I" }) ∈ lw_all := am_wa 2322 rfl rfl
theorem w_2323 : Cond.methodLink "UmbrellaBank$State" (203 : Nat) ({ cls := "java/util/Arrays", name := "fill", desc := "([II)V" }) ∈ lw_all := am_wa 2323 rfl rfl
theorem w_2324 : Cond.static ({ cls := "java/util/Arrays", name := "fill", desc := "([II)V" }) ∈ lw_all := am_wa 2324 rfl rfl
theorem w_2325 : Cond.code ({ cls := "java/util/Arrays", name := "fill", desc := "([II)V" }) prog_65_method_103_code (4 : Nat) (Option.none : Option FieldType) ∈ lw_all := am_wa 2325 rfl rfl
theorem w_2326 : Cond.selects "UmbrellaBank$Script" ({ cls := "UmbrellaBank$Change", name := "apply", desc := "(LUmbrellaBank$State;)I" }) ({ cls := "UmbrellaBank$Script", name := "apply", desc := "(LUmbrellaBank$State;)I" }) ∈ lw_all := am_wa 2326 rfl rfl
theorem w_2327 : Cond.instanceMethod ({ cls := "UmbrellaBank$Script", name := "apply", desc := "(LUmbrellaBank$State;)I" }) ∈ lw_all := am_wa 2327 rfl rfl
theorem w_2328 : Cond.codeWith ({ cls := "UmbrellaBank$Script", name := "apply", desc := "(LUmbrellaBank$State;)I" }) prog_18_method_2_code (8 : Nat) (Option.some FieldType.int) [((4 : Nat), (56 : Nat), (81 : Nat), (45 : Nat)), ((4 : Nat), (56 : Nat), (81 : Nat), (47 : Nat)), ((4 : Nat), (56 : Nat), (81 : Nat), (49 : Nat)), ((4 : Nat), (56 : Nat), (81 : Nat), (51 : Nat)), ((4 : Nat), (56 : Nat), (91 : Nat), (0 : Nat)), ((81 : Nat), (93 : Nat), (91 : Nat), (0 : Nat))] ∈ lw_all := am_wa 2328 rfl rfl
theorem w_2329 : Cond.classLink "UmbrellaBank$Script" (45 : Nat) "java/lang/IllegalArgumentException" ∈ lw_all := am_wa 2329 rfl rfl
theorem w_2330 : Cond.classLink "UmbrellaBank$Script" (47 : Nat) "java/lang/IndexOutOfBoundsException" ∈ lw_all := am_wa 2330 rfl rfl
theorem w_2331 : Cond.instantiable "java/lang/ArrayIndexOutOfBoundsException" (6 : Nat) ∈ lw_all := am_wa 2331 rfl rfl
theorem w_2332 : Cond.instanceMethod ({ cls := "java/lang/ArrayIndexOutOfBoundsException", name := "<init>", desc := "(Ljava/lang/String;)V" }) ∈ lw_all := am_wa 2332 rfl rfl
theorem w_2333 : Cond.code ({ cls := "java/lang/ArrayIndexOutOfBoundsException", name := "<init>", desc := "(Ljava/lang/String;)V" }) prog_30_method_2_code (2 : Nat) (Option.none : Option FieldType) ∈ lw_all := am_wa 2333 rfl rfl
theorem w_2334 : Cond.methodLink "java/lang/ArrayIndexOutOfBoundsException" (7 : Nat) ({ cls := "java/lang/IndexOutOfBoundsException", name := "<init>", desc := "(Ljava/lang/String;)V" }) ∈ lw_all := am_wa 2334 rfl rfl
theorem w_2341 : Cond.superclass "java/lang/ArrayIndexOutOfBoundsException" "java/lang/IndexOutOfBoundsException" ∈ lw_all := am_wa 2341 rfl rfl
theorem v_2342 : Cond.castable "java/lang/ArrayIndexOutOfBoundsException" "java/lang/ArrayIndexOutOfBoundsException" ∈ lw_tbl := am_wv 2342 rfl
theorem v_2343 : Cond.declares ({ cls := "java/lang/IndexOutOfBoundsException", name := "<init>", desc := "()V" }) ∈ lw_tbl := am_wv 2343 rfl
theorem v_2344 : Cond.declares ({ cls := "java/lang/IndexOutOfBoundsException", name := "<init>", desc := "(Ljava/lang/String;)V" }) ∈ lw_tbl := am_wv 2344 rfl
theorem w_2345 : Cond.selects "java/lang/ArrayIndexOutOfBoundsException" ({ cls := "java/lang/Throwable", name := "fillInStackTrace", desc := "(I)Ljava/lang/Throwable;" }) ({ cls := "java/lang/Throwable", name := "fillInStackTrace", desc := "(I)Ljava/lang/Throwable;" }) ∈ lw_all := am_wa 2345 rfl rfl
theorem w_2346 : Cond.classLink "UmbrellaBank$Script" (49 : Nat) "java/lang/UnsupportedOperationException" ∈ lw_all := am_wa 2346 rfl rfl
theorem w_2347 : Cond.classLink "UmbrellaBank$Script" (51 : Nat) "java/util/NoSuchElementException" ∈ lw_all := am_wa 2347 rfl rfl
theorem w_2349 : Cond.methodLink "UmbrellaBank$Script" (17 : Nat) ({ cls := "java/util/List", name := "iterator", desc := "()Ljava/util/Iterator;" }) ∈ lw_all := am_wa 2349 rfl rfl
theorem v_2350 : Cond.interfaceMethod "java/util/List" "java/util/List" "iterator" "()Ljava/util/Iterator;" ∈ lw_tbl := am_wv 2350 rfl
theorem v_2351 : Cond.declares ({ cls := "java/util/List", name := "iterator", desc := "()Ljava/util/Iterator;" }) ∈ lw_tbl := am_wv 2351 rfl
theorem w_2352 : Cond.selects "java/util/ArrayList" ({ cls := "java/util/List", name := "iterator", desc := "()Ljava/util/Iterator;" }) ({ cls := "java/util/ArrayList", name := "iterator", desc := "()Ljava/util/Iterator;" }) ∈ lw_all := am_wa 2352 rfl rfl
theorem v_2353 : Cond.unhidden "java/util/ArrayList" "iterator" "()Ljava/util/Iterator;" ∈ lw_tbl := am_wv 2353 rfl
theorem v_2354 : Cond.publicMethod ({ cls := "java/util/ArrayList", name := "iterator", desc := "()Ljava/util/Iterator;" }) ∈ lw_tbl := am_wv 2354 rfl
theorem w_2355 : Cond.selects "java/util/ImmutableCollections$List12" ({ cls := "java/util/List", name := "iterator", desc := "()Ljava/util/Iterator;" }) ({ cls := "java/util/ImmutableCollections$AbstractImmutableList", name := "iterator", desc := "()Ljava/util/Iterator;" }) ∈ lw_all := am_wa 2355 rfl rfl
theorem v_2356 : Cond.unhidden "java/util/ImmutableCollections$List12" "iterator" "()Ljava/util/Iterator;" ∈ lw_tbl := am_wv 2356 rfl
theorem v_2357 : Cond.publicMethod ({ cls := "java/util/ImmutableCollections$AbstractImmutableList", name := "iterator", desc := "()Ljava/util/Iterator;" }) ∈ lw_tbl := am_wv 2357 rfl
theorem w_2358 : Cond.selects "java/util/ImmutableCollections$ListN" ({ cls := "java/util/List", name := "iterator", desc := "()Ljava/util/Iterator;" }) ({ cls := "java/util/ImmutableCollections$AbstractImmutableList", name := "iterator", desc := "()Ljava/util/Iterator;" }) ∈ lw_all := am_wa 2358 rfl rfl
theorem v_2359 : Cond.unhidden "java/util/ImmutableCollections$ListN" "iterator" "()Ljava/util/Iterator;" ∈ lw_tbl := am_wv 2359 rfl
theorem w_2361 : Cond.methodLink "UmbrellaBank$Script" (23 : Nat) ({ cls := "java/util/Iterator", name := "hasNext", desc := "()Z" }) ∈ lw_all := am_wa 2361 rfl rfl
theorem w_2363 : Cond.methodLink "UmbrellaBank$Script" (29 : Nat) ({ cls := "java/util/Iterator", name := "next", desc := "()Ljava/lang/Object;" }) ∈ lw_all := am_wa 2363 rfl rfl
theorem w_2364 : Cond.classLink "UmbrellaBank$Script" (33 : Nat) "UmbrellaBank$Command" ∈ lw_all := am_wa 2364 rfl rfl
theorem w_2365 : Cond.methodLink "UmbrellaBank$Script" (35 : Nat) ({ cls := "UmbrellaBank$Command", name := "apply", desc := "(LUmbrellaBank$State;)I" }) ∈ lw_all := am_wa 2365 rfl rfl
theorem w_2366 : Cond.classLink "UmbrellaBank$Script" (53 : Nat) "java/lang/IllegalStateException" ∈ lw_all := am_wa 2366 rfl rfl
theorem w_2367 : Cond.methodLink "UmbrellaBank$Script" (55 : Nat) ({ cls := "java/lang/IllegalStateException", name := "<init>", desc := "()V" }) ∈ lw_all := am_wa 2367 rfl rfl
theorem w_2368 : Cond.methodLink "UmbrellaBank$Change" (32 : Nat) ({ cls := "java/util/ArrayDeque", name := "addLast", desc := "(Ljava/lang/Object;)V" }) ∈ lw_all := am_wa 2368 rfl rfl
theorem w_2369 : Cond.methodLink "UmbrellaBank$Change" (38 : Nat) ({ cls := "java/util/ArrayDeque", name := "size", desc := "()I" }) ∈ lw_all := am_wa 2369 rfl rfl
theorem w_2370 : Cond.methodLink "UmbrellaBank$Change" (42 : Nat) ({ cls := "java/util/ArrayDeque", name := "removeFirst", desc := "()Ljava/lang/Object;" }) ∈ lw_all := am_wa 2370 rfl rfl
theorem w_2371 : Cond.instanceMethod ({ cls := "java/util/ArrayDeque", name := "removeFirst", desc := "()Ljava/lang/Object;" }) ∈ lw_all := am_wa 2371 rfl rfl
theorem w_2372 : Cond.selects "java/util/ArrayDeque" ({ cls := "java/util/ArrayDeque", name := "removeFirst", desc := "()Ljava/lang/Object;" }) ({ cls := "java/util/ArrayDeque", name := "removeFirst", desc := "()Ljava/lang/Object;" }) ∈ lw_all := am_wa 2372 rfl rfl
theorem w_2373 : Cond.code ({ cls := "java/util/ArrayDeque", name := "removeFirst", desc := "()Ljava/lang/Object;" }) prog_61_method_18_code (2 : Nat) (Option.some (FieldType.object "java/lang/Object")) ∈ lw_all := am_wa 2373 rfl rfl
theorem w_2374 : Cond.classLink "java/util/ArrayDeque" (97 : Nat) "java/util/NoSuchElementException" ∈ lw_all := am_wa 2374 rfl rfl
theorem w_2375 : Cond.methodLink "java/util/ArrayDeque" (99 : Nat) ({ cls := "java/util/NoSuchElementException", name := "<init>", desc := "()V" }) ∈ lw_all := am_wa 2375 rfl rfl
theorem w_2376 : Cond.methodLink "UmbrellaBankLaw" (185 : Nat) ({ cls := "UmbrellaBank", name := "netPromises", desc := "()I" }) ∈ lw_all := am_wa 2376 rfl rfl
theorem w_2377 : Cond.instanceMethod ({ cls := "UmbrellaBank", name := "netPromises", desc := "()I" }) ∈ lw_all := am_wa 2377 rfl rfl
theorem w_2378 : Cond.selects "UmbrellaBank" ({ cls := "UmbrellaBank", name := "netPromises", desc := "()I" }) ({ cls := "UmbrellaBank", name := "netPromises", desc := "()I" }) ∈ lw_all := am_wa 2378 rfl rfl
theorem w_2379 : Cond.code ({ cls := "UmbrellaBank", name := "netPromises", desc := "()I" }) prog_1_method_20_code (1 : Nat) (Option.some FieldType.int) ∈ lw_all := am_wa 2379 rfl rfl
theorem w_2381 : Cond.methodLink "UmbrellaBankLaw" (201 : Nat) ({ cls := "UmbrellaBank", name := "ownerCount", desc := "()I" }) ∈ lw_all := am_wa 2381 rfl rfl
theorem w_2382 : Cond.instanceMethod ({ cls := "UmbrellaBank", name := "ownerCount", desc := "()I" }) ∈ lw_all := am_wa 2382 rfl rfl
theorem w_2383 : Cond.selects "UmbrellaBank" ({ cls := "UmbrellaBank", name := "ownerCount", desc := "()I" }) ({ cls := "UmbrellaBank", name := "ownerCount", desc := "()I" }) ∈ lw_all := am_wa 2383 rfl rfl
theorem w_2384 : Cond.code ({ cls := "UmbrellaBank", name := "ownerCount", desc := "()I" }) prog_1_method_25_code (1 : Nat) (Option.some FieldType.int) ∈ lw_all := am_wa 2384 rfl rfl
theorem w_2385 : Cond.methodLink "UmbrellaBankLaw" (211 : Nat) ({ cls := "UmbrellaBank", name := "vault", desc := "()I" }) ∈ lw_all := am_wa 2385 rfl rfl
theorem w_2386 : Cond.instanceMethod ({ cls := "UmbrellaBank", name := "vault", desc := "()I" }) ∈ lw_all := am_wa 2386 rfl rfl
theorem w_2387 : Cond.selects "UmbrellaBank" ({ cls := "UmbrellaBank", name := "vault", desc := "()I" }) ({ cls := "UmbrellaBank", name := "vault", desc := "()I" }) ∈ lw_all := am_wa 2387 rfl rfl
theorem w_2388 : Cond.code ({ cls := "UmbrellaBank", name := "vault", desc := "()I" }) prog_1_method_28_code (1 : Nat) (Option.some FieldType.int) ∈ lw_all := am_wa 2388 rfl rfl
theorem w_2389 : Cond.methodLink "UmbrellaBankLaw" (215 : Nat) ({ cls := "UmbrellaBank", name := "capital", desc := "()I" }) ∈ lw_all := am_wa 2389 rfl rfl
theorem w_2390 : Cond.instanceMethod ({ cls := "UmbrellaBank", name := "capital", desc := "()I" }) ∈ lw_all := am_wa 2390 rfl rfl
theorem w_2391 : Cond.selects "UmbrellaBank" ({ cls := "UmbrellaBank", name := "capital", desc := "()I" }) ({ cls := "UmbrellaBank", name := "capital", desc := "()I" }) ∈ lw_all := am_wa 2391 rfl rfl
theorem w_2392 : Cond.code ({ cls := "UmbrellaBank", name := "capital", desc := "()I" }) prog_1_method_29_code (1 : Nat) (Option.some FieldType.int) ∈ lw_all := am_wa 2392 rfl rfl
theorem w_2393 : Cond.methodLink "UmbrellaBankLaw" (219 : Nat) ({ cls := "UmbrellaBank", name := "depositTotal", desc := "()I" }) ∈ lw_all := am_wa 2393 rfl rfl
theorem w_2394 : Cond.instanceMethod ({ cls := "UmbrellaBank", name := "depositTotal", desc := "()I" }) ∈ lw_all := am_wa 2394 rfl rfl
theorem w_2395 : Cond.selects "UmbrellaBank" ({ cls := "UmbrellaBank", name := "depositTotal", desc := "()I" }) ({ cls := "UmbrellaBank", name := "depositTotal", desc := "()I" }) ∈ lw_all := am_wa 2395 rfl rfl
theorem w_2396 : Cond.code ({ cls := "UmbrellaBank", name := "depositTotal", desc := "()I" }) prog_1_method_30_code (1 : Nat) (Option.some FieldType.int) ∈ lw_all := am_wa 2396 rfl rfl
theorem w_2397 : Cond.methodLink "UmbrellaBank" (145 : Nat) ({ cls := "UmbrellaBank$State", name := "depositTotal", desc := "()I" }) ∈ lw_all := am_wa 2397 rfl rfl
theorem w_2398 : Cond.methodLink "UmbrellaBankLaw" (223 : Nat) ({ cls := "UmbrellaBank", name := "lentTotal", desc := "()I" }) ∈ lw_all := am_wa 2398 rfl rfl
theorem w_2399 : Cond.instanceMethod ({ cls := "UmbrellaBank", name := "lentTotal", desc := "()I" }) ∈ lw_all := am_wa 2399 rfl rfl
theorem w_2400 : Cond.selects "UmbrellaBank" ({ cls := "UmbrellaBank", name := "lentTotal", desc := "()I" }) ({ cls := "UmbrellaBank", name := "lentTotal", desc := "()I" }) ∈ lw_all := am_wa 2400 rfl rfl
theorem w_2401 : Cond.code ({ cls := "UmbrellaBank", name := "lentTotal", desc := "()I" }) prog_1_method_31_code (1 : Nat) (Option.some FieldType.int) ∈ lw_all := am_wa 2401 rfl rfl
theorem w_2402 : Cond.methodLink "UmbrellaBank" (148 : Nat) ({ cls := "UmbrellaBank$State", name := "lentTotal", desc := "()I" }) ∈ lw_all := am_wa 2402 rfl rfl
theorem w_2403 : Cond.instanceMethod ({ cls := "UmbrellaBank$State", name := "lentTotal", desc := "()I" }) ∈ lw_all := am_wa 2403 rfl rfl
theorem w_2404 : Cond.selects "UmbrellaBank$State" ({ cls := "UmbrellaBank$State", name := "lentTotal", desc := "()I" }) ({ cls := "UmbrellaBank$State", name := "lentTotal", desc := "()I" }) ∈ lw_all := am_wa 2404 rfl rfl
theorem w_2405 : Cond.code ({ cls := "UmbrellaBank$State", name := "lentTotal", desc := "()I" }) prog_20_method_5_code (4 : Nat) (Option.some FieldType.int) ∈ lw_all := am_wa 2405 rfl rfl
theorem w_2406 : Cond.methodLink "UmbrellaBankLaw" (227 : Nat) ({ cls := "UmbrellaBank", name := "lentByAccounts", desc := "()I" }) ∈ lw_all := am_wa 2406 rfl rfl
theorem w_2407 : Cond.instanceMethod ({ cls := "UmbrellaBank", name := "lentByAccounts", desc := "()I" }) ∈ lw_all := am_wa 2407 rfl rfl
theorem w_2408 : Cond.selects "UmbrellaBank" ({ cls := "UmbrellaBank", name := "lentByAccounts", desc := "()I" }) ({ cls := "UmbrellaBank", name := "lentByAccounts", desc := "()I" }) ∈ lw_all := am_wa 2408 rfl rfl
theorem w_2409 : Cond.code ({ cls := "UmbrellaBank", name := "lentByAccounts", desc := "()I" }) prog_1_method_32_code (1 : Nat) (Option.some FieldType.int) ∈ lw_all := am_wa 2409 rfl rfl
theorem w_2410 : Cond.methodLink "UmbrellaBankLaw" (231 : Nat) ({ cls := "UmbrellaBank", name := "drops", desc := "()J" }) ∈ lw_all := am_wa 2410 rfl rfl
theorem w_2411 : Cond.instanceMethod ({ cls := "UmbrellaBank", name := "drops", desc := "()J" }) ∈ lw_all := am_wa 2411 rfl rfl
theorem w_2412 : Cond.selects "UmbrellaBank" ({ cls := "UmbrellaBank", name := "drops", desc := "()J" }) ({ cls := "UmbrellaBank", name := "drops", desc := "()J" }) ∈ lw_all := am_wa 2412 rfl rfl
theorem w_2413 : Cond.code ({ cls := "UmbrellaBank", name := "drops", desc := "()J" }) prog_1_method_33_code (1 : Nat) (Option.some FieldType.long) ∈ lw_all := am_wa 2413 rfl rfl
theorem w_2414 : Cond.methodLink "UmbrellaBankLaw" (236 : Nat) ({ cls := "UmbrellaBank", name := "mostToLend", desc := "()I" }) ∈ lw_all := am_wa 2414 rfl rfl
theorem w_2415 : Cond.instanceMethod ({ cls := "UmbrellaBank", name := "mostToLend", desc := "()I" }) ∈ lw_all := am_wa 2415 rfl rfl
theorem w_2416 : Cond.selects "UmbrellaBank" ({ cls := "UmbrellaBank", name := "mostToLend", desc := "()I" }) ({ cls := "UmbrellaBank", name := "mostToLend", desc := "()I" }) ∈ lw_all := am_wa 2416 rfl rfl
theorem w_2417 : Cond.code ({ cls := "UmbrellaBank", name := "mostToLend", desc := "()I" }) prog_1_method_34_code (2 : Nat) (Option.some FieldType.int) ∈ lw_all := am_wa 2417 rfl rfl
theorem w_2418 : Cond.methodLink "UmbrellaBank" (155 : Nat) ({ cls := "java/lang/Math", name := "min", desc := "(II)I" }) ∈ lw_all := am_wa 2418 rfl rfl
theorem w_2419 : Cond.methodLink "UmbrellaBank" (161 : Nat) ({ cls := "UmbrellaBank$State", name := "isEnough", desc := "(II)Z" }) ∈ lw_all := am_wa 2419 rfl rfl
theorem w_2420 : Cond.methodLink "UmbrellaBankLaw" (240 : Nat) ({ cls := "UmbrellaBank", name := "ratio", desc := "()I" }) ∈ lw_all := am_wa 2420 rfl rfl
theorem w_2421 : Cond.instanceMethod ({ cls := "UmbrellaBank", name := "ratio", desc := "()I" }) ∈ lw_all := am_wa 2421 rfl rfl
theorem w_2422 : Cond.selects "UmbrellaBank" ({ cls := "UmbrellaBank", name := "ratio", desc := "()I" }) ({ cls := "UmbrellaBank", name := "ratio", desc := "()I" }) ∈ lw_all := am_wa 2422 rfl rfl
theorem w_2423 : Cond.code ({ cls := "UmbrellaBank", name := "ratio", desc := "()I" }) prog_1_method_35_code (1 : Nat) (Option.some FieldType.int) ∈ lw_all := am_wa 2423 rfl rfl
theorem w_2424 : Cond.methodLink "UmbrellaBankLaw" (244 : Nat) ({ cls := "UmbrellaBank", name := "gust", desc := "()I" }) ∈ lw_all := am_wa 2424 rfl rfl
theorem w_2425 : Cond.instanceMethod ({ cls := "UmbrellaBank", name := "gust", desc := "()I" }) ∈ lw_all := am_wa 2425 rfl rfl
theorem w_2426 : Cond.selects "UmbrellaBank" ({ cls := "UmbrellaBank", name := "gust", desc := "()I" }) ({ cls := "UmbrellaBank", name := "gust", desc := "()I" }) ∈ lw_all := am_wa 2426 rfl rfl
theorem w_2427 : Cond.code ({ cls := "UmbrellaBank", name := "gust", desc := "()I" }) prog_1_method_36_code (1 : Nat) (Option.some FieldType.int) ∈ lw_all := am_wa 2427 rfl rfl
theorem w_2428 : Cond.methodLink "UmbrellaBankLaw" (248 : Nat) ({ cls := "UmbrellaBank", name := "day", desc := "()I" }) ∈ lw_all := am_wa 2428 rfl rfl
theorem w_2429 : Cond.instanceMethod ({ cls := "UmbrellaBank", name := "day", desc := "()I" }) ∈ lw_all := am_wa 2429 rfl rfl
theorem w_2430 : Cond.selects "UmbrellaBank" ({ cls := "UmbrellaBank", name := "day", desc := "()I" }) ({ cls := "UmbrellaBank", name := "day", desc := "()I" }) ∈ lw_all := am_wa 2430 rfl rfl
theorem w_2431 : Cond.code ({ cls := "UmbrellaBank", name := "day", desc := "()I" }) prog_1_method_37_code (1 : Nat) (Option.some FieldType.int) ∈ lw_all := am_wa 2431 rfl rfl
theorem w_2432 : Cond.methodLink "UmbrellaBankLaw" (261 : Nat) ({ cls := "UmbrellaBank", name := "loanCount", desc := "()I" }) ∈ lw_all := am_wa 2432 rfl rfl
theorem w_2433 : Cond.instanceMethod ({ cls := "UmbrellaBank", name := "loanCount", desc := "()I" }) ∈ lw_all := am_wa 2433 rfl rfl
theorem w_2434 : Cond.selects "UmbrellaBank" ({ cls := "UmbrellaBank", name := "loanCount", desc := "()I" }) ({ cls := "UmbrellaBank", name := "loanCount", desc := "()I" }) ∈ lw_all := am_wa 2434 rfl rfl
theorem w_2435 : Cond.code ({ cls := "UmbrellaBank", name := "loanCount", desc := "()I" }) prog_1_method_41_code (1 : Nat) (Option.some FieldType.int) ∈ lw_all := am_wa 2435 rfl rfl
theorem w_2436 : Cond.methodLink "UmbrellaBank" (203 : Nat) ({ cls := "java/util/ArrayList", name := "size", desc := "()I" }) ∈ lw_all := am_wa 2436 rfl rfl
theorem w_2437 : Cond.methodLink "UmbrellaBankLaw" (289 : Nat) ({ cls := "UmbrellaBank", name := "claimCount", desc := "()I" }) ∈ lw_all := am_wa 2437 rfl rfl
theorem w_2438 : Cond.instanceMethod ({ cls := "UmbrellaBank", name := "claimCount", desc := "()I" }) ∈ lw_all := am_wa 2438 rfl rfl
theorem w_2439 : Cond.selects "UmbrellaBank" ({ cls := "UmbrellaBank", name := "claimCount", desc := "()I" }) ({ cls := "UmbrellaBank", name := "claimCount", desc := "()I" }) ∈ lw_all := am_wa 2439 rfl rfl
theorem w_2440 : Cond.code ({ cls := "UmbrellaBank", name := "claimCount", desc := "()I" }) prog_1_method_50_code (1 : Nat) (Option.some FieldType.int) ∈ lw_all := am_wa 2440 rfl rfl
theorem w_2441 : Cond.methodLink "UmbrellaBankLaw" (296 : Nat) ({ cls := "UmbrellaBank", name := "payableClaims", desc := "()I" }) ∈ lw_all := am_wa 2441 rfl rfl
theorem w_2442 : Cond.instanceMethod ({ cls := "UmbrellaBank", name := "payableClaims", desc := "()I" }) ∈ lw_all := am_wa 2442 rfl rfl
theorem w_2443 : Cond.selects "UmbrellaBank" ({ cls := "UmbrellaBank", name := "payableClaims", desc := "()I" }) ({ cls := "UmbrellaBank", name := "payableClaims", desc := "()I" }) ∈ lw_all := am_wa 2443 rfl rfl
theorem w_2444 : Cond.code ({ cls := "UmbrellaBank", name := "payableClaims", desc := "()I" }) prog_1_method_52_code (1 : Nat) (Option.some FieldType.int) ∈ lw_all := am_wa 2444 rfl rfl
theorem w_2445 : Cond.methodLink "UmbrellaBank" (290 : Nat) ({ cls := "UmbrellaBank$State", name := "<init>", desc := "(LUmbrellaBank$State;)V" }) ∈ lw_all := am_wa 2445 rfl rfl
theorem w_2446 : Cond.methodLink "UmbrellaBank" (293 : Nat) ({ cls := "UmbrellaBank$State", name := "payClaims", desc := "()I" }) ∈ lw_all := am_wa 2446 rfl rfl
theorem w_2447 : Cond.methodLink "UmbrellaBankLaw" (300 : Nat) ({ cls := "UmbrellaBank", name := "payableClaimsBySums", desc := "()I" }) ∈ lw_all := am_wa 2447 rfl rfl
theorem w_2448 : Cond.instanceMethod ({ cls := "UmbrellaBank", name := "payableClaimsBySums", desc := "()I" }) ∈ lw_all := am_wa 2448 rfl rfl
theorem w_2449 : Cond.selects "UmbrellaBank" ({ cls := "UmbrellaBank", name := "payableClaimsBySums", desc := "()I" }) ({ cls := "UmbrellaBank", name := "payableClaimsBySums", desc := "()I" }) ∈ lw_all := am_wa 2449 rfl rfl
theorem w_2450 : Cond.code ({ cls := "UmbrellaBank", name := "payableClaimsBySums", desc := "()I" }) prog_1_method_54_code (2 : Nat) (Option.some FieldType.int) ∈ lw_all := am_wa 2450 rfl rfl
theorem w_2451 : Cond.methodLink "UmbrellaBank" (324 : Nat) ({ cls := "UmbrellaBank", name := "arePayable", desc := "(I)Z" }) ∈ lw_all := am_wa 2451 rfl rfl
theorem v_2452 : Cond.privateMethod ({ cls := "UmbrellaBank", name := "arePayable", desc := "(I)Z" }) ∈ lw_tbl := am_wv 2452 rfl
theorem w_2453 : Cond.instanceMethod ({ cls := "UmbrellaBank", name := "arePayable", desc := "(I)Z" }) ∈ lw_all := am_wa 2453 rfl rfl
theorem w_2454 : Cond.code ({ cls := "UmbrellaBank", name := "arePayable", desc := "(I)Z" }) prog_1_method_53_code (8 : Nat) (Option.some FieldType.boolean) ∈ lw_all := am_wa 2454 rfl rfl
theorem w_2455 : Cond.classLink "UmbrellaBank" (296 : Nat) "java/util/TreeMap" ∈ lw_all := am_wa 2455 rfl rfl
theorem w_2456 : Cond.methodLink "UmbrellaBank" (298 : Nat) ({ cls := "java/util/TreeMap", name := "<init>", desc := "()V" }) ∈ lw_all := am_wa 2456 rfl rfl
theorem w_2457 : Cond.instanceMethod ({ cls := "java/util/TreeMap", name := "<init>", desc := "()V" }) ∈ lw_all := am_wa 2457 rfl rfl
theorem w_2458 : Cond.code ({ cls := "java/util/TreeMap", name := "<init>", desc := "()V" }) prog_96_method_1_code (1 : Nat) (Option.none : Option FieldType) ∈ lw_all := am_wa 2458 rfl rfl
theorem w_2459 : Cond.methodLink "java/util/TreeMap" (1 : Nat) ({ cls := "java/util/AbstractMap", name := "<init>", desc := "()V" }) ∈ lw_all := am_wa 2459 rfl rfl
theorem w_2460 : Cond.instanceMethod ({ cls := "java/util/AbstractMap", name := "<init>", desc := "()V" }) ∈ lw_all := am_wa 2460 rfl rfl
theorem w_2461 : Cond.code ({ cls := "java/util/AbstractMap", name := "<init>", desc := "()V" }) prog_58_method_1_code (1 : Nat) (Option.none : Option FieldType) ∈ lw_all := am_wa 2461 rfl rfl
theorem w_2462 : Cond.methodLink "java/util/AbstractMap" (1 : Nat) ({ cls := "java/lang/Object", name := "<init>", desc := "()V" }) ∈ lw_all := am_wa 2462 rfl rfl
theorem w_2463 : Cond.fieldLink "java/util/TreeMap" (16 : Nat) "java/util/TreeMap" "comparator" "Ljava/util/Comparator;" ∈ lw_all := am_wa 2463 rfl rfl
theorem w_2464 : Cond.fieldLink "java/util/TreeMap" (101 : Nat) "java/util/TreeMap" "root" "Ljava/util/TreeMap$Entry;" ∈ lw_all := am_wa 2464 rfl rfl
theorem w_2465 : Cond.fieldLink "java/util/TreeMap" (7 : Nat) "java/util/TreeMap" "size" "I" ∈ lw_all := am_wa 2465 rfl rfl
theorem v_2466 : Cond.fieldLinkNest "java/util/TreeMap$PrivateEntryIterator" (13 : Nat) "java/util/TreeMap" "modCount" "I" "java/util/TreeMap" ∈ lw_tbl := am_wv 2466 rfl
theorem w_2467 : Cond.fieldLink "java/util/TreeMap" (13 : Nat) "java/util/TreeMap" "modCount" "I" ∈ lw_all := am_wa 2467 rfl rfl
theorem w_2468 : Cond.fieldLink "java/util/TreeMap" (191 : Nat) "java/util/TreeMap" "navigableKeySet" "Ljava/util/TreeMap$KeySet;" ∈ lw_all := am_wa 2468 rfl rfl
theorem w_2487 : Cond.superclass "java/util/TreeMap" "java/util/AbstractMap" ∈ lw_all := am_wa 2487 rfl rfl
theorem w_2488 : Cond.methodLink "UmbrellaBank" (284 : Nat) ({ cls := "java/util/ArrayList", name := "get", desc := "(I)Ljava/lang/Object;" }) ∈ lw_all := am_wa 2488 rfl rfl
theorem w_2489 : Cond.classLink "UmbrellaBank" (287 : Nat) "UmbrellaBank$Claim" ∈ lw_all := am_wa 2489 rfl rfl
theorem w_2490 : Cond.methodLink "UmbrellaBank" (299 : Nat) ({ cls := "UmbrellaBank$Claim", name := "owner", desc := "()I" }) ∈ lw_all := am_wa 2490 rfl rfl
theorem w_2491 : Cond.methodLink "UmbrellaBank" (302 : Nat) ({ cls := "java/lang/Integer", name := "valueOf", desc := "(I)Ljava/lang/Integer;" }) ∈ lw_all := am_wa 2491 rfl rfl
theorem w_2492 : Cond.static ({ cls := "java/lang/Integer", name := "valueOf", desc := "(I)Ljava/lang/Integer;" }) ∈ lw_all := am_wa 2492 rfl rfl
theorem w_2493 : Cond.code ({ cls := "java/lang/Integer", name := "valueOf", desc := "(I)Ljava/lang/Integer;" }) prog_38_method_22_code (1 : Nat) (Option.some (FieldType.object "java/lang/Integer")) ∈ lw_all := am_wa 2493 rfl rfl
theorem w_2494 : Cond.fieldLink "java/lang/Integer" (191 : Nat) "java/lang/Integer$IntegerCache" "high" "I" ∈ lw_all := am_wa 2494 rfl rfl
theorem w_2496 : Cond.fieldLink "java/lang/Integer" (195 : Nat) "java/lang/Integer$IntegerCache" "cache" "[Ljava/lang/Integer;" ∈ lw_all := am_wa 2496 rfl rfl
theorem w_2498 : Cond.instantiable "java/lang/Integer" (1 : Nat) ∈ lw_all := am_wa 2498 rfl rfl
theorem w_2499 : Cond.methodLink "java/lang/Integer" (199 : Nat) ({ cls := "java/lang/Integer", name := "<init>", desc := "(I)V" }) ∈ lw_all := am_wa 2499 rfl rfl
theorem w_2500 : Cond.instanceMethod ({ cls := "java/lang/Integer", name := "<init>", desc := "(I)V" }) ∈ lw_all := am_wa 2500 rfl rfl
theorem w_2501 : Cond.code ({ cls := "java/lang/Integer", name := "<init>", desc := "(I)V" }) prog_38_method_23_code (2 : Nat) (Option.none : Option FieldType) ∈ lw_all := am_wa 2501 rfl rfl
theorem w_2502 : Cond.methodLink "java/lang/Integer" (202 : Nat) ({ cls := "java/lang/Number", name := "<init>", desc := "()V" }) ∈ lw_all := am_wa 2502 rfl rfl
theorem w_2503 : Cond.instanceMethod ({ cls := "java/lang/Number", name := "<init>", desc := "()V" }) ∈ lw_all := am_wa 2503 rfl rfl
theorem w_2504 : Cond.code ({ cls := "java/lang/Number", name := "<init>", desc := "()V" }) prog_43_method_1_code (1 : Nat) (Option.none : Option FieldType) ∈ lw_all := am_wa 2504 rfl rfl
theorem w_2505 : Cond.methodLink "java/lang/Number" (1 : Nat) ({ cls := "java/lang/Object", name := "<init>", desc := "()V" }) ∈ lw_all := am_wa 2505 rfl rfl
theorem w_2506 : Cond.fieldLink "java/lang/Integer" (205 : Nat) "java/lang/Integer" "value" "I" ∈ lw_all := am_wa 2506 rfl rfl
theorem w_2509 : Cond.superclass "java/lang/Integer" "java/lang/Number" ∈ lw_all := am_wa 2509 rfl rfl
theorem w_2510 : Cond.methodLink "UmbrellaBank" (308 : Nat) ({ cls := "java/util/TreeMap", name := "get", desc := "(Ljava/lang/Object;)Ljava/lang/Object;" }) ∈ lw_all := am_wa 2510 rfl rfl
theorem w_2511 : Cond.instanceMethod ({ cls := "java/util/TreeMap", name := "get", desc := "(Ljava/lang/Object;)Ljava/lang/Object;" }) ∈ lw_all := am_wa 2511 rfl rfl
theorem w_2512 : Cond.selects "java/util/TreeMap" ({ cls := "java/util/TreeMap", name := "get", desc := "(Ljava/lang/Object;)Ljava/lang/Object;" }) ({ cls := "java/util/TreeMap", name := "get", desc := "(Ljava/lang/Object;)Ljava/lang/Object;" }) ∈ lw_all := am_wa 2512 rfl rfl
theorem w_2513 : Cond.code ({ cls := "java/util/TreeMap", name := "get", desc := "(Ljava/lang/Object;)Ljava/lang/Object;" }) prog_96_method_8_code (3 : Nat) (Option.some (FieldType.object "java/lang/Object")) ∈ lw_all := am_wa 2513 rfl rfl
theorem w_2514 : Cond.classLink "UmbrellaBank" (303 : Nat) "java/lang/Integer" ∈ lw_all := am_wa 2514 rfl rfl
theorem w_2515 : Cond.methodLink "UmbrellaBank" (289 : Nat) ({ cls := "UmbrellaBank$Claim", name := "umbrellas", desc := "()I" }) ∈ lw_all := am_wa 2515 rfl rfl
theorem w_2516 : Cond.methodLink "UmbrellaBank" (311 : Nat) ({ cls := "java/lang/Integer", name := "intValue", desc := "()I" }) ∈ lw_all := am_wa 2516 rfl rfl
theorem w_2517 : Cond.methodLink "UmbrellaBank" (314 : Nat) ({ cls := "java/util/TreeMap", name := "put", desc := "(Ljava/lang/Object;Ljava/lang/Object;)Ljava/lang/Object;" }) ∈ lw_all := am_wa 2517 rfl rfl
theorem w_2518 : Cond.instanceMethod ({ cls := "java/util/TreeMap", name := "put", desc := "(Ljava/lang/Object;Ljava/lang/Object;)Ljava/lang/Object;" }) ∈ lw_all := am_wa 2518 rfl rfl
theorem w_2519 : Cond.selects "java/util/TreeMap" ({ cls := "java/util/TreeMap", name := "put", desc := "(Ljava/lang/Object;Ljava/lang/Object;)Ljava/lang/Object;" }) ({ cls := "java/util/TreeMap", name := "put", desc := "(Ljava/lang/Object;Ljava/lang/Object;)Ljava/lang/Object;" }) ∈ lw_all := am_wa 2519 rfl rfl
theorem w_2520 : Cond.code ({ cls := "java/util/TreeMap", name := "put", desc := "(Ljava/lang/Object;Ljava/lang/Object;)Ljava/lang/Object;" }) prog_96_method_21_code (3 : Nat) (Option.some (FieldType.object "java/lang/Object")) ∈ lw_all := am_wa 2520 rfl rfl
theorem w_2521 : Cond.methodLink "java/util/TreeMap" (127 : Nat) ({ cls := "java/util/TreeMap", name := "put", desc := "(Ljava/lang/Object;Ljava/lang/Object;Z)Ljava/lang/Object;" }) ∈ lw_all := am_wa 2521 rfl rfl
theorem v_2522 : Cond.privateMethod ({ cls := "java/util/TreeMap", name := "put", desc := "(Ljava/lang/Object;Ljava/lang/Object;Z)Ljava/lang/Object;" }) ∈ lw_tbl := am_wv 2522 rfl
theorem w_2523 : Cond.instanceMethod ({ cls := "java/util/TreeMap", name := "put", desc := "(Ljava/lang/Object;Ljava/lang/Object;Z)Ljava/lang/Object;" }) ∈ lw_all := am_wa 2523 rfl rfl
theorem w_2524 : Cond.code ({ cls := "java/util/TreeMap", name := "put", desc := "(Ljava/lang/Object;Ljava/lang/Object;Z)Ljava/lang/Object;" }) prog_96_method_31_code (10 : Nat) (Option.some (FieldType.object "java/lang/Object")) ∈ lw_all := am_wa 2524 rfl rfl
theorem w_2525 : Cond.methodLink "java/util/TreeMap" (135 : Nat) ({ cls := "java/util/TreeMap", name := "addEntryToEmptyMap", desc := "(Ljava/lang/Object;Ljava/lang/Object;)V" }) ∈ lw_all := am_wa 2525 rfl rfl
theorem v_2526 : Cond.privateMethod ({ cls := "java/util/TreeMap", name := "addEntryToEmptyMap", desc := "(Ljava/lang/Object;Ljava/lang/Object;)V" }) ∈ lw_tbl := am_wv 2526 rfl
theorem w_2527 : Cond.instanceMethod ({ cls := "java/util/TreeMap", name := "addEntryToEmptyMap", desc := "(Ljava/lang/Object;Ljava/lang/Object;)V" }) ∈ lw_all := am_wa 2527 rfl rfl
theorem w_2528 : Cond.code ({ cls := "java/util/TreeMap", name := "addEntryToEmptyMap", desc := "(Ljava/lang/Object;Ljava/lang/Object;)V" }) prog_96_method_30_code (3 : Nat) (Option.none : Option FieldType) ∈ lw_all := am_wa 2528 rfl rfl
theorem w_2529 : Cond.methodLink "java/util/TreeMap" (123 : Nat) ({ cls := "java/util/TreeMap", name := "compare", desc := "(Ljava/lang/Object;Ljava/lang/Object;)I" }) ∈ lw_all := am_wa 2529 rfl rfl
theorem w_2530 : Cond.instanceMethod ({ cls := "java/util/TreeMap", name := "compare", desc := "(Ljava/lang/Object;Ljava/lang/Object;)I" }) ∈ lw_all := am_wa 2530 rfl rfl
theorem w_2531 : Cond.selects "java/util/TreeMap" ({ cls := "java/util/TreeMap", name := "compare", desc := "(Ljava/lang/Object;Ljava/lang/Object;)I" }) ({ cls := "java/util/TreeMap", name := "compare", desc := "(Ljava/lang/Object;Ljava/lang/Object;)I" }) ∈ lw_all := am_wa 2531 rfl rfl
theorem w_2532 : Cond.code ({ cls := "java/util/TreeMap", name := "compare", desc := "(Ljava/lang/Object;Ljava/lang/Object;)I" }) prog_96_method_67_code (3 : Nat) (Option.some FieldType.int) ∈ lw_all := am_wa 2532 rfl rfl
theorem w_2533 : Cond.classLink "java/util/TreeMap" (59 : Nat) "java/util/TreeMap$Entry" ∈ lw_all := am_wa 2533 rfl rfl
theorem w_2534 : Cond.instantiable "java/util/TreeMap$Entry" (6 : Nat) ∈ lw_all := am_wa 2534 rfl rfl
theorem w_2535 : Cond.methodLink "java/util/TreeMap" (167 : Nat) ({ cls := "java/util/TreeMap$Entry", name := "<init>", desc := "(Ljava/lang/Object;Ljava/lang/Object;Ljava/util/TreeMap$Entry;)V" }) ∈ lw_all := am_wa 2535 rfl rfl
theorem w_2536 : Cond.instanceMethod ({ cls := "java/util/TreeMap$Entry", name := "<init>", desc := "(Ljava/lang/Object;Ljava/lang/Object;Ljava/util/TreeMap$Entry;)V" }) ∈ lw_all := am_wa 2536 rfl rfl
theorem w_2537 : Cond.code ({ cls := "java/util/TreeMap$Entry", name := "<init>", desc := "(Ljava/lang/Object;Ljava/lang/Object;Ljava/util/TreeMap$Entry;)V" }) prog_97_method_1_code (4 : Nat) (Option.none : Option FieldType) ∈ lw_all := am_wa 2537 rfl rfl
theorem w_2538 : Cond.methodLink "java/util/TreeMap$Entry" (3 : Nat) ({ cls := "java/lang/Object", name := "<init>", desc := "()V" }) ∈ lw_all := am_wa 2538 rfl rfl
theorem w_2539 : Cond.fieldLink "java/util/TreeMap$Entry" (15 : Nat) "java/util/TreeMap$Entry" "key" "Ljava/lang/Object;" ∈ lw_all := am_wa 2539 rfl rfl
theorem w_2540 : Cond.fieldLink "java/util/TreeMap$KeyIterator" (13 : Nat) "java/util/TreeMap$Entry" "key" "Ljava/lang/Object;" ∈ lw_all := am_wa 2540 rfl rfl
theorem w_2541 : Cond.fieldLink "java/util/TreeMap" (105 : Nat) "java/util/TreeMap$Entry" "key" "Ljava/lang/Object;" ∈ lw_all := am_wa 2541 rfl rfl
theorem w_2542 : Cond.fieldLink "java/util/TreeMap$Entry" (19 : Nat) "java/util/TreeMap$Entry" "value" "Ljava/lang/Object;" ∈ lw_all := am_wa 2542 rfl rfl
theorem w_2543 : Cond.fieldLink "java/util/TreeMap" (58 : Nat) "java/util/TreeMap$Entry" "value" "Ljava/lang/Object;" ∈ lw_all := am_wa 2543 rfl rfl
theorem w_2544 : Cond.fieldLink "java/util/TreeMap$PrivateEntryIterator" (45 : Nat) "java/util/TreeMap$Entry" "left" "Ljava/util/TreeMap$Entry;" ∈ lw_all := am_wa 2544 rfl rfl
theorem w_2545 : Cond.fieldLink "java/util/TreeMap" (111 : Nat) "java/util/TreeMap$Entry" "left" "Ljava/util/TreeMap$Entry;" ∈ lw_all := am_wa 2545 rfl rfl
theorem w_2546 : Cond.fieldLink "java/util/TreeMap$PrivateEntryIterator" (50 : Nat) "java/util/TreeMap$Entry" "right" "Ljava/util/TreeMap$Entry;" ∈ lw_all := am_wa 2546 rfl rfl
theorem w_2547 : Cond.fieldLink "java/util/TreeMap" (114 : Nat) "java/util/TreeMap$Entry" "right" "Ljava/util/TreeMap$Entry;" ∈ lw_all := am_wa 2547 rfl rfl
theorem w_2548 : Cond.fieldLink "java/util/TreeMap$Entry" (22 : Nat) "java/util/TreeMap$Entry" "parent" "Ljava/util/TreeMap$Entry;" ∈ lw_all := am_wa 2548 rfl rfl
theorem w_2549 : Cond.fieldLink "java/util/TreeMap" (124 : Nat) "java/util/TreeMap$Entry" "parent" "Ljava/util/TreeMap$Entry;" ∈ lw_all := am_wa 2549 rfl rfl
theorem w_2550 : Cond.fieldLink "java/util/TreeMap$Entry" (9 : Nat) "java/util/TreeMap$Entry" "color" "Z" ∈ lw_all := am_wa 2550 rfl rfl
theorem w_2551 : Cond.fieldLink "java/util/TreeMap" (290 : Nat) "java/util/TreeMap$Entry" "color" "Z" ∈ lw_all := am_wa 2551 rfl rfl
theorem w_2564 : Cond.superclass "java/util/TreeMap$Entry" "java/lang/Object" ∈ lw_all := am_wa 2564 rfl rfl
theorem w_2565 : Cond.methodLink "java/util/TreeMap" (139 : Nat) ({ cls := "java/util/TreeMap", name := "addEntry", desc := "(Ljava/lang/Object;Ljava/lang/Object;Ljava/util/TreeMap$Entry;Z)V" }) ∈ lw_all := am_wa 2565 rfl rfl
theorem v_2566 : Cond.privateMethod ({ cls := "java/util/TreeMap", name := "addEntry", desc := "(Ljava/lang/Object;Ljava/lang/Object;Ljava/util/TreeMap$Entry;Z)V" }) ∈ lw_tbl := am_wv 2566 rfl
theorem w_2567 : Cond.instanceMethod ({ cls := "java/util/TreeMap", name := "addEntry", desc := "(Ljava/lang/Object;Ljava/lang/Object;Ljava/util/TreeMap$Entry;Z)V" }) ∈ lw_all := am_wa 2567 rfl rfl
theorem w_2568 : Cond.code ({ cls := "java/util/TreeMap", name := "addEntry", desc := "(Ljava/lang/Object;Ljava/lang/Object;Ljava/util/TreeMap$Entry;Z)V" }) prog_96_method_29_code (6 : Nat) (Option.none : Option FieldType) ∈ lw_all := am_wa 2568 rfl rfl
theorem w_2569 : Cond.methodLink "java/util/TreeMap" (170 : Nat) ({ cls := "java/util/TreeMap", name := "fixAfterInsertion", desc := "(Ljava/util/TreeMap$Entry;)V" }) ∈ lw_all := am_wa 2569 rfl rfl
theorem v_2570 : Cond.privateMethod ({ cls := "java/util/TreeMap", name := "fixAfterInsertion", desc := "(Ljava/util/TreeMap$Entry;)V" }) ∈ lw_tbl := am_wv 2570 rfl
theorem w_2571 : Cond.instanceMethod ({ cls := "java/util/TreeMap", name := "fixAfterInsertion", desc := "(Ljava/util/TreeMap$Entry;)V" }) ∈ lw_all := am_wa 2571 rfl rfl
theorem w_2572 : Cond.code ({ cls := "java/util/TreeMap", name := "fixAfterInsertion", desc := "(Ljava/util/TreeMap$Entry;)V" }) prog_96_method_83_code (3 : Nat) (Option.none : Option FieldType) ∈ lw_all := am_wa 2572 rfl rfl
theorem w_2573 : Cond.methodLink "UmbrellaBank" (317 : Nat) ({ cls := "java/util/TreeMap", name := "keySet", desc := "()Ljava/util/Set;" }) ∈ lw_all := am_wa 2573 rfl rfl
theorem w_2574 : Cond.instanceMethod ({ cls := "java/util/TreeMap", name := "keySet", desc := "()Ljava/util/Set;" }) ∈ lw_all := am_wa 2574 rfl rfl
theorem w_2575 : Cond.selects "java/util/TreeMap" ({ cls := "java/util/TreeMap", name := "keySet", desc := "()Ljava/util/Set;" }) ({ cls := "java/util/TreeMap", name := "keySet", desc := "()Ljava/util/Set;" }) ∈ lw_all := am_wa 2575 rfl rfl
theorem w_2576 : Cond.code ({ cls := "java/util/TreeMap", name := "keySet", desc := "()Ljava/util/Set;" }) prog_96_method_49_code (1 : Nat) (Option.some (FieldType.object "java/util/Set")) ∈ lw_all := am_wa 2576 rfl rfl
theorem w_2577 : Cond.methodLink "java/util/TreeMap" (219 : Nat) ({ cls := "java/util/TreeMap", name := "navigableKeySet", desc := "()Ljava/util/NavigableSet;" }) ∈ lw_all := am_wa 2577 rfl rfl
theorem w_2578 : Cond.instanceMethod ({ cls := "java/util/TreeMap", name := "navigableKeySet", desc := "()Ljava/util/NavigableSet;" }) ∈ lw_all := am_wa 2578 rfl rfl
theorem w_2579 : Cond.selects "java/util/TreeMap" ({ cls := "java/util/TreeMap", name := "navigableKeySet", desc := "()Ljava/util/NavigableSet;" }) ({ cls := "java/util/TreeMap", name := "navigableKeySet", desc := "()Ljava/util/NavigableSet;" }) ∈ lw_all := am_wa 2579 rfl rfl
theorem w_2580 : Cond.code ({ cls := "java/util/TreeMap", name := "navigableKeySet", desc := "()Ljava/util/NavigableSet;" }) prog_96_method_50_code (2 : Nat) (Option.some (FieldType.object "java/util/NavigableSet")) ∈ lw_all := am_wa 2580 rfl rfl
theorem w_2581 : Cond.classLink "java/util/TreeMap" (222 : Nat) "java/util/TreeMap$KeySet" ∈ lw_all := am_wa 2581 rfl rfl
theorem w_2582 : Cond.instantiable "java/util/TreeMap$KeySet" (1 : Nat) ∈ lw_all := am_wa 2582 rfl rfl
theorem w_2583 : Cond.methodLink "java/util/TreeMap" (224 : Nat) ({ cls := "java/util/TreeMap$KeySet", name := "<init>", desc := "(Ljava/util/NavigableMap;)V" }) ∈ lw_all := am_wa 2583 rfl rfl
theorem w_2584 : Cond.instanceMethod ({ cls := "java/util/TreeMap$KeySet", name := "<init>", desc := "(Ljava/util/NavigableMap;)V" }) ∈ lw_all := am_wa 2584 rfl rfl
theorem w_2585 : Cond.code ({ cls := "java/util/TreeMap$KeySet", name := "<init>", desc := "(Ljava/util/NavigableMap;)V" }) prog_99_method_1_code (2 : Nat) (Option.none : Option FieldType) ∈ lw_all := am_wa 2585 rfl rfl
theorem w_2586 : Cond.methodLink "java/util/TreeMap$KeySet" (1 : Nat) ({ cls := "java/util/AbstractSet", name := "<init>", desc := "()V" }) ∈ lw_all := am_wa 2586 rfl rfl
theorem w_2587 : Cond.instanceMethod ({ cls := "java/util/AbstractSet", name := "<init>", desc := "()V" }) ∈ lw_all := am_wa 2587 rfl rfl
theorem w_2588 : Cond.code ({ cls := "java/util/AbstractSet", name := "<init>", desc := "()V" }) prog_60_method_1_code (1 : Nat) (Option.none : Option FieldType) ∈ lw_all := am_wa 2588 rfl rfl
theorem w_2589 : Cond.methodLink "java/util/AbstractSet" (1 : Nat) ({ cls := "java/util/AbstractCollection", name := "<init>", desc := "()V" }) ∈ lw_all := am_wa 2589 rfl rfl
theorem w_2590 : Cond.fieldLink "java/util/TreeMap$KeySet" (7 : Nat) "java/util/TreeMap$KeySet" "m" "Ljava/util/NavigableMap;" ∈ lw_all := am_wa 2590 rfl rfl
theorem w_2593 : Cond.superclass "java/util/TreeMap$KeySet" "java/util/AbstractSet" ∈ lw_all := am_wa 2593 rfl rfl
theorem w_2595 : Cond.methodLink "UmbrellaBank" (321 : Nat) ({ cls := "java/util/Set", name := "iterator", desc := "()Ljava/util/Iterator;" }) ∈ lw_all := am_wa 2595 rfl rfl
theorem v_2596 : Cond.interfaceMethod "java/util/Set" "java/util/Set" "iterator" "()Ljava/util/Iterator;" ∈ lw_tbl := am_wv 2596 rfl
theorem v_2597 : Cond.declares ({ cls := "java/util/Set", name := "iterator", desc := "()Ljava/util/Iterator;" }) ∈ lw_tbl := am_wv 2597 rfl
theorem v_2598 : Cond.castable "java/util/TreeMap$KeySet" "java/util/Set" ∈ lw_tbl := am_wv 2598 rfl
theorem w_2599 : Cond.selects "java/util/TreeMap$KeySet" ({ cls := "java/util/Set", name := "iterator", desc := "()Ljava/util/Iterator;" }) ({ cls := "java/util/TreeMap$KeySet", name := "iterator", desc := "()Ljava/util/Iterator;" }) ∈ lw_all := am_wa 2599 rfl rfl
theorem v_2600 : Cond.unhidden "java/util/TreeMap$KeySet" "iterator" "()Ljava/util/Iterator;" ∈ lw_tbl := am_wv 2600 rfl
theorem v_2601 : Cond.publicMethod ({ cls := "java/util/TreeMap$KeySet", name := "iterator", desc := "()Ljava/util/Iterator;" }) ∈ lw_tbl := am_wv 2601 rfl
theorem w_2603 : Cond.methodLink "UmbrellaBank" (121 : Nat) ({ cls := "java/util/Iterator", name := "hasNext", desc := "()Z" }) ∈ lw_all := am_wa 2603 rfl rfl
theorem w_2605 : Cond.methodLink "UmbrellaBank" (127 : Nat) ({ cls := "java/util/Iterator", name := "next", desc := "()Ljava/lang/Object;" }) ∈ lw_all := am_wa 2605 rfl rfl
theorem w_2606 : Cond.methodLink "UmbrellaBankLaw" (310 : Nat) ({ cls := "UmbrellaBank", name := "payments", desc := "()I" }) ∈ lw_all := am_wa 2606 rfl rfl
theorem w_2607 : Cond.instanceMethod ({ cls := "UmbrellaBank", name := "payments", desc := "()I" }) ∈ lw_all := am_wa 2607 rfl rfl
theorem w_2608 : Cond.selects "UmbrellaBank" ({ cls := "UmbrellaBank", name := "payments", desc := "()I" }) ({ cls := "UmbrellaBank", name := "payments", desc := "()I" }) ∈ lw_all := am_wa 2608 rfl rfl
theorem w_2609 : Cond.code ({ cls := "UmbrellaBank", name := "payments", desc := "()I" }) prog_1_method_57_code (1 : Nat) (Option.some FieldType.int) ∈ lw_all := am_wa 2609 rfl rfl
theorem w_2610 : Cond.classLink "UmbrellaBank" (333 : Nat) "UmbrellaBank$Netting" ∈ lw_all := am_wa 2610 rfl rfl
theorem w_2611 : Cond.methodLink "UmbrellaBank" (335 : Nat) ({ cls := "UmbrellaBank$Netting", name := "<init>", desc := "(LUmbrellaBank$State;)V" }) ∈ lw_all := am_wa 2611 rfl rfl
theorem w_2612 : Cond.methodLink "UmbrellaBank" (336 : Nat) ({ cls := "UmbrellaBank$Netting", name := "paymentsByQueues", desc := "()I" }) ∈ lw_all := am_wa 2612 rfl rfl
theorem w_2613 : Cond.methodLink "UmbrellaBankLaw" (314 : Nat) ({ cls := "UmbrellaBank", name := "paymentsByLooking", desc := "()I" }) ∈ lw_all := am_wa 2613 rfl rfl
theorem w_2614 : Cond.instanceMethod ({ cls := "UmbrellaBank", name := "paymentsByLooking", desc := "()I" }) ∈ lw_all := am_wa 2614 rfl rfl
theorem w_2615 : Cond.selects "UmbrellaBank" ({ cls := "UmbrellaBank", name := "paymentsByLooking", desc := "()I" }) ({ cls := "UmbrellaBank", name := "paymentsByLooking", desc := "()I" }) ∈ lw_all := am_wa 2615 rfl rfl
theorem w_2616 : Cond.code ({ cls := "UmbrellaBank", name := "paymentsByLooking", desc := "()I" }) prog_1_method_58_code (1 : Nat) (Option.some FieldType.int) ∈ lw_all := am_wa 2616 rfl rfl
theorem w_2617 : Cond.methodLink "UmbrellaBank" (339 : Nat) ({ cls := "UmbrellaBank$Netting", name := "paymentsByLooking", desc := "()I" }) ∈ lw_all := am_wa 2617 rfl rfl
theorem w_2618 : Cond.instanceMethod ({ cls := "UmbrellaBank$Netting", name := "paymentsByLooking", desc := "()I" }) ∈ lw_all := am_wa 2618 rfl rfl
theorem w_2619 : Cond.selects "UmbrellaBank$Netting" ({ cls := "UmbrellaBank$Netting", name := "paymentsByLooking", desc := "()I" }) ({ cls := "UmbrellaBank$Netting", name := "paymentsByLooking", desc := "()I" }) ∈ lw_all := am_wa 2619 rfl rfl
theorem w_2620 : Cond.code ({ cls := "UmbrellaBank$Netting", name := "paymentsByLooking", desc := "()I" }) prog_14_method_3_code (7 : Nat) (Option.some FieldType.int) ∈ lw_all := am_wa 2620 rfl rfl
theorem w_2621 : Cond.classLink "UmbrellaBank$Netting" (59 : Nat) "UmbrellaBank$Netting$1Look" ∈ lw_all := am_wa 2621 rfl rfl
theorem w_2622 : Cond.instantiable "UmbrellaBank$Netting$1Look" (2 : Nat) ∈ lw_all := am_wa 2622 rfl rfl
theorem w_2623 : Cond.methodLink "UmbrellaBank$Netting" (61 : Nat) ({ cls := "UmbrellaBank$Netting$1Look", name := "<init>", desc := "(LUmbrellaBank$Netting;[I)V" }) ∈ lw_all := am_wa 2623 rfl rfl
theorem w_2624 : Cond.instanceMethod ({ cls := "UmbrellaBank$Netting$1Look", name := "<init>", desc := "(LUmbrellaBank$Netting;[I)V" }) ∈ lw_all := am_wa 2624 rfl rfl
theorem w_2625 : Cond.code ({ cls := "UmbrellaBank$Netting$1Look", name := "<init>", desc := "(LUmbrellaBank$Netting;[I)V" }) prog_15_method_1_code (3 : Nat) (Option.none : Option FieldType) ∈ lw_all := am_wa 2625 rfl rfl
theorem w_2626 : Cond.methodLink "UmbrellaBank$Netting$1Look" (11 : Nat) ({ cls := "java/lang/Object", name := "<init>", desc := "()V" }) ∈ lw_all := am_wa 2626 rfl rfl
theorem w_2627 : Cond.fieldLink "UmbrellaBank$Netting$1Look" (7 : Nat) "UmbrellaBank$Netting$1Look" "val$nets" "[I" ∈ lw_all := am_wa 2627 rfl rfl
theorem w_2628 : Cond.fieldLink "UmbrellaBank$Netting$1Look" (1 : Nat) "UmbrellaBank$Netting$1Look" "this$0" "LUmbrellaBank$Netting;" ∈ lw_all := am_wa 2628 rfl rfl
theorem w_2633 : Cond.superclass "UmbrellaBank$Netting$1Look" "java/lang/Object" ∈ lw_all := am_wa 2633 rfl rfl
theorem w_2634 : Cond.methodLink "UmbrellaBank$Netting" (64 : Nat) ({ cls := "UmbrellaBank$Netting$1Look", name := "lowest", desc := "()I" }) ∈ lw_all := am_wa 2634 rfl rfl
theorem w_2635 : Cond.instanceMethod ({ cls := "UmbrellaBank$Netting$1Look", name := "lowest", desc := "()I" }) ∈ lw_all := am_wa 2635 rfl rfl
theorem w_2636 : Cond.selects "UmbrellaBank$Netting$1Look" ({ cls := "UmbrellaBank$Netting$1Look", name := "lowest", desc := "()I" }) ({ cls := "UmbrellaBank$Netting$1Look", name := "lowest", desc := "()I" }) ∈ lw_all := am_wa 2636 rfl rfl
theorem w_2637 : Cond.code ({ cls := "UmbrellaBank$Netting$1Look", name := "lowest", desc := "()I" }) prog_15_method_2_code (3 : Nat) (Option.some FieldType.int) ∈ lw_all := am_wa 2637 rfl rfl
theorem w_2638 : Cond.methodLink "UmbrellaBank$Netting" (67 : Nat) ({ cls := "UmbrellaBank$Netting$1Look", name := "highest", desc := "()I" }) ∈ lw_all := am_wa 2638 rfl rfl
theorem w_2639 : Cond.instanceMethod ({ cls := "UmbrellaBank$Netting$1Look", name := "highest", desc := "()I" }) ∈ lw_all := am_wa 2639 rfl rfl
theorem w_2640 : Cond.selects "UmbrellaBank$Netting$1Look" ({ cls := "UmbrellaBank$Netting$1Look", name := "highest", desc := "()I" }) ({ cls := "UmbrellaBank$Netting$1Look", name := "highest", desc := "()I" }) ∈ lw_all := am_wa 2640 rfl rfl
theorem w_2641 : Cond.code ({ cls := "UmbrellaBank$Netting$1Look", name := "highest", desc := "()I" }) prog_15_method_3_code (3 : Nat) (Option.some FieldType.int) ∈ lw_all := am_wa 2641 rfl rfl
theorem w_2642 : Cond.methodLink "UmbrellaBank$Netting" (70 : Nat) ({ cls := "java/lang/Math", name := "min", desc := "(II)I" }) ∈ lw_all := am_wa 2642 rfl rfl
theorem w_2643 : Cond.methodLink "UmbrellaBankLaw" (325 : Nat) ({ cls := "UmbrellaBank", name := "isConsistent", desc := "()Z" }) ∈ lw_all := am_wa 2643 rfl rfl
theorem w_2644 : Cond.instanceMethod ({ cls := "UmbrellaBank", name := "isConsistent", desc := "()Z" }) ∈ lw_all := am_wa 2644 rfl rfl
theorem w_2645 : Cond.selects "UmbrellaBank" ({ cls := "UmbrellaBank", name := "isConsistent", desc := "()Z" }) ({ cls := "UmbrellaBank", name := "isConsistent", desc := "()Z" }) ∈ lw_all := am_wa 2645 rfl rfl
theorem w_2646 : Cond.code ({ cls := "UmbrellaBank", name := "isConsistent", desc := "()Z" }) prog_1_method_63_code (3 : Nat) (Option.some FieldType.boolean) ∈ lw_all := am_wa 2646 rfl rfl
theorem w_2647 : Cond.methodLink "UmbrellaBank" (357 : Nat) ({ cls := "UmbrellaBank", name := "rainOf", desc := "(II)I" }) ∈ lw_all := am_wa 2647 rfl rfl
theorem w_2648 : Cond.instanceMethod ({ cls := "UmbrellaBank", name := "rainOf", desc := "(II)I" }) ∈ lw_all := am_wa 2648 rfl rfl
theorem w_2649 : Cond.selects "UmbrellaBank" ({ cls := "UmbrellaBank", name := "rainOf", desc := "(II)I" }) ({ cls := "UmbrellaBank", name := "rainOf", desc := "(II)I" }) ∈ lw_all := am_wa 2649 rfl rfl
theorem w_2650 : Cond.code ({ cls := "UmbrellaBank", name := "rainOf", desc := "(II)I" }) prog_1_method_38_code (3 : Nat) (Option.some FieldType.int) ∈ lw_all := am_wa 2650 rfl rfl
theorem w_2651 : Cond.methodLink "UmbrellaBank" (171 : Nat) ({ cls := "UmbrellaBank", name := "checkSpan", desc := "(II)V" }) ∈ lw_all := am_wa 2651 rfl rfl
theorem w_2652 : Cond.static ({ cls := "UmbrellaBank", name := "checkSpan", desc := "(II)V" }) ∈ lw_all := am_wa 2652 rfl rfl
theorem w_2653 : Cond.code ({ cls := "UmbrellaBank", name := "checkSpan", desc := "(II)V" }) prog_1_method_9_code (2 : Nat) (Option.none : Option FieldType) ∈ lw_all := am_wa 2653 rfl rfl
theorem w_2654 : Cond.methodLink "UmbrellaBank" (178 : Nat) ({ cls := "UmbrellaBank$Span", name := "of", desc := "([III)LUmbrellaBank$Span;" }) ∈ lw_all := am_wa 2654 rfl rfl
theorem w_2655 : Cond.static ({ cls := "UmbrellaBank$Span", name := "of", desc := "([III)LUmbrellaBank$Span;" }) ∈ lw_all := am_wa 2655 rfl rfl
theorem w_2656 : Cond.code ({ cls := "UmbrellaBank$Span", name := "of", desc := "([III)LUmbrellaBank$Span;" }) prog_19_method_3_code (4 : Nat) (Option.some (FieldType.object "UmbrellaBank$Span")) ∈ lw_all := am_wa 2656 rfl rfl
theorem w_2657 : Cond.classLink "UmbrellaBank$Span" (1 : Nat) "UmbrellaBank$OneDay" ∈ lw_all := am_wa 2657 rfl rfl
theorem w_2658 : Cond.instantiable "UmbrellaBank$OneDay" (2 : Nat) ∈ lw_all := am_wa 2658 rfl rfl
theorem v_2659 : Cond.methodLinkNest "UmbrellaBank$Span" (3 : Nat) ({ cls := "UmbrellaBank$OneDay", name := "<init>", desc := "(II)V" }) "UmbrellaBank" ∈ lw_tbl := am_wv 2659 rfl
theorem w_2660 : Cond.instanceMethod ({ cls := "UmbrellaBank$OneDay", name := "<init>", desc := "(II)V" }) ∈ lw_all := am_wa 2660 rfl rfl
theorem w_2661 : Cond.code ({ cls := "UmbrellaBank$OneDay", name := "<init>", desc := "(II)V" }) prog_16_method_1_code (3 : Nat) (Option.none : Option FieldType) ∈ lw_all := am_wa 2661 rfl rfl
theorem w_2662 : Cond.methodLink "UmbrellaBank$OneDay" (1 : Nat) ({ cls := "java/lang/Record", name := "<init>", desc := "()V" }) ∈ lw_all := am_wa 2662 rfl rfl
theorem w_2663 : Cond.fieldLink "UmbrellaBank$OneDay" (7 : Nat) "UmbrellaBank$OneDay" "day" "I" ∈ lw_all := am_wa 2663 rfl rfl
theorem w_2664 : Cond.fieldLink "UmbrellaBank$OneDay" (13 : Nat) "UmbrellaBank$OneDay" "rain" "I" ∈ lw_all := am_wa 2664 rfl rfl
theorem w_2669 : Cond.superclass "UmbrellaBank$OneDay" "java/lang/Record" ∈ lw_all := am_wa 2669 rfl rfl
theorem w_2670 : Cond.classLink "UmbrellaBank$Span" (7 : Nat) "UmbrellaBank$TwoSpans" ∈ lw_all := am_wa 2670 rfl rfl
theorem w_2671 : Cond.instantiable "UmbrellaBank$TwoSpans" (4 : Nat) ∈ lw_all := am_wa 2671 rfl rfl
theorem w_2672 : Cond.methodLink "UmbrellaBank$Span" (9 : Nat) ({ cls := "UmbrellaBank$Span", name := "of", desc := "([III)LUmbrellaBank$Span;" }) ∈ lw_all := am_wa 2672 rfl rfl
theorem v_2673 : Cond.methodLinkNest "UmbrellaBank$Span" (15 : Nat) ({ cls := "UmbrellaBank$TwoSpans", name := "<init>", desc := "(IILUmbrellaBank$Span;LUmbrellaBank$Span;)V" }) "UmbrellaBank" ∈ lw_tbl := am_wv 2673 rfl
theorem w_2674 : Cond.instanceMethod ({ cls := "UmbrellaBank$TwoSpans", name := "<init>", desc := "(IILUmbrellaBank$Span;LUmbrellaBank$Span;)V" }) ∈ lw_all := am_wa 2674 rfl rfl
theorem w_2675 : Cond.code ({ cls := "UmbrellaBank$TwoSpans", name := "<init>", desc := "(IILUmbrellaBank$Span;LUmbrellaBank$Span;)V" }) prog_22_method_1_code (5 : Nat) (Option.none : Option FieldType) ∈ lw_all := am_wa 2675 rfl rfl
theorem w_2676 : Cond.methodLink "UmbrellaBank$TwoSpans" (1 : Nat) ({ cls := "java/lang/Record", name := "<init>", desc := "()V" }) ∈ lw_all := am_wa 2676 rfl rfl
theorem w_2677 : Cond.fieldLink "UmbrellaBank$TwoSpans" (7 : Nat) "UmbrellaBank$TwoSpans" "from" "I" ∈ lw_all := am_wa 2677 rfl rfl
theorem w_2678 : Cond.fieldLink "UmbrellaBank$TwoSpans" (13 : Nat) "UmbrellaBank$TwoSpans" "to" "I" ∈ lw_all := am_wa 2678 rfl rfl
theorem w_2679 : Cond.fieldLink "UmbrellaBank$TwoSpans" (16 : Nat) "UmbrellaBank$TwoSpans" "left" "LUmbrellaBank$Span;" ∈ lw_all := am_wa 2679 rfl rfl
theorem w_2680 : Cond.fieldLink "UmbrellaBank$TwoSpans" (20 : Nat) "UmbrellaBank$TwoSpans" "right" "LUmbrellaBank$Span;" ∈ lw_all := am_wa 2680 rfl rfl
theorem w_2689 : Cond.superclass "UmbrellaBank$TwoSpans" "java/lang/Record" ∈ lw_all := am_wa 2689 rfl rfl
theorem w_2691 : Cond.methodLink "UmbrellaBank" (184 : Nat) ({ cls := "UmbrellaBank$Span", name := "rainWithin", desc := "(II)I" }) ∈ lw_all := am_wa 2691 rfl rfl
theorem v_2692 : Cond.interfaceMethod "UmbrellaBank$Span" "UmbrellaBank$Span" "rainWithin" "(II)I" ∈ lw_tbl := am_wv 2692 rfl
theorem v_2693 : Cond.declares ({ cls := "UmbrellaBank$Span", name := "rainWithin", desc := "(II)I" }) ∈ lw_tbl := am_wv 2693 rfl
theorem v_2694 : Cond.castable "UmbrellaBank$OneDay" "UmbrellaBank$Span" ∈ lw_tbl := am_wv 2694 rfl
theorem w_2695 : Cond.selects "UmbrellaBank$OneDay" ({ cls := "UmbrellaBank$Span", name := "rainWithin", desc := "(II)I" }) ({ cls := "UmbrellaBank$OneDay", name := "rainWithin", desc := "(II)I" }) ∈ lw_all := am_wa 2695 rfl rfl
theorem v_2696 : Cond.unhidden "UmbrellaBank$OneDay" "rainWithin" "(II)I" ∈ lw_tbl := am_wv 2696 rfl
theorem w_2697 : Cond.instanceMethod ({ cls := "UmbrellaBank$OneDay", name := "rainWithin", desc := "(II)I" }) ∈ lw_all := am_wa 2697 rfl rfl
theorem v_2698 : Cond.publicMethod ({ cls := "UmbrellaBank$OneDay", name := "rainWithin", desc := "(II)I" }) ∈ lw_tbl := am_wv 2698 rfl
theorem w_2699 : Cond.code ({ cls := "UmbrellaBank$OneDay", name := "rainWithin", desc := "(II)I" }) prog_16_method_2_code (3 : Nat) (Option.some FieldType.int) ∈ lw_all := am_wa 2699 rfl rfl
theorem v_2700 : Cond.methodLinkNest "UmbrellaBank$OneDay" (16 : Nat) ({ cls := "UmbrellaBank", name := "isBetween", desc := "(III)Z" }) "UmbrellaBank" ∈ lw_tbl := am_wv 2700 rfl
theorem v_2701 : Cond.castable "UmbrellaBank$TwoSpans" "UmbrellaBank$Span" ∈ lw_tbl := am_wv 2701 rfl
theorem w_2702 : Cond.selects "UmbrellaBank$TwoSpans" ({ cls := "UmbrellaBank$Span", name := "rainWithin", desc := "(II)I" }) ({ cls := "UmbrellaBank$TwoSpans", name := "rainWithin", desc := "(II)I" }) ∈ lw_all := am_wa 2702 rfl rfl
theorem v_2703 : Cond.unhidden "UmbrellaBank$TwoSpans" "rainWithin" "(II)I" ∈ lw_tbl := am_wv 2703 rfl
theorem w_2704 : Cond.instanceMethod ({ cls := "UmbrellaBank$TwoSpans", name := "rainWithin", desc := "(II)I" }) ∈ lw_all := am_wa 2704 rfl rfl
theorem v_2705 : Cond.publicMethod ({ cls := "UmbrellaBank$TwoSpans", name := "rainWithin", desc := "(II)I" }) ∈ lw_tbl := am_wv 2705 rfl
theorem w_2706 : Cond.code ({ cls := "UmbrellaBank$TwoSpans", name := "rainWithin", desc := "(II)I" }) prog_22_method_3_code (3 : Nat) (Option.some FieldType.int) ∈ lw_all := am_wa 2706 rfl rfl
theorem w_2707 : Cond.methodLink "UmbrellaBank$TwoSpans" (29 : Nat) ({ cls := "UmbrellaBank$TwoSpans", name := "rain", desc := "()I" }) ∈ lw_all := am_wa 2707 rfl rfl
theorem w_2708 : Cond.instanceMethod ({ cls := "UmbrellaBank$TwoSpans", name := "rain", desc := "()I" }) ∈ lw_all := am_wa 2708 rfl rfl
theorem w_2709 : Cond.selects "UmbrellaBank$TwoSpans" ({ cls := "UmbrellaBank$TwoSpans", name := "rain", desc := "()I" }) ({ cls := "UmbrellaBank$TwoSpans", name := "rain", desc := "()I" }) ∈ lw_all := am_wa 2709 rfl rfl
theorem w_2710 : Cond.code ({ cls := "UmbrellaBank$TwoSpans", name := "rain", desc := "()I" }) prog_22_method_2_code (1 : Nat) (Option.some FieldType.int) ∈ lw_all := am_wa 2710 rfl rfl
theorem w_2712 : Cond.methodLink "UmbrellaBank$TwoSpans" (23 : Nat) ({ cls := "UmbrellaBank$Span", name := "rain", desc := "()I" }) ∈ lw_all := am_wa 2712 rfl rfl
theorem v_2713 : Cond.interfaceMethod "UmbrellaBank$Span" "UmbrellaBank$Span" "rain" "()I" ∈ lw_tbl := am_wv 2713 rfl
theorem v_2714 : Cond.declares ({ cls := "UmbrellaBank$Span", name := "rain", desc := "()I" }) ∈ lw_tbl := am_wv 2714 rfl
theorem w_2715 : Cond.selects "UmbrellaBank$OneDay" ({ cls := "UmbrellaBank$Span", name := "rain", desc := "()I" }) ({ cls := "UmbrellaBank$OneDay", name := "rain", desc := "()I" }) ∈ lw_all := am_wa 2715 rfl rfl
theorem v_2716 : Cond.unhidden "UmbrellaBank$OneDay" "rain" "()I" ∈ lw_tbl := am_wv 2716 rfl
theorem w_2717 : Cond.instanceMethod ({ cls := "UmbrellaBank$OneDay", name := "rain", desc := "()I" }) ∈ lw_all := am_wa 2717 rfl rfl
theorem v_2718 : Cond.publicMethod ({ cls := "UmbrellaBank$OneDay", name := "rain", desc := "()I" }) ∈ lw_tbl := am_wv 2718 rfl
theorem w_2719 : Cond.code ({ cls := "UmbrellaBank$OneDay", name := "rain", desc := "()I" }) prog_16_method_7_code (1 : Nat) (Option.some FieldType.int) ∈ lw_all := am_wa 2719 rfl rfl
theorem w_2720 : Cond.selects "UmbrellaBank$TwoSpans" ({ cls := "UmbrellaBank$Span", name := "rain", desc := "()I" }) ({ cls := "UmbrellaBank$TwoSpans", name := "rain", desc := "()I" }) ∈ lw_all := am_wa 2720 rfl rfl
theorem v_2721 : Cond.unhidden "UmbrellaBank$TwoSpans" "rain" "()I" ∈ lw_tbl := am_wv 2721 rfl
theorem v_2722 : Cond.publicMethod ({ cls := "UmbrellaBank$TwoSpans", name := "rain", desc := "()I" }) ∈ lw_tbl := am_wv 2722 rfl
theorem w_2724 : Cond.methodLink "UmbrellaBank$TwoSpans" (30 : Nat) ({ cls := "UmbrellaBank$Span", name := "rainWithin", desc := "(II)I" }) ∈ lw_all := am_wa 2724 rfl rfl
theorem w_2725 : Cond.methodLink "UmbrellaBank" (360 : Nat) ({ cls := "UmbrellaBank", name := "rainBySums", desc := "(II)I" }) ∈ lw_all := am_wa 2725 rfl rfl
theorem w_2726 : Cond.instanceMethod ({ cls := "UmbrellaBank", name := "rainBySums", desc := "(II)I" }) ∈ lw_all := am_wa 2726 rfl rfl
theorem w_2727 : Cond.selects "UmbrellaBank" ({ cls := "UmbrellaBank", name := "rainBySums", desc := "(II)I" }) ({ cls := "UmbrellaBank", name := "rainBySums", desc := "(II)I" }) ∈ lw_all := am_wa 2727 rfl rfl
theorem w_2728 : Cond.code ({ cls := "UmbrellaBank", name := "rainBySums", desc := "(II)I" }) prog_1_method_39_code (5 : Nat) (Option.some FieldType.int) ∈ lw_all := am_wa 2728 rfl rfl
theorem w_2729 : Cond.methodLink "UmbrellaBank" (363 : Nat) ({ cls := "UmbrellaBank", name := "payableClaims", desc := "()I" }) ∈ lw_all := am_wa 2729 rfl rfl
theorem w_2730 : Cond.methodLink "UmbrellaBank" (366 : Nat) ({ cls := "UmbrellaBank", name := "payableClaimsBySums", desc := "()I" }) ∈ lw_all := am_wa 2730 rfl rfl
theorem w_2731 : Cond.methodLink "UmbrellaBank" (369 : Nat) ({ cls := "UmbrellaBank", name := "areCallsAlike", desc := "()Z" }) ∈ lw_all := am_wa 2731 rfl rfl
theorem v_2732 : Cond.privateMethod ({ cls := "UmbrellaBank", name := "areCallsAlike", desc := "()Z" }) ∈ lw_tbl := am_wv 2732 rfl
theorem w_2733 : Cond.instanceMethod ({ cls := "UmbrellaBank", name := "areCallsAlike", desc := "()Z" }) ∈ lw_all := am_wa 2733 rfl rfl
theorem w_2734 : Cond.code ({ cls := "UmbrellaBank", name := "areCallsAlike", desc := "()Z" }) prog_1_method_62_code (1 : Nat) (Option.some FieldType.boolean) ∈ lw_all := am_wa 2734 rfl rfl
theorem w_2735 : Cond.classLink "UmbrellaBank" (348 : Nat) "UmbrellaBank$1" ∈ lw_all := am_wa 2735 rfl rfl
theorem w_2736 : Cond.instantiable "UmbrellaBank$1" (1 : Nat) ∈ lw_all := am_wa 2736 rfl rfl
theorem w_2737 : Cond.methodLink "UmbrellaBank" (350 : Nat) ({ cls := "UmbrellaBank$1", name := "<init>", desc := "(LUmbrellaBank;)V" }) ∈ lw_all := am_wa 2737 rfl rfl
theorem w_2738 : Cond.instanceMethod ({ cls := "UmbrellaBank$1", name := "<init>", desc := "(LUmbrellaBank;)V" }) ∈ lw_all := am_wa 2738 rfl rfl
theorem w_2739 : Cond.code ({ cls := "UmbrellaBank$1", name := "<init>", desc := "(LUmbrellaBank;)V" }) prog_2_method_1_code (2 : Nat) (Option.none : Option FieldType) ∈ lw_all := am_wa 2739 rfl rfl
theorem v_2740 : Cond.methodLinkNest "UmbrellaBank$1" (9 : Nat) ({ cls := "UmbrellaBank$Agreement", name := "<init>", desc := "()V" }) "UmbrellaBank" ∈ lw_tbl := am_wv 2740 rfl
theorem w_2741 : Cond.instanceMethod ({ cls := "UmbrellaBank$Agreement", name := "<init>", desc := "()V" }) ∈ lw_all := am_wa 2741 rfl rfl
theorem w_2742 : Cond.code ({ cls := "UmbrellaBank$Agreement", name := "<init>", desc := "()V" }) prog_4_method_1_code (1 : Nat) (Option.none : Option FieldType) ∈ lw_all := am_wa 2742 rfl rfl
theorem w_2743 : Cond.methodLink "UmbrellaBank$Agreement" (1 : Nat) ({ cls := "java/lang/Object", name := "<init>", desc := "()V" }) ∈ lw_all := am_wa 2743 rfl rfl
theorem w_2744 : Cond.fieldLink "UmbrellaBank$1" (3 : Nat) "UmbrellaBank$1" "this$0" "LUmbrellaBank;" ∈ lw_all := am_wa 2744 rfl rfl
theorem w_2747 : Cond.superclass "UmbrellaBank$1" "UmbrellaBank$Agreement" ∈ lw_all := am_wa 2747 rfl rfl
theorem w_2748 : Cond.methodLink "UmbrellaBank" (353 : Nat) ({ cls := "UmbrellaBank$1", name := "holdsFor", desc := "([I)Z" }) ∈ lw_all := am_wa 2748 rfl rfl
theorem w_2749 : Cond.sameMethod "UmbrellaBank$1" "UmbrellaBank$Agreement" "holdsFor" "([I)Z" ∈ lw_all := am_wa 2749 rfl rfl
theorem v_2750 : Cond.declares ({ cls := "UmbrellaBank$Agreement", name := "holdsFor", desc := "([I)Z" }) ∈ lw_tbl := am_wv 2750 rfl
theorem w_2751 : Cond.selects "UmbrellaBank$1" ({ cls := "UmbrellaBank$1", name := "holdsFor", desc := "([I)Z" }) ({ cls := "UmbrellaBank$Agreement", name := "holdsFor", desc := "([I)Z" }) ∈ lw_all := am_wa 2751 rfl rfl
theorem w_2752 : Cond.instanceMethod ({ cls := "UmbrellaBank$Agreement", name := "holdsFor", desc := "([I)Z" }) ∈ lw_all := am_wa 2752 rfl rfl
theorem w_2753 : Cond.code ({ cls := "UmbrellaBank$Agreement", name := "holdsFor", desc := "([I)Z" }) prog_4_method_4_code (6 : Nat) (Option.some FieldType.boolean) ∈ lw_all := am_wa 2753 rfl rfl
theorem w_2754 : Cond.methodLink "UmbrellaBank$Agreement" (7 : Nat) ({ cls := "UmbrellaBank$Agreement", name := "oneWay", desc := "(I)I" }) ∈ lw_all := am_wa 2754 rfl rfl
theorem v_2755 : Cond.declares ({ cls := "UmbrellaBank$Agreement", name := "oneWay", desc := "(I)I" }) ∈ lw_tbl := am_wv 2755 rfl
theorem w_2756 : Cond.sameMethod "UmbrellaBank$Agreement" "UmbrellaBank$Agreement" "oneWay" "(I)I" ∈ lw_all := am_wa 2756 rfl rfl
theorem w_2757 : Cond.selects "UmbrellaBank$1" ({ cls := "UmbrellaBank$Agreement", name := "oneWay", desc := "(I)I" }) ({ cls := "UmbrellaBank$1", name := "oneWay", desc := "(I)I" }) ∈ lw_all := am_wa 2757 rfl rfl
theorem w_2758 : Cond.instanceMethod ({ cls := "UmbrellaBank$1", name := "oneWay", desc := "(I)I" }) ∈ lw_all := am_wa 2758 rfl rfl
theorem w_2759 : Cond.code ({ cls := "UmbrellaBank$1", name := "oneWay", desc := "(I)I" }) prog_2_method_2_code (3 : Nat) (Option.some FieldType.int) ∈ lw_all := am_wa 2759 rfl rfl
theorem w_2760 : Cond.classLink "UmbrellaBank$1" (15 : Nat) "UmbrellaBank$Calling" ∈ lw_all := am_wa 2760 rfl rfl
theorem w_2761 : Cond.methodLink "UmbrellaBank$1" (21 : Nat) ({ cls := "UmbrellaBank$Calling", name := "<init>", desc := "(LUmbrellaBank$State;I)V" }) ∈ lw_all := am_wa 2761 rfl rfl
theorem w_2762 : Cond.methodLink "UmbrellaBank$1" (24 : Nat) ({ cls := "UmbrellaBank$Calling", name := "best", desc := "()Ljava/util/Optional;" }) ∈ lw_all := am_wa 2762 rfl rfl
theorem w_2763 : Cond.methodLink "UmbrellaBank$1" (28 : Nat) ({ cls := "java/util/Optional", name := "isPresent", desc := "()Z" }) ∈ lw_all := am_wa 2763 rfl rfl
theorem w_2764 : Cond.methodLink "UmbrellaBank$1" (34 : Nat) ({ cls := "java/util/Optional", name := "get", desc := "()Ljava/lang/Object;" }) ∈ lw_all := am_wa 2764 rfl rfl
theorem w_2765 : Cond.classLink "UmbrellaBank$1" (38 : Nat) "UmbrellaBank$LoanSet" ∈ lw_all := am_wa 2765 rfl rfl
theorem w_2766 : Cond.methodLink "UmbrellaBank$1" (40 : Nat) ({ cls := "UmbrellaBank$LoanSet", name := "debts", desc := "()I" }) ∈ lw_all := am_wa 2766 rfl rfl
theorem w_2767 : Cond.instanceMethod ({ cls := "UmbrellaBank$LoanSet", name := "debts", desc := "()I" }) ∈ lw_all := am_wa 2767 rfl rfl
theorem w_2768 : Cond.selects "UmbrellaBank$LoanSet" ({ cls := "UmbrellaBank$LoanSet", name := "debts", desc := "()I" }) ({ cls := "UmbrellaBank$LoanSet", name := "debts", desc := "()I" }) ∈ lw_all := am_wa 2768 rfl rfl
theorem w_2769 : Cond.code ({ cls := "UmbrellaBank$LoanSet", name := "debts", desc := "()I" }) prog_11_method_5_code (4 : Nat) (Option.some FieldType.int) ∈ lw_all := am_wa 2769 rfl rfl
theorem w_2770 : Cond.methodLink "UmbrellaBank$LoanSet" (49 : Nat) ({ cls := "UmbrellaBank$Loan", name := "debt", desc := "()I" }) ∈ lw_all := am_wa 2770 rfl rfl
theorem w_2771 : Cond.constant "UmbrellaBank$1" (44 : Nat) (1000000000 : Int32) ∈ lw_all := am_wa 2771 rfl rfl
theorem w_2772 : Cond.methodLink "UmbrellaBank$Agreement" (13 : Nat) ({ cls := "UmbrellaBank$Agreement", name := "otherWay", desc := "(I)I" }) ∈ lw_all := am_wa 2772 rfl rfl
theorem v_2773 : Cond.declares ({ cls := "UmbrellaBank$Agreement", name := "otherWay", desc := "(I)I" }) ∈ lw_tbl := am_wv 2773 rfl
theorem w_2774 : Cond.sameMethod "UmbrellaBank$Agreement" "UmbrellaBank$Agreement" "otherWay" "(I)I" ∈ lw_all := am_wa 2774 rfl rfl
theorem w_2775 : Cond.selects "UmbrellaBank$1" ({ cls := "UmbrellaBank$Agreement", name := "otherWay", desc := "(I)I" }) ({ cls := "UmbrellaBank$1", name := "otherWay", desc := "(I)I" }) ∈ lw_all := am_wa 2775 rfl rfl
theorem w_2776 : Cond.instanceMethod ({ cls := "UmbrellaBank$1", name := "otherWay", desc := "(I)I" }) ∈ lw_all := am_wa 2776 rfl rfl
theorem w_2777 : Cond.code ({ cls := "UmbrellaBank$1", name := "otherWay", desc := "(I)I" }) prog_2_method_3_code (2 : Nat) (Option.some FieldType.int) ∈ lw_all := am_wa 2777 rfl rfl
theorem w_2778 : Cond.methodLink "UmbrellaBank$1" (45 : Nat) ({ cls := "UmbrellaBank$Calling", name := "costByTable", desc := "()I" }) ∈ lw_all := am_wa 2778 rfl rfl
theorem w_2779 : Cond.instanceMethod ({ cls := "UmbrellaBank$Calling", name := "costByTable", desc := "()I" }) ∈ lw_all := am_wa 2779 rfl rfl
theorem w_2780 : Cond.selects "UmbrellaBank$Calling" ({ cls := "UmbrellaBank$Calling", name := "costByTable", desc := "()I" }) ({ cls := "UmbrellaBank$Calling", name := "costByTable", desc := "()I" }) ∈ lw_all := am_wa 2780 rfl rfl
theorem w_2781 : Cond.code ({ cls := "UmbrellaBank$Calling", name := "costByTable", desc := "()I" }) prog_6_method_6_code (5 : Nat) (Option.some FieldType.int) ∈ lw_all := am_wa 2781 rfl rfl
theorem w_2782 : Cond.constant "UmbrellaBank$Calling" (78 : Nat) (1000000000 : Int32) ∈ lw_all := am_wa 2782 rfl rfl
theorem w_2783 : Cond.methodLink "UmbrellaBank$Calling" (79 : Nat) ({ cls := "java/util/Arrays", name := "fill", desc := "([IIII)V" }) ∈ lw_all := am_wa 2783 rfl rfl
theorem w_2784 : Cond.static ({ cls := "java/util/Arrays", name := "fill", desc := "([IIII)V" }) ∈ lw_all := am_wa 2784 rfl rfl
theorem w_2785 : Cond.code ({ cls := "java/util/Arrays", name := "fill", desc := "([IIII)V" }) prog_65_method_104_code (5 : Nat) (Option.none : Option FieldType) ∈ lw_all := am_wa 2785 rfl rfl
theorem w_2786 : Cond.methodLink "java/util/Arrays" (13 : Nat) ({ cls := "java/util/Arrays", name := "rangeCheck", desc := "(III)V" }) ∈ lw_all := am_wa 2786 rfl rfl
theorem w_2787 : Cond.static ({ cls := "java/util/Arrays", name := "rangeCheck", desc := "(III)V" }) ∈ lw_all := am_wa 2787 rfl rfl
theorem w_2788 : Cond.code ({ cls := "java/util/Arrays", name := "rangeCheck", desc := "(III)V" }) prog_65_method_30_code (3 : Nat) (Option.none : Option FieldType) ∈ lw_all := am_wa 2788 rfl rfl
theorem w_2792 : Cond.classLink "java/util/Arrays" (68 : Nat) "java/lang/ArrayIndexOutOfBoundsException" ∈ lw_all := am_wa 2792 rfl rfl
theorem w_2793 : Cond.methodLink "java/util/Arrays" (70 : Nat) ({ cls := "java/lang/ArrayIndexOutOfBoundsException", name := "<init>", desc := "(I)V" }) ∈ lw_all := am_wa 2793 rfl rfl
theorem w_2794 : Cond.instanceMethod ({ cls := "java/lang/ArrayIndexOutOfBoundsException", name := "<init>", desc := "(I)V" }) ∈ lw_all := am_wa 2794 rfl rfl
theorem w_2795 : Cond.code ({ cls := "java/lang/ArrayIndexOutOfBoundsException", name := "<init>", desc := "(I)V" }) prog_30_method_3_code (2 : Nat) (Option.none : Option FieldType) ∈ lw_all := am_wa 2795 rfl rfl
theorem w_2796 : Cond.classLink "java/lang/ArrayIndexOutOfBoundsException" (10 : Nat) "java/lang/StringBuilder" ∈ lw_all := am_wa 2796 rfl rfl
theorem w_2797 : Cond.methodLink "java/lang/ArrayIndexOutOfBoundsException" (12 : Nat) ({ cls := "java/lang/StringBuilder", name := "<init>", desc := "()V" }) ∈ lw_all := am_wa 2797 rfl rfl
theorem w_2799 : Cond.methodLink "java/lang/ArrayIndexOutOfBoundsException" (15 : Nat) ({ cls := "java/lang/StringBuilder", name := "append", desc := "(Ljava/lang/String;)Ljava/lang/StringBuilder;" }) ∈ lw_all := am_wa 2799 rfl rfl
theorem w_2800 : Cond.methodLink "java/lang/ArrayIndexOutOfBoundsException" (19 : Nat) ({ cls := "java/lang/StringBuilder", name := "append", desc := "(I)Ljava/lang/StringBuilder;" }) ∈ lw_all := am_wa 2800 rfl rfl
theorem w_2801 : Cond.methodLink "java/lang/ArrayIndexOutOfBoundsException" (22 : Nat) ({ cls := "java/lang/StringBuilder", name := "toString", desc := "()Ljava/lang/String;" }) ∈ lw_all := am_wa 2801 rfl rfl
theorem w_2802 : Cond.methodLink "UmbrellaBank$Calling" (85 : Nat) ({ cls := "java/util/ArrayList", name := "iterator", desc := "()Ljava/util/Iterator;" }) ∈ lw_all := am_wa 2802 rfl rfl
theorem w_2804 : Cond.methodLink "UmbrellaBank$Calling" (89 : Nat) ({ cls := "java/util/Iterator", name := "hasNext", desc := "()Z" }) ∈ lw_all := am_wa 2804 rfl rfl
theorem w_2806 : Cond.methodLink "UmbrellaBank$Calling" (95 : Nat) ({ cls := "java/util/Iterator", name := "next", desc := "()Ljava/lang/Object;" }) ∈ lw_all := am_wa 2806 rfl rfl
theorem w_2807 : Cond.methodLink "UmbrellaBank$Calling" (99 : Nat) ({ cls := "java/lang/Math", name := "max", desc := "(II)I" }) ∈ lw_all := am_wa 2807 rfl rfl
theorem w_2808 : Cond.methodLink "UmbrellaBank$Calling" (105 : Nat) ({ cls := "java/lang/Math", name := "min", desc := "(II)I" }) ∈ lw_all := am_wa 2808 rfl rfl
theorem w_2809 : Cond.methodLink "UmbrellaBank" (372 : Nat) ({ cls := "UmbrellaBank", name := "payments", desc := "()I" }) ∈ lw_all := am_wa 2809 rfl rfl
theorem w_2810 : Cond.methodLink "UmbrellaBank" (375 : Nat) ({ cls := "UmbrellaBank", name := "paymentsByLooking", desc := "()I" }) ∈ lw_all := am_wa 2810 rfl rfl
theorem w_2811 : Cond.methodLink "UmbrellaBank" (376 : Nat) ({ cls := "UmbrellaBank", name := "lentTotal", desc := "()I" }) ∈ lw_all := am_wa 2811 rfl rfl
theorem w_2812 : Cond.methodLink "UmbrellaBank" (377 : Nat) ({ cls := "UmbrellaBank", name := "lentByAccounts", desc := "()I" }) ∈ lw_all := am_wa 2812 rfl rfl
theorem w_2813 : Cond.methodLink "UmbrellaBankLaw" (333 : Nat) ({ cls := "UmbrellaBank", name := "renderClaims", desc := "()I" }) ∈ lw_all := am_wa 2813 rfl rfl
theorem w_2814 : Cond.instanceMethod ({ cls := "UmbrellaBank", name := "renderClaims", desc := "()I" }) ∈ lw_all := am_wa 2814 rfl rfl
theorem w_2815 : Cond.selects "UmbrellaBank" ({ cls := "UmbrellaBank", name := "renderClaims", desc := "()I" }) ({ cls := "UmbrellaBank", name := "renderClaims", desc := "()I" }) ∈ lw_all := am_wa 2815 rfl rfl
theorem w_2816 : Cond.code ({ cls := "UmbrellaBank", name := "renderClaims", desc := "()I" }) prog_1_method_66_code (4 : Nat) (Option.some FieldType.int) ∈ lw_all := am_wa 2816 rfl rfl
theorem w_2817 : Cond.classLink "UmbrellaBank" (393 : Nat) "java/lang/StringBuilder" ∈ lw_all := am_wa 2817 rfl rfl
theorem w_2818 : Cond.methodLink "UmbrellaBank" (395 : Nat) ({ cls := "java/lang/StringBuilder", name := "<init>", desc := "()V" }) ∈ lw_all := am_wa 2818 rfl rfl
theorem w_2819 : Cond.methodLink "UmbrellaBank" (115 : Nat) ({ cls := "java/util/ArrayList", name := "iterator", desc := "()Ljava/util/Iterator;" }) ∈ lw_all := am_wa 2819 rfl rfl
theorem w_2820 : Cond.methodLink "UmbrellaBank" (396 : Nat) ({ cls := "java/lang/StringBuilder", name := "length", desc := "()I" }) ∈ lw_all := am_wa 2820 rfl rfl
theorem w_2822 : Cond.methodLink "UmbrellaBank" (399 : Nat) ({ cls := "java/lang/StringBuilder", name := "append", desc := "(Ljava/lang/String;)Ljava/lang/StringBuilder;" }) ∈ lw_all := am_wa 2822 rfl rfl
theorem w_2823 : Cond.methodLink "UmbrellaBank" (403 : Nat) ({ cls := "UmbrellaBank$Claim", name := "toString", desc := "()Ljava/lang/String;" }) ∈ lw_all := am_wa 2823 rfl rfl
theorem w_2824 : Cond.instanceMethod ({ cls := "UmbrellaBank$Claim", name := "toString", desc := "()Ljava/lang/String;" }) ∈ lw_all := am_wa 2824 rfl rfl
theorem w_2825 : Cond.selects "UmbrellaBank$Claim" ({ cls := "UmbrellaBank$Claim", name := "toString", desc := "()Ljava/lang/String;" }) ({ cls := "UmbrellaBank$Claim", name := "toString", desc := "()Ljava/lang/String;" }) ∈ lw_all := am_wa 2825 rfl rfl
theorem w_2826 : Cond.code ({ cls := "UmbrellaBank$Claim", name := "toString", desc := "()Ljava/lang/String;" }) prog_8_method_2_code (1 : Nat) (Option.some (FieldType.object "java/lang/String")) ∈ lw_all := am_wa 2826 rfl rfl
theorem w_2827 : Cond.classLink "UmbrellaBank$Claim" (16 : Nat) "java/lang/StringBuilder" ∈ lw_all := am_wa 2827 rfl rfl
theorem w_2828 : Cond.methodLink "UmbrellaBank$Claim" (18 : Nat) ({ cls := "java/lang/StringBuilder", name := "<init>", desc := "()V" }) ∈ lw_all := am_wa 2828 rfl rfl
theorem w_2829 : Cond.methodLink "UmbrellaBank$Claim" (19 : Nat) ({ cls := "java/lang/StringBuilder", name := "append", desc := "(I)Ljava/lang/StringBuilder;" }) ∈ lw_all := am_wa 2829 rfl rfl
theorem w_2830 : Cond.methodLink "UmbrellaBank$Claim" (23 : Nat) ({ cls := "java/lang/StringBuilder", name := "append", desc := "(C)Ljava/lang/StringBuilder;" }) ∈ lw_all := am_wa 2830 rfl rfl
theorem w_2831 : Cond.instanceMethod ({ cls := "java/lang/StringBuilder", name := "append", desc := "(C)Ljava/lang/StringBuilder;" }) ∈ lw_all := am_wa 2831 rfl rfl
theorem w_2832 : Cond.selects "java/lang/StringBuilder" ({ cls := "java/lang/StringBuilder", name := "append", desc := "(C)Ljava/lang/StringBuilder;" }) ({ cls := "java/lang/StringBuilder", name := "append", desc := "(C)Ljava/lang/StringBuilder;" }) ∈ lw_all := am_wa 2832 rfl rfl
theorem w_2833 : Cond.code ({ cls := "java/lang/StringBuilder", name := "append", desc := "(C)Ljava/lang/StringBuilder;" }) prog_47_method_14_code (2 : Nat) (Option.some (FieldType.object "java/lang/StringBuilder")) ∈ lw_all := am_wa 2833 rfl rfl
theorem w_2834 : Cond.methodLink "java/lang/StringBuilder" (50 : Nat) ({ cls := "java/lang/AbstractStringBuilder", name := "append", desc := "(C)Ljava/lang/AbstractStringBuilder;" }) ∈ lw_all := am_wa 2834 rfl rfl
theorem w_2835 : Cond.instanceMethod ({ cls := "java/lang/AbstractStringBuilder", name := "append", desc := "(C)Ljava/lang/AbstractStringBuilder;" }) ∈ lw_all := am_wa 2835 rfl rfl
theorem w_2836 : Cond.code ({ cls := "java/lang/AbstractStringBuilder", name := "append", desc := "(C)Ljava/lang/AbstractStringBuilder;" }) prog_27_method_31_code (2 : Nat) (Option.some (FieldType.object "java/lang/AbstractStringBuilder")) ∈ lw_all := am_wa 2836 rfl rfl
theorem w_2837 : Cond.methodLink "java/lang/AbstractStringBuilder" (191 : Nat) ({ cls := "java/lang/StringLatin1", name := "canEncode", desc := "(C)Z" }) ∈ lw_all := am_wa 2837 rfl rfl
theorem w_2838 : Cond.static ({ cls := "java/lang/StringLatin1", name := "canEncode", desc := "(C)Z" }) ∈ lw_all := am_wa 2838 rfl rfl
theorem w_2839 : Cond.code ({ cls := "java/lang/StringLatin1", name := "canEncode", desc := "(C)Z" }) prog_48_method_3_code (1 : Nat) (Option.some FieldType.boolean) ∈ lw_all := am_wa 2839 rfl rfl
theorem w_2840 : Cond.methodLink "java/lang/AbstractStringBuilder" (197 : Nat) ({ cls := "java/lang/StringUTF16", name := "putCharSB", desc := "([BII)V" }) ∈ lw_all := am_wa 2840 rfl rfl
theorem w_2841 : Cond.static ({ cls := "java/lang/StringUTF16", name := "putCharSB", desc := "([BII)V" }) ∈ lw_all := am_wa 2841 rfl rfl
theorem w_2842 : Cond.code ({ cls := "java/lang/StringUTF16", name := "putCharSB", desc := "([BII)V" }) prog_49_method_71_code (3 : Nat) (Option.none : Option FieldType) ∈ lw_all := am_wa 2842 rfl rfl
theorem w_2843 : Cond.methodLink "java/lang/StringUTF16" (67 : Nat) ({ cls := "java/lang/StringUTF16", name := "checkIndex", desc := "(I[B)V" }) ∈ lw_all := am_wa 2843 rfl rfl
theorem w_2844 : Cond.static ({ cls := "java/lang/StringUTF16", name := "checkIndex", desc := "(I[B)V" }) ∈ lw_all := am_wa 2844 rfl rfl
theorem w_2845 : Cond.code ({ cls := "java/lang/StringUTF16", name := "checkIndex", desc := "(I[B)V" }) prog_49_method_91_code (2 : Nat) (Option.none : Option FieldType) ∈ lw_all := am_wa 2845 rfl rfl
theorem w_2846 : Cond.methodLink "java/lang/StringUTF16" (414 : Nat) ({ cls := "java/lang/String", name := "checkIndex", desc := "(II)V" }) ∈ lw_all := am_wa 2846 rfl rfl
theorem w_2847 : Cond.static ({ cls := "java/lang/String", name := "checkIndex", desc := "(II)V" }) ∈ lw_all := am_wa 2847 rfl rfl
theorem w_2848 : Cond.code ({ cls := "java/lang/String", name := "checkIndex", desc := "(II)V" }) prog_46_method_155_code (2 : Nat) (Option.none : Option FieldType) ∈ lw_all := am_wa 2848 rfl rfl
theorem w_2849 : Cond.methodLink "java/lang/String" (1059 : Nat) ({ cls := "jdk/internal/util/Preconditions", name := "checkIndex", desc := "(IILjava/util/function/BiFunction;)I" }) ∈ lw_all := am_wa 2849 rfl rfl
theorem w_2850 : Cond.methodLink "UmbrellaBank$Claim" (26 : Nat) ({ cls := "java/lang/StringBuilder", name := "toString", desc := "()Ljava/lang/String;" }) ∈ lw_all := am_wa 2850 rfl rfl
theorem w_2851 : Cond.methodLink "UmbrellaBank" (404 : Nat) ({ cls := "java/lang/StringBuilder", name := "toString", desc := "()Ljava/lang/String;" }) ∈ lw_all := am_wa 2851 rfl rfl
theorem w_2852 : Cond.methodLink "UmbrellaBank" (389 : Nat) ({ cls := "UmbrellaBank", name := "show", desc := "(Ljava/lang/String;)I" }) ∈ lw_all := am_wa 2852 rfl rfl
theorem v_2853 : Cond.privateMethod ({ cls := "UmbrellaBank", name := "show", desc := "(Ljava/lang/String;)I" }) ∈ lw_tbl := am_wv 2853 rfl
theorem w_2854 : Cond.instanceMethod ({ cls := "UmbrellaBank", name := "show", desc := "(Ljava/lang/String;)I" }) ∈ lw_all := am_wa 2854 rfl rfl
theorem w_2855 : Cond.code ({ cls := "UmbrellaBank", name := "show", desc := "(Ljava/lang/String;)I" }) prog_1_method_64_code (2 : Nat) (Option.some FieldType.int) ∈ lw_all := am_wa 2855 rfl rfl
theorem w_2856 : Cond.methodLink "UmbrellaBank" (380 : Nat) ({ cls := "java/lang/String", name := "length", desc := "()I" }) ∈ lw_all := am_wa 2856 rfl rfl
theorem w_2857 : Cond.methodLink "UmbrellaBankLaw" (356 : Nat) ({ cls := "UmbrellaBank", name := "save", desc := "()I" }) ∈ lw_all := am_wa 2857 rfl rfl
theorem w_2858 : Cond.instanceMethod ({ cls := "UmbrellaBank", name := "save", desc := "()I" }) ∈ lw_all := am_wa 2858 rfl rfl
theorem w_2859 : Cond.selects "UmbrellaBank" ({ cls := "UmbrellaBank", name := "save", desc := "()I" }) ({ cls := "UmbrellaBank", name := "save", desc := "()I" }) ∈ lw_all := am_wa 2859 rfl rfl
theorem w_2860 : Cond.code ({ cls := "UmbrellaBank", name := "save", desc := "()I" }) prog_1_method_73_code (1 : Nat) (Option.some FieldType.int) ∈ lw_all := am_wa 2860 rfl rfl
theorem w_2861 : Cond.methodLink "UmbrellaBankLaw" (148 : Nat) ({ cls := "UmbrellaBankLaw", name := "join", desc := "(LUmbrellaBank;[J)I" }) ∈ lw_all := am_wa 2861 rfl rfl
theorem w_2862 : Cond.static ({ cls := "UmbrellaBankLaw", name := "join", desc := "(LUmbrellaBank;[J)I" }) ∈ lw_all := am_wa 2862 rfl rfl
theorem w_2863 : Cond.codeWith ({ cls := "UmbrellaBankLaw", name := "join", desc := "(LUmbrellaBank;[J)I" }) method_3_code (3 : Nat) (Option.some FieldType.int) [((0 : Nat), (8 : Nat), (11 : Nat), (13 : Nat))] ∈ lw_all := am_wa 2863 rfl rfl
theorem w_2864 : Cond.classLink "UmbrellaBankLaw" (13 : Nat) "java/lang/IllegalStateException" ∈ lw_all := am_wa 2864 rfl rfl
theorem w_2865 : Cond.methodLink "UmbrellaBankLaw" (7 : Nat) ({ cls := "UmbrellaBank", name := "join", desc := "()I" }) ∈ lw_all := am_wa 2865 rfl rfl
theorem w_2866 : Cond.instanceMethod ({ cls := "UmbrellaBank", name := "join", desc := "()I" }) ∈ lw_all := am_wa 2866 rfl rfl
theorem w_2867 : Cond.selects "UmbrellaBank" ({ cls := "UmbrellaBank", name := "join", desc := "()I" }) ({ cls := "UmbrellaBank", name := "join", desc := "()I" }) ∈ lw_all := am_wa 2867 rfl rfl
theorem w_2868 : Cond.code ({ cls := "UmbrellaBank", name := "join", desc := "()I" }) prog_1_method_11_code (1 : Nat) (Option.some FieldType.int) ∈ lw_all := am_wa 2868 rfl rfl
theorem w_2870 : Cond.methodLink "UmbrellaBankLaw" (157 : Nat) ({ cls := "UmbrellaBankLaw", name := "deposit", desc := "(LUmbrellaBank;II[J)I" }) ∈ lw_all := am_wa 2870 rfl rfl
theorem w_2871 : Cond.static ({ cls := "UmbrellaBankLaw", name := "deposit", desc := "(LUmbrellaBank;II[J)I" }) ∈ lw_all := am_wa 2871 rfl rfl
theorem w_2872 : Cond.codeWith ({ cls := "UmbrellaBankLaw", name := "deposit", desc := "(LUmbrellaBank;II[J)I" }) method_4_code (5 : Nat) (Option.some FieldType.int) [((0 : Nat), (10 : Nat), (13 : Nat), (19 : Nat)), ((0 : Nat), (10 : Nat), (17 : Nat), (21 : Nat)), ((0 : Nat), (10 : Nat), (21 : Nat), (13 : Nat))] ∈ lw_all := am_wa 2872 rfl rfl
theorem w_2873 : Cond.classLink "UmbrellaBankLaw" (19 : Nat) "java/lang/IndexOutOfBoundsException" ∈ lw_all := am_wa 2873 rfl rfl
theorem w_2874 : Cond.classLink "UmbrellaBankLaw" (21 : Nat) "java/lang/IllegalArgumentException" ∈ lw_all := am_wa 2874 rfl rfl
theorem w_2875 : Cond.methodLink "UmbrellaBankLaw" (15 : Nat) ({ cls := "UmbrellaBank", name := "deposit", desc := "(II)I" }) ∈ lw_all := am_wa 2875 rfl rfl
theorem w_2876 : Cond.instanceMethod ({ cls := "UmbrellaBank", name := "deposit", desc := "(II)I" }) ∈ lw_all := am_wa 2876 rfl rfl
theorem w_2877 : Cond.selects "UmbrellaBank" ({ cls := "UmbrellaBank", name := "deposit", desc := "(II)I" }) ({ cls := "UmbrellaBank", name := "deposit", desc := "(II)I" }) ∈ lw_all := am_wa 2877 rfl rfl
theorem w_2878 : Cond.code ({ cls := "UmbrellaBank", name := "deposit", desc := "(II)I" }) prog_1_method_12_code (3 : Nat) (Option.some FieldType.int) ∈ lw_all := am_wa 2878 rfl rfl
theorem w_2880 : Cond.methodLink "UmbrellaBankLaw" (161 : Nat) ({ cls := "UmbrellaBankLaw", name := "withdraw", desc := "(LUmbrellaBank;II[J)I" }) ∈ lw_all := am_wa 2880 rfl rfl
theorem w_2881 : Cond.static ({ cls := "UmbrellaBankLaw", name := "withdraw", desc := "(LUmbrellaBank;II[J)I" }) ∈ lw_all := am_wa 2881 rfl rfl
theorem w_2882 : Cond.codeWith ({ cls := "UmbrellaBankLaw", name := "withdraw", desc := "(LUmbrellaBank;II[J)I" }) method_5_code (5 : Nat) (Option.some FieldType.int) [((0 : Nat), (10 : Nat), (13 : Nat), (19 : Nat)), ((0 : Nat), (10 : Nat), (17 : Nat), (21 : Nat)), ((0 : Nat), (10 : Nat), (21 : Nat), (13 : Nat)), ((0 : Nat), (10 : Nat), (25 : Nat), (26 : Nat))] ∈ lw_all := am_wa 2882 rfl rfl
theorem w_2883 : Cond.classLink "UmbrellaBankLaw" (26 : Nat) "java/lang/UnsupportedOperationException" ∈ lw_all := am_wa 2883 rfl rfl
theorem w_2884 : Cond.methodLink "UmbrellaBankLaw" (23 : Nat) ({ cls := "UmbrellaBank", name := "withdraw", desc := "(II)I" }) ∈ lw_all := am_wa 2884 rfl rfl
theorem w_2885 : Cond.instanceMethod ({ cls := "UmbrellaBank", name := "withdraw", desc := "(II)I" }) ∈ lw_all := am_wa 2885 rfl rfl
theorem w_2886 : Cond.selects "UmbrellaBank" ({ cls := "UmbrellaBank", name := "withdraw", desc := "(II)I" }) ({ cls := "UmbrellaBank", name := "withdraw", desc := "(II)I" }) ∈ lw_all := am_wa 2886 rfl rfl
theorem w_2887 : Cond.code ({ cls := "UmbrellaBank", name := "withdraw", desc := "(II)I" }) prog_1_method_13_code (3 : Nat) (Option.some FieldType.int) ∈ lw_all := am_wa 2887 rfl rfl
theorem w_2889 : Cond.methodLink "UmbrellaBankLaw" (164 : Nat) ({ cls := "UmbrellaBankLaw", name := "lend", desc := "(LUmbrellaBank;III[J)I" }) ∈ lw_all := am_wa 2889 rfl rfl
theorem w_2890 : Cond.static ({ cls := "UmbrellaBankLaw", name := "lend", desc := "(LUmbrellaBank;III[J)I" }) ∈ lw_all := am_wa 2890 rfl rfl
theorem w_2891 : Cond.codeWith ({ cls := "UmbrellaBankLaw", name := "lend", desc := "(LUmbrellaBank;III[J)I" }) method_6_code (6 : Nat) (Option.some FieldType.int) [((0 : Nat), (12 : Nat), (15 : Nat), (19 : Nat)), ((0 : Nat), (12 : Nat), (19 : Nat), (21 : Nat)), ((0 : Nat), (12 : Nat), (23 : Nat), (13 : Nat)), ((0 : Nat), (12 : Nat), (27 : Nat), (26 : Nat))] ∈ lw_all := am_wa 2891 rfl rfl
theorem w_2892 : Cond.methodLink "UmbrellaBankLaw" (28 : Nat) ({ cls := "UmbrellaBank", name := "lend", desc := "(III)I" }) ∈ lw_all := am_wa 2892 rfl rfl
theorem w_2893 : Cond.instanceMethod ({ cls := "UmbrellaBank", name := "lend", desc := "(III)I" }) ∈ lw_all := am_wa 2893 rfl rfl
theorem w_2894 : Cond.selects "UmbrellaBank" ({ cls := "UmbrellaBank", name := "lend", desc := "(III)I" }) ({ cls := "UmbrellaBank", name := "lend", desc := "(III)I" }) ∈ lw_all := am_wa 2894 rfl rfl
theorem w_2895 : Cond.code ({ cls := "UmbrellaBank", name := "lend", desc := "(III)I" }) prog_1_method_14_code (4 : Nat) (Option.some FieldType.int) ∈ lw_all := am_wa 2895 rfl rfl
theorem w_2897 : Cond.methodLink "UmbrellaBankLaw" (168 : Nat) ({ cls := "UmbrellaBankLaw", name := "giveBack", desc := "(LUmbrellaBank;I[J)I" }) ∈ lw_all := am_wa 2897 rfl rfl
theorem w_2898 : Cond.static ({ cls := "UmbrellaBankLaw", name := "giveBack", desc := "(LUmbrellaBank;I[J)I" }) ∈ lw_all := am_wa 2898 rfl rfl
theorem w_2899 : Cond.codeWith ({ cls := "UmbrellaBankLaw", name := "giveBack", desc := "(LUmbrellaBank;I[J)I" }) method_7_code (4 : Nat) (Option.some FieldType.int) [((0 : Nat), (9 : Nat), (12 : Nat), (36 : Nat))] ∈ lw_all := am_wa 2899 rfl rfl
theorem w_2900 : Cond.classLink "UmbrellaBankLaw" (36 : Nat) "java/util/NoSuchElementException" ∈ lw_all := am_wa 2900 rfl rfl
theorem w_2901 : Cond.methodLink "UmbrellaBankLaw" (32 : Nat) ({ cls := "UmbrellaBank", name := "giveBack", desc := "(I)I" }) ∈ lw_all := am_wa 2901 rfl rfl
theorem w_2902 : Cond.instanceMethod ({ cls := "UmbrellaBank", name := "giveBack", desc := "(I)I" }) ∈ lw_all := am_wa 2902 rfl rfl
theorem w_2903 : Cond.selects "UmbrellaBank" ({ cls := "UmbrellaBank", name := "giveBack", desc := "(I)I" }) ({ cls := "UmbrellaBank", name := "giveBack", desc := "(I)I" }) ∈ lw_all := am_wa 2903 rfl rfl
theorem w_2904 : Cond.code ({ cls := "UmbrellaBank", name := "giveBack", desc := "(I)I" }) prog_1_method_15_code (2 : Nat) (Option.some FieldType.int) ∈ lw_all := am_wa 2904 rfl rfl
theorem w_2906 : Cond.methodLink "UmbrellaBankLaw" (172 : Nat) ({ cls := "UmbrellaBankLaw", name := "callIn", desc := "(LUmbrellaBank;I[J)I" }) ∈ lw_all := am_wa 2906 rfl rfl
theorem w_2907 : Cond.static ({ cls := "UmbrellaBankLaw", name := "callIn", desc := "(LUmbrellaBank;I[J)I" }) ∈ lw_all := am_wa 2907 rfl rfl
theorem w_2908 : Cond.codeWith ({ cls := "UmbrellaBankLaw", name := "callIn", desc := "(LUmbrellaBank;I[J)I" }) method_8_code (4 : Nat) (Option.some FieldType.int) [((0 : Nat), (9 : Nat), (12 : Nat), (21 : Nat)), ((0 : Nat), (9 : Nat), (15 : Nat), (36 : Nat))] ∈ lw_all := am_wa 2908 rfl rfl
theorem w_2909 : Cond.methodLink "UmbrellaBankLaw" (38 : Nat) ({ cls := "UmbrellaBank", name := "callIn", desc := "(I)I" }) ∈ lw_all := am_wa 2909 rfl rfl
theorem w_2910 : Cond.instanceMethod ({ cls := "UmbrellaBank", name := "callIn", desc := "(I)I" }) ∈ lw_all := am_wa 2910 rfl rfl
theorem w_2911 : Cond.selects "UmbrellaBank" ({ cls := "UmbrellaBank", name := "callIn", desc := "(I)I" }) ({ cls := "UmbrellaBank", name := "callIn", desc := "(I)I" }) ∈ lw_all := am_wa 2911 rfl rfl
theorem w_2912 : Cond.code ({ cls := "UmbrellaBank", name := "callIn", desc := "(I)I" }) prog_1_method_16_code (2 : Nat) (Option.some FieldType.int) ∈ lw_all := am_wa 2912 rfl rfl
theorem w_2914 : Cond.methodLink "UmbrellaBankLaw" (175 : Nat) ({ cls := "UmbrellaBankLaw", name := "addClaim", desc := "(LUmbrellaBank;II[J)I" }) ∈ lw_all := am_wa 2914 rfl rfl
theorem w_2915 : Cond.static ({ cls := "UmbrellaBankLaw", name := "addClaim", desc := "(LUmbrellaBank;II[J)I" }) ∈ lw_all := am_wa 2915 rfl rfl
theorem w_2916 : Cond.codeWith ({ cls := "UmbrellaBankLaw", name := "addClaim", desc := "(LUmbrellaBank;II[J)I" }) method_9_code (5 : Nat) (Option.some FieldType.int) [((0 : Nat), (10 : Nat), (13 : Nat), (19 : Nat)), ((0 : Nat), (10 : Nat), (17 : Nat), (21 : Nat)), ((0 : Nat), (10 : Nat), (21 : Nat), (13 : Nat))] ∈ lw_all := am_wa 2916 rfl rfl
theorem w_2917 : Cond.methodLink "UmbrellaBankLaw" (41 : Nat) ({ cls := "UmbrellaBank", name := "addClaim", desc := "(II)I" }) ∈ lw_all := am_wa 2917 rfl rfl
theorem w_2918 : Cond.instanceMethod ({ cls := "UmbrellaBank", name := "addClaim", desc := "(II)I" }) ∈ lw_all := am_wa 2918 rfl rfl
theorem w_2919 : Cond.selects "UmbrellaBank" ({ cls := "UmbrellaBank", name := "addClaim", desc := "(II)I" }) ({ cls := "UmbrellaBank", name := "addClaim", desc := "(II)I" }) ∈ lw_all := am_wa 2919 rfl rfl
theorem w_2920 : Cond.code ({ cls := "UmbrellaBank", name := "addClaim", desc := "(II)I" }) prog_1_method_17_code (3 : Nat) (Option.some FieldType.int) ∈ lw_all := am_wa 2920 rfl rfl
theorem w_2922 : Cond.methodLink "UmbrellaBankLaw" (182 : Nat) ({ cls := "UmbrellaBankLaw", name := "promise", desc := "(LUmbrellaBank;III[J)I" }) ∈ lw_all := am_wa 2922 rfl rfl
theorem w_2923 : Cond.static ({ cls := "UmbrellaBankLaw", name := "promise", desc := "(LUmbrellaBank;III[J)I" }) ∈ lw_all := am_wa 2923 rfl rfl
theorem w_2924 : Cond.codeWith ({ cls := "UmbrellaBankLaw", name := "promise", desc := "(LUmbrellaBank;III[J)I" }) method_10_code (6 : Nat) (Option.some FieldType.int) [((0 : Nat), (12 : Nat), (15 : Nat), (19 : Nat)), ((0 : Nat), (12 : Nat), (19 : Nat), (21 : Nat)), ((0 : Nat), (12 : Nat), (23 : Nat), (13 : Nat))] ∈ lw_all := am_wa 2924 rfl rfl
theorem w_2925 : Cond.methodLink "UmbrellaBankLaw" (44 : Nat) ({ cls := "UmbrellaBank", name := "promise", desc := "(III)I" }) ∈ lw_all := am_wa 2925 rfl rfl
theorem w_2926 : Cond.instanceMethod ({ cls := "UmbrellaBank", name := "promise", desc := "(III)I" }) ∈ lw_all := am_wa 2926 rfl rfl
theorem w_2927 : Cond.selects "UmbrellaBank" ({ cls := "UmbrellaBank", name := "promise", desc := "(III)I" }) ({ cls := "UmbrellaBank", name := "promise", desc := "(III)I" }) ∈ lw_all := am_wa 2927 rfl rfl
theorem w_2928 : Cond.code ({ cls := "UmbrellaBank", name := "promise", desc := "(III)I" }) prog_1_method_19_code (4 : Nat) (Option.some FieldType.int) ∈ lw_all := am_wa 2928 rfl rfl
theorem w_2930 : Cond.methodLink "UmbrellaBankLaw" (189 : Nat) ({ cls := "UmbrellaBankLaw", name := "setRain", desc := "(LUmbrellaBank;II[J)I" }) ∈ lw_all := am_wa 2930 rfl rfl
theorem w_2931 : Cond.static ({ cls := "UmbrellaBankLaw", name := "setRain", desc := "(LUmbrellaBank;II[J)I" }) ∈ lw_all := am_wa 2931 rfl rfl
theorem w_2932 : Cond.codeWith ({ cls := "UmbrellaBankLaw", name := "setRain", desc := "(LUmbrellaBank;II[J)I" }) method_11_code (5 : Nat) (Option.some FieldType.int) [((0 : Nat), (10 : Nat), (13 : Nat), (21 : Nat))] ∈ lw_all := am_wa 2932 rfl rfl
theorem w_2933 : Cond.methodLink "UmbrellaBankLaw" (47 : Nat) ({ cls := "UmbrellaBank", name := "setRain", desc := "(II)I" }) ∈ lw_all := am_wa 2933 rfl rfl
theorem w_2934 : Cond.instanceMethod ({ cls := "UmbrellaBank", name := "setRain", desc := "(II)I" }) ∈ lw_all := am_wa 2934 rfl rfl
theorem w_2935 : Cond.selects "UmbrellaBank" ({ cls := "UmbrellaBank", name := "setRain", desc := "(II)I" }) ({ cls := "UmbrellaBank", name := "setRain", desc := "(II)I" }) ∈ lw_all := am_wa 2935 rfl rfl
theorem w_2936 : Cond.code ({ cls := "UmbrellaBank", name := "setRain", desc := "(II)I" }) prog_1_method_21_code (3 : Nat) (Option.some FieldType.int) ∈ lw_all := am_wa 2936 rfl rfl
theorem w_2938 : Cond.methodLink "UmbrellaBankLaw" (192 : Nat) ({ cls := "UmbrellaBankLaw", name := "setGust", desc := "(LUmbrellaBank;I[J)I" }) ∈ lw_all := am_wa 2938 rfl rfl
theorem w_2939 : Cond.static ({ cls := "UmbrellaBankLaw", name := "setGust", desc := "(LUmbrellaBank;I[J)I" }) ∈ lw_all := am_wa 2939 rfl rfl
theorem w_2940 : Cond.codeWith ({ cls := "UmbrellaBankLaw", name := "setGust", desc := "(LUmbrellaBank;I[J)I" }) method_12_code (4 : Nat) (Option.some FieldType.int) [((0 : Nat), (9 : Nat), (12 : Nat), (21 : Nat))] ∈ lw_all := am_wa 2940 rfl rfl
theorem w_2941 : Cond.methodLink "UmbrellaBankLaw" (50 : Nat) ({ cls := "UmbrellaBank", name := "setGust", desc := "(I)I" }) ∈ lw_all := am_wa 2941 rfl rfl
theorem w_2942 : Cond.instanceMethod ({ cls := "UmbrellaBank", name := "setGust", desc := "(I)I" }) ∈ lw_all := am_wa 2942 rfl rfl
theorem w_2943 : Cond.selects "UmbrellaBank" ({ cls := "UmbrellaBank", name := "setGust", desc := "(I)I" }) ({ cls := "UmbrellaBank", name := "setGust", desc := "(I)I" }) ∈ lw_all := am_wa 2943 rfl rfl
theorem w_2944 : Cond.code ({ cls := "UmbrellaBank", name := "setGust", desc := "(I)I" }) prog_1_method_22_code (2 : Nat) (Option.some FieldType.int) ∈ lw_all := am_wa 2944 rfl rfl
theorem w_2946 : Cond.methodLink "UmbrellaBankLaw" (195 : Nat) ({ cls := "UmbrellaBankLaw", name := "setRatio", desc := "(LUmbrellaBank;I[J)I" }) ∈ lw_all := am_wa 2946 rfl rfl
theorem w_2947 : Cond.static ({ cls := "UmbrellaBankLaw", name := "setRatio", desc := "(LUmbrellaBank;I[J)I" }) ∈ lw_all := am_wa 2947 rfl rfl
theorem w_2948 : Cond.codeWith ({ cls := "UmbrellaBankLaw", name := "setRatio", desc := "(LUmbrellaBank;I[J)I" }) method_13_code (4 : Nat) (Option.some FieldType.int) [((0 : Nat), (9 : Nat), (12 : Nat), (21 : Nat))] ∈ lw_all := am_wa 2948 rfl rfl
theorem w_2949 : Cond.methodLink "UmbrellaBankLaw" (53 : Nat) ({ cls := "UmbrellaBank", name := "setRatio", desc := "(I)I" }) ∈ lw_all := am_wa 2949 rfl rfl
theorem w_2950 : Cond.instanceMethod ({ cls := "UmbrellaBank", name := "setRatio", desc := "(I)I" }) ∈ lw_all := am_wa 2950 rfl rfl
theorem w_2951 : Cond.selects "UmbrellaBank" ({ cls := "UmbrellaBank", name := "setRatio", desc := "(I)I" }) ({ cls := "UmbrellaBank", name := "setRatio", desc := "(I)I" }) ∈ lw_all := am_wa 2951 rfl rfl
theorem w_2952 : Cond.code ({ cls := "UmbrellaBank", name := "setRatio", desc := "(I)I" }) prog_1_method_23_code (2 : Nat) (Option.some FieldType.int) ∈ lw_all := am_wa 2952 rfl rfl
theorem w_2954 : Cond.methodLink "UmbrellaBankLaw" (198 : Nat) ({ cls := "UmbrellaBankLaw", name := "passDays", desc := "(LUmbrellaBank;I[J)I" }) ∈ lw_all := am_wa 2954 rfl rfl
theorem w_2955 : Cond.static ({ cls := "UmbrellaBankLaw", name := "passDays", desc := "(LUmbrellaBank;I[J)I" }) ∈ lw_all := am_wa 2955 rfl rfl
theorem w_2956 : Cond.codeWith ({ cls := "UmbrellaBankLaw", name := "passDays", desc := "(LUmbrellaBank;I[J)I" }) method_14_code (4 : Nat) (Option.some FieldType.int) [((0 : Nat), (9 : Nat), (12 : Nat), (21 : Nat)), ((0 : Nat), (9 : Nat), (15 : Nat), (13 : Nat))] ∈ lw_all := am_wa 2956 rfl rfl
theorem w_2957 : Cond.methodLink "UmbrellaBankLaw" (56 : Nat) ({ cls := "UmbrellaBank", name := "passDays", desc := "(I)I" }) ∈ lw_all := am_wa 2957 rfl rfl
theorem w_2958 : Cond.instanceMethod ({ cls := "UmbrellaBank", name := "passDays", desc := "(I)I" }) ∈ lw_all := am_wa 2958 rfl rfl
theorem w_2959 : Cond.selects "UmbrellaBank" ({ cls := "UmbrellaBank", name := "passDays", desc := "(I)I" }) ({ cls := "UmbrellaBank", name := "passDays", desc := "(I)I" }) ∈ lw_all := am_wa 2959 rfl rfl
theorem w_2960 : Cond.code ({ cls := "UmbrellaBank", name := "passDays", desc := "(I)I" }) prog_1_method_24_code (2 : Nat) (Option.some FieldType.int) ∈ lw_all := am_wa 2960 rfl rfl
theorem w_2962 : Cond.methodLink "UmbrellaBankLaw" (205 : Nat) ({ cls := "UmbrellaBankLaw", name := "depositOf", desc := "(LUmbrellaBank;I[J)I" }) ∈ lw_all := am_wa 2962 rfl rfl
theorem w_2963 : Cond.static ({ cls := "UmbrellaBankLaw", name := "depositOf", desc := "(LUmbrellaBank;I[J)I" }) ∈ lw_all := am_wa 2963 rfl rfl
theorem w_2964 : Cond.codeWith ({ cls := "UmbrellaBankLaw", name := "depositOf", desc := "(LUmbrellaBank;I[J)I" }) method_15_code (4 : Nat) (Option.some FieldType.int) [((0 : Nat), (9 : Nat), (12 : Nat), (19 : Nat))] ∈ lw_all := am_wa 2964 rfl rfl
theorem w_2965 : Cond.methodLink "UmbrellaBankLaw" (59 : Nat) ({ cls := "UmbrellaBank", name := "depositOf", desc := "(I)I" }) ∈ lw_all := am_wa 2965 rfl rfl
theorem w_2966 : Cond.instanceMethod ({ cls := "UmbrellaBank", name := "depositOf", desc := "(I)I" }) ∈ lw_all := am_wa 2966 rfl rfl
theorem w_2967 : Cond.selects "UmbrellaBank" ({ cls := "UmbrellaBank", name := "depositOf", desc := "(I)I" }) ({ cls := "UmbrellaBank", name := "depositOf", desc := "(I)I" }) ∈ lw_all := am_wa 2967 rfl rfl
theorem w_2968 : Cond.code ({ cls := "UmbrellaBank", name := "depositOf", desc := "(I)I" }) prog_1_method_26_code (2 : Nat) (Option.some FieldType.int) ∈ lw_all := am_wa 2968 rfl rfl
theorem w_2969 : Cond.methodLink "UmbrellaBank" (103 : Nat) ({ cls := "UmbrellaBank$State", name := "checkOwners", desc := "([I)V" }) ∈ lw_all := am_wa 2969 rfl rfl
theorem w_2970 : Cond.methodLink "UmbrellaBankLaw" (208 : Nat) ({ cls := "UmbrellaBankLaw", name := "borrowedBy", desc := "(LUmbrellaBank;I[J)I" }) ∈ lw_all := am_wa 2970 rfl rfl
theorem w_2971 : Cond.static ({ cls := "UmbrellaBankLaw", name := "borrowedBy", desc := "(LUmbrellaBank;I[J)I" }) ∈ lw_all := am_wa 2971 rfl rfl
theorem w_2972 : Cond.codeWith ({ cls := "UmbrellaBankLaw", name := "borrowedBy", desc := "(LUmbrellaBank;I[J)I" }) method_16_code (4 : Nat) (Option.some FieldType.int) [((0 : Nat), (9 : Nat), (12 : Nat), (19 : Nat))] ∈ lw_all := am_wa 2972 rfl rfl
theorem w_2973 : Cond.methodLink "UmbrellaBankLaw" (62 : Nat) ({ cls := "UmbrellaBank", name := "borrowedBy", desc := "(I)I" }) ∈ lw_all := am_wa 2973 rfl rfl
theorem w_2974 : Cond.instanceMethod ({ cls := "UmbrellaBank", name := "borrowedBy", desc := "(I)I" }) ∈ lw_all := am_wa 2974 rfl rfl
theorem w_2975 : Cond.selects "UmbrellaBank" ({ cls := "UmbrellaBank", name := "borrowedBy", desc := "(I)I" }) ({ cls := "UmbrellaBank", name := "borrowedBy", desc := "(I)I" }) ∈ lw_all := am_wa 2975 rfl rfl
theorem w_2976 : Cond.code ({ cls := "UmbrellaBank", name := "borrowedBy", desc := "(I)I" }) prog_1_method_27_code (5 : Nat) (Option.some FieldType.int) ∈ lw_all := am_wa 2976 rfl rfl
theorem w_2977 : Cond.classLink "UmbrellaBank" (131 : Nat) "UmbrellaBank$Loan" ∈ lw_all := am_wa 2977 rfl rfl
theorem w_2978 : Cond.methodLink "UmbrellaBank" (133 : Nat) ({ cls := "UmbrellaBank$Loan", name := "borrower", desc := "()I" }) ∈ lw_all := am_wa 2978 rfl rfl
theorem w_2979 : Cond.methodLink "UmbrellaBank" (136 : Nat) ({ cls := "UmbrellaBank$Loan", name := "umbrellas", desc := "()I" }) ∈ lw_all := am_wa 2979 rfl rfl
theorem w_2980 : Cond.methodLink "UmbrellaBankLaw" (252 : Nat) ({ cls := "UmbrellaBankLaw", name := "rainOf", desc := "(LUmbrellaBank;II[J)I" }) ∈ lw_all := am_wa 2980 rfl rfl
theorem w_2981 : Cond.static ({ cls := "UmbrellaBankLaw", name := "rainOf", desc := "(LUmbrellaBank;II[J)I" }) ∈ lw_all := am_wa 2981 rfl rfl
theorem w_2982 : Cond.codeWith ({ cls := "UmbrellaBankLaw", name := "rainOf", desc := "(LUmbrellaBank;II[J)I" }) method_17_code (5 : Nat) (Option.some FieldType.int) [((0 : Nat), (10 : Nat), (13 : Nat), (21 : Nat))] ∈ lw_all := am_wa 2982 rfl rfl
theorem w_2983 : Cond.methodLink "UmbrellaBankLaw" (65 : Nat) ({ cls := "UmbrellaBank", name := "rainOf", desc := "(II)I" }) ∈ lw_all := am_wa 2983 rfl rfl
theorem w_2984 : Cond.methodLink "UmbrellaBankLaw" (255 : Nat) ({ cls := "UmbrellaBankLaw", name := "rainBySums", desc := "(LUmbrellaBank;II[J)I" }) ∈ lw_all := am_wa 2984 rfl rfl
theorem w_2985 : Cond.static ({ cls := "UmbrellaBankLaw", name := "rainBySums", desc := "(LUmbrellaBank;II[J)I" }) ∈ lw_all := am_wa 2985 rfl rfl
theorem w_2986 : Cond.codeWith ({ cls := "UmbrellaBankLaw", name := "rainBySums", desc := "(LUmbrellaBank;II[J)I" }) method_18_code (5 : Nat) (Option.some FieldType.int) [((0 : Nat), (10 : Nat), (13 : Nat), (21 : Nat))] ∈ lw_all := am_wa 2986 rfl rfl
theorem w_2987 : Cond.methodLink "UmbrellaBankLaw" (68 : Nat) ({ cls := "UmbrellaBank", name := "rainBySums", desc := "(II)I" }) ∈ lw_all := am_wa 2987 rfl rfl
theorem w_2988 : Cond.methodLink "UmbrellaBankLaw" (258 : Nat) ({ cls := "UmbrellaBankLaw", name := "wettestSpan", desc := "(LUmbrellaBank;I[J)I" }) ∈ lw_all := am_wa 2988 rfl rfl
theorem w_2989 : Cond.static ({ cls := "UmbrellaBankLaw", name := "wettestSpan", desc := "(LUmbrellaBank;I[J)I" }) ∈ lw_all := am_wa 2989 rfl rfl
theorem w_2990 : Cond.codeWith ({ cls := "UmbrellaBankLaw", name := "wettestSpan", desc := "(LUmbrellaBank;I[J)I" }) method_19_code (4 : Nat) (Option.some FieldType.int) [((0 : Nat), (9 : Nat), (12 : Nat), (21 : Nat))] ∈ lw_all := am_wa 2990 rfl rfl
theorem w_2991 : Cond.methodLink "UmbrellaBankLaw" (71 : Nat) ({ cls := "UmbrellaBank", name := "wettestSpan", desc := "(I)I" }) ∈ lw_all := am_wa 2991 rfl rfl
theorem w_2992 : Cond.instanceMethod ({ cls := "UmbrellaBank", name := "wettestSpan", desc := "(I)I" }) ∈ lw_all := am_wa 2992 rfl rfl
theorem w_2993 : Cond.selects "UmbrellaBank" ({ cls := "UmbrellaBank", name := "wettestSpan", desc := "(I)I" }) ({ cls := "UmbrellaBank", name := "wettestSpan", desc := "(I)I" }) ∈ lw_all := am_wa 2993 rfl rfl
theorem w_2994 : Cond.code ({ cls := "UmbrellaBank", name := "wettestSpan", desc := "(I)I" }) prog_1_method_40_code (5 : Nat) (Option.some FieldType.int) ∈ lw_all := am_wa 2994 rfl rfl
theorem w_2995 : Cond.classLink "UmbrellaBank" (187 : Nat) "UmbrellaBank$1Window" ∈ lw_all := am_wa 2995 rfl rfl
theorem w_2996 : Cond.instantiable "UmbrellaBank$1Window" (4 : Nat) ∈ lw_all := am_wa 2996 rfl rfl
theorem w_2997 : Cond.methodLink "UmbrellaBank" (189 : Nat) ({ cls := "UmbrellaBank$1Window", name := "<init>", desc := "(LUmbrellaBank;I)V" }) ∈ lw_all := am_wa 2997 rfl rfl
theorem w_2998 : Cond.instanceMethod ({ cls := "UmbrellaBank$1Window", name := "<init>", desc := "(LUmbrellaBank;I)V" }) ∈ lw_all := am_wa 2998 rfl rfl
theorem w_2999 : Cond.code ({ cls := "UmbrellaBank$1Window", name := "<init>", desc := "(LUmbrellaBank;I)V" }) prog_3_method_1_code (4 : Nat) (Option.none : Option FieldType) ∈ lw_all := am_wa 2999 rfl rfl
theorem w_3000 : Cond.methodLink "UmbrellaBank$1Window" (13 : Nat) ({ cls := "java/lang/Object", name := "<init>", desc := "()V" }) ∈ lw_all := am_wa 3000 rfl rfl
theorem w_3001 : Cond.fieldLink "UmbrellaBank$1Window" (32 : Nat) "UmbrellaBank$1Window" "first" "I" ∈ lw_all := am_wa 3001 rfl rfl
theorem v_3002 : Cond.fieldLinkNest "UmbrellaBank" (197 : Nat) "UmbrellaBank$1Window" "first" "I" "UmbrellaBank" ∈ lw_tbl := am_wv 3002 rfl
theorem w_3003 : Cond.fieldLink "UmbrellaBank$1Window" (19 : Nat) "UmbrellaBank$1Window" "rain" "I" ∈ lw_all := am_wa 3003 rfl rfl
theorem v_3004 : Cond.fieldLinkNest "UmbrellaBank" (192 : Nat) "UmbrellaBank$1Window" "rain" "I" "UmbrellaBank" ∈ lw_tbl := am_wv 3004 rfl
theorem w_3005 : Cond.fieldLink "UmbrellaBank$1Window" (9 : Nat) "UmbrellaBank$1Window" "val$days" "I" ∈ lw_all := am_wa 3005 rfl rfl
theorem w_3006 : Cond.fieldLink "UmbrellaBank$1Window" (3 : Nat) "UmbrellaBank$1Window" "this$0" "LUmbrellaBank;" ∈ lw_all := am_wa 3006 rfl rfl
theorem w_3015 : Cond.superclass "UmbrellaBank$1Window" "java/lang/Object" ∈ lw_all := am_wa 3015 rfl rfl
theorem w_3016 : Cond.methodLink "UmbrellaBank" (194 : Nat) ({ cls := "UmbrellaBank$1Window", name := "slides", desc := "()Z" }) ∈ lw_all := am_wa 3016 rfl rfl
theorem w_3017 : Cond.instanceMethod ({ cls := "UmbrellaBank$1Window", name := "slides", desc := "()Z" }) ∈ lw_all := am_wa 3017 rfl rfl
theorem w_3018 : Cond.selects "UmbrellaBank$1Window" ({ cls := "UmbrellaBank$1Window", name := "slides", desc := "()Z" }) ({ cls := "UmbrellaBank$1Window", name := "slides", desc := "()Z" }) ∈ lw_all := am_wa 3018 rfl rfl
theorem w_3019 : Cond.code ({ cls := "UmbrellaBank$1Window", name := "slides", desc := "()Z" }) prog_3_method_2_code (1 : Nat) (Option.some FieldType.boolean) ∈ lw_all := am_wa 3019 rfl rfl
theorem w_3020 : Cond.methodLink "UmbrellaBank" (200 : Nat) ({ cls := "java/lang/Math", name := "max", desc := "(II)I" }) ∈ lw_all := am_wa 3020 rfl rfl
theorem w_3021 : Cond.methodLink "UmbrellaBankLaw" (265 : Nat) ({ cls := "UmbrellaBankLaw", name := "loanAt", desc := "(LUmbrellaBank;I[J)I" }) ∈ lw_all := am_wa 3021 rfl rfl
theorem w_3022 : Cond.static ({ cls := "UmbrellaBankLaw", name := "loanAt", desc := "(LUmbrellaBank;I[J)I" }) ∈ lw_all := am_wa 3022 rfl rfl
theorem w_3023 : Cond.codeWith ({ cls := "UmbrellaBankLaw", name := "loanAt", desc := "(LUmbrellaBank;I[J)I" }) method_20_code (4 : Nat) (Option.some FieldType.int) [((0 : Nat), (9 : Nat), (12 : Nat), (36 : Nat))] ∈ lw_all := am_wa 3023 rfl rfl
theorem w_3024 : Cond.methodLink "UmbrellaBankLaw" (74 : Nat) ({ cls := "UmbrellaBank", name := "loanAt", desc := "(I)I" }) ∈ lw_all := am_wa 3024 rfl rfl
theorem w_3025 : Cond.instanceMethod ({ cls := "UmbrellaBank", name := "loanAt", desc := "(I)I" }) ∈ lw_all := am_wa 3025 rfl rfl
theorem w_3026 : Cond.selects "UmbrellaBank" ({ cls := "UmbrellaBank", name := "loanAt", desc := "(I)I" }) ({ cls := "UmbrellaBank", name := "loanAt", desc := "(I)I" }) ∈ lw_all := am_wa 3026 rfl rfl
theorem w_3027 : Cond.code ({ cls := "UmbrellaBank", name := "loanAt", desc := "(I)I" }) prog_1_method_42_code (6 : Nat) (Option.some FieldType.int) ∈ lw_all := am_wa 3027 rfl rfl
theorem w_3028 : Cond.methodLink "UmbrellaBank" (206 : Nat) ({ cls := "UmbrellaBank", name := "checkElement", desc := "(Z)V" }) ∈ lw_all := am_wa 3028 rfl rfl
theorem w_3029 : Cond.classLink "UmbrellaBank" (209 : Nat) "java/util/PriorityQueue" ∈ lw_all := am_wa 3029 rfl rfl
theorem w_3030 : Cond.classLink "UmbrellaBank" (211 : Nat) "UmbrellaBank$Urgency" ∈ lw_all := am_wa 3030 rfl rfl
theorem w_3031 : Cond.instantiable "UmbrellaBank$Urgency" (0 : Nat) ∈ lw_all := am_wa 3031 rfl rfl
theorem v_3032 : Cond.methodLinkNest "UmbrellaBank" (213 : Nat) ({ cls := "UmbrellaBank$Urgency", name := "<init>", desc := "()V" }) "UmbrellaBank" ∈ lw_tbl := am_wv 3032 rfl
theorem w_3033 : Cond.instanceMethod ({ cls := "UmbrellaBank$Urgency", name := "<init>", desc := "()V" }) ∈ lw_all := am_wa 3033 rfl rfl
theorem w_3034 : Cond.code ({ cls := "UmbrellaBank$Urgency", name := "<init>", desc := "()V" }) prog_23_method_1_code (1 : Nat) (Option.none : Option FieldType) ∈ lw_all := am_wa 3034 rfl rfl
theorem w_3035 : Cond.methodLink "UmbrellaBank$Urgency" (1 : Nat) ({ cls := "java/lang/Object", name := "<init>", desc := "()V" }) ∈ lw_all := am_wa 3035 rfl rfl
theorem w_3036 : Cond.superclass "UmbrellaBank$Urgency" "java/lang/Object" ∈ lw_all := am_wa 3036 rfl rfl
theorem w_3037 : Cond.methodLink "UmbrellaBank" (214 : Nat) ({ cls := "java/util/PriorityQueue", name := "<init>", desc := "(Ljava/util/Comparator;)V" }) ∈ lw_all := am_wa 3037 rfl rfl
theorem w_3038 : Cond.methodLink "UmbrellaBank" (217 : Nat) ({ cls := "java/util/PriorityQueue", name := "add", desc := "(Ljava/lang/Object;)Z" }) ∈ lw_all := am_wa 3038 rfl rfl
theorem w_3039 : Cond.methodLink "UmbrellaBank" (221 : Nat) ({ cls := "java/util/PriorityQueue", name := "poll", desc := "()Ljava/lang/Object;" }) ∈ lw_all := am_wa 3039 rfl rfl
theorem w_3040 : Cond.methodLink "UmbrellaBank" (224 : Nat) ({ cls := "java/util/PriorityQueue", name := "peek", desc := "()Ljava/lang/Object;" }) ∈ lw_all := am_wa 3040 rfl rfl
theorem w_3041 : Cond.instanceMethod ({ cls := "java/util/PriorityQueue", name := "peek", desc := "()Ljava/lang/Object;" }) ∈ lw_all := am_wa 3041 rfl rfl
theorem w_3042 : Cond.selects "java/util/PriorityQueue" ({ cls := "java/util/PriorityQueue", name := "peek", desc := "()Ljava/lang/Object;" }) ({ cls := "java/util/PriorityQueue", name := "peek", desc := "()Ljava/lang/Object;" }) ∈ lw_all := am_wa 3042 rfl rfl
theorem w_3043 : Cond.code ({ cls := "java/util/PriorityQueue", name := "peek", desc := "()Ljava/lang/Object;" }) prog_86_method_15_code (1 : Nat) (Option.some (FieldType.object "java/lang/Object")) ∈ lw_all := am_wa 3043 rfl rfl
theorem w_3044 : Cond.methodLink "UmbrellaBank" (227 : Nat) ({ cls := "UmbrellaBank$Loan", name := "id", desc := "()I" }) ∈ lw_all := am_wa 3044 rfl rfl
theorem w_3045 : Cond.methodLink "UmbrellaBankLaw" (268 : Nat) ({ cls := "UmbrellaBankLaw", name := "borrowerOf", desc := "(LUmbrellaBank;I[J)I" }) ∈ lw_all := am_wa 3045 rfl rfl
theorem w_3046 : Cond.static ({ cls := "UmbrellaBankLaw", name := "borrowerOf", desc := "(LUmbrellaBank;I[J)I" }) ∈ lw_all := am_wa 3046 rfl rfl
theorem w_3047 : Cond.codeWith ({ cls := "UmbrellaBankLaw", name := "borrowerOf", desc := "(LUmbrellaBank;I[J)I" }) method_21_code (4 : Nat) (Option.some FieldType.int) [((0 : Nat), (9 : Nat), (12 : Nat), (36 : Nat))] ∈ lw_all := am_wa 3047 rfl rfl
theorem w_3048 : Cond.methodLink "UmbrellaBankLaw" (77 : Nat) ({ cls := "UmbrellaBank", name := "borrowerOf", desc := "(I)I" }) ∈ lw_all := am_wa 3048 rfl rfl
theorem w_3049 : Cond.instanceMethod ({ cls := "UmbrellaBank", name := "borrowerOf", desc := "(I)I" }) ∈ lw_all := am_wa 3049 rfl rfl
theorem w_3050 : Cond.selects "UmbrellaBank" ({ cls := "UmbrellaBank", name := "borrowerOf", desc := "(I)I" }) ({ cls := "UmbrellaBank", name := "borrowerOf", desc := "(I)I" }) ∈ lw_all := am_wa 3050 rfl rfl
theorem w_3051 : Cond.code ({ cls := "UmbrellaBank", name := "borrowerOf", desc := "(I)I" }) prog_1_method_43_code (2 : Nat) (Option.some FieldType.int) ∈ lw_all := am_wa 3051 rfl rfl
theorem w_3052 : Cond.methodLink "UmbrellaBank" (230 : Nat) ({ cls := "UmbrellaBank$State", name := "loan", desc := "(I)LUmbrellaBank$Loan;" }) ∈ lw_all := am_wa 3052 rfl rfl
theorem w_3053 : Cond.methodLink "UmbrellaBankLaw" (271 : Nat) ({ cls := "UmbrellaBankLaw", name := "debtOf", desc := "(LUmbrellaBank;I[J)I" }) ∈ lw_all := am_wa 3053 rfl rfl
theorem w_3054 : Cond.static ({ cls := "UmbrellaBankLaw", name := "debtOf", desc := "(LUmbrellaBank;I[J)I" }) ∈ lw_all := am_wa 3054 rfl rfl
theorem w_3055 : Cond.codeWith ({ cls := "UmbrellaBankLaw", name := "debtOf", desc := "(LUmbrellaBank;I[J)I" }) method_22_code (4 : Nat) (Option.some FieldType.int) [((0 : Nat), (9 : Nat), (12 : Nat), (36 : Nat))] ∈ lw_all := am_wa 3055 rfl rfl
theorem w_3056 : Cond.methodLink "UmbrellaBankLaw" (80 : Nat) ({ cls := "UmbrellaBank", name := "debtOf", desc := "(I)I" }) ∈ lw_all := am_wa 3056 rfl rfl
theorem w_3057 : Cond.instanceMethod ({ cls := "UmbrellaBank", name := "debtOf", desc := "(I)I" }) ∈ lw_all := am_wa 3057 rfl rfl
theorem w_3058 : Cond.selects "UmbrellaBank" ({ cls := "UmbrellaBank", name := "debtOf", desc := "(I)I" }) ({ cls := "UmbrellaBank", name := "debtOf", desc := "(I)I" }) ∈ lw_all := am_wa 3058 rfl rfl
theorem w_3059 : Cond.code ({ cls := "UmbrellaBank", name := "debtOf", desc := "(I)I" }) prog_1_method_44_code (2 : Nat) (Option.some FieldType.int) ∈ lw_all := am_wa 3059 rfl rfl
theorem w_3060 : Cond.methodLink "UmbrellaBank" (234 : Nat) ({ cls := "UmbrellaBank$Loan", name := "debt", desc := "()I" }) ∈ lw_all := am_wa 3060 rfl rfl
theorem w_3061 : Cond.methodLink "UmbrellaBankLaw" (274 : Nat) ({ cls := "UmbrellaBankLaw", name := "dueDayOf", desc := "(LUmbrellaBank;I[J)I" }) ∈ lw_all := am_wa 3061 rfl rfl
theorem w_3062 : Cond.static ({ cls := "UmbrellaBankLaw", name := "dueDayOf", desc := "(LUmbrellaBank;I[J)I" }) ∈ lw_all := am_wa 3062 rfl rfl
theorem w_3063 : Cond.codeWith ({ cls := "UmbrellaBankLaw", name := "dueDayOf", desc := "(LUmbrellaBank;I[J)I" }) method_23_code (4 : Nat) (Option.some FieldType.int) [((0 : Nat), (9 : Nat), (12 : Nat), (36 : Nat))] ∈ lw_all := am_wa 3063 rfl rfl
theorem w_3064 : Cond.methodLink "UmbrellaBankLaw" (83 : Nat) ({ cls := "UmbrellaBank", name := "dueDayOf", desc := "(I)I" }) ∈ lw_all := am_wa 3064 rfl rfl
theorem w_3065 : Cond.instanceMethod ({ cls := "UmbrellaBank", name := "dueDayOf", desc := "(I)I" }) ∈ lw_all := am_wa 3065 rfl rfl
theorem w_3066 : Cond.selects "UmbrellaBank" ({ cls := "UmbrellaBank", name := "dueDayOf", desc := "(I)I" }) ({ cls := "UmbrellaBank", name := "dueDayOf", desc := "(I)I" }) ∈ lw_all := am_wa 3066 rfl rfl
theorem w_3067 : Cond.code ({ cls := "UmbrellaBank", name := "dueDayOf", desc := "(I)I" }) prog_1_method_45_code (2 : Nat) (Option.some FieldType.int) ∈ lw_all := am_wa 3067 rfl rfl
theorem w_3068 : Cond.methodLink "UmbrellaBank" (237 : Nat) ({ cls := "UmbrellaBank$Loan", name := "dueDay", desc := "()I" }) ∈ lw_all := am_wa 3068 rfl rfl
theorem w_3069 : Cond.methodLink "UmbrellaBankLaw" (277 : Nat) ({ cls := "UmbrellaBankLaw", name := "debtWhenDue", desc := "(LUmbrellaBank;I[J)I" }) ∈ lw_all := am_wa 3069 rfl rfl
theorem w_3070 : Cond.static ({ cls := "UmbrellaBankLaw", name := "debtWhenDue", desc := "(LUmbrellaBank;I[J)I" }) ∈ lw_all := am_wa 3070 rfl rfl
theorem w_3071 : Cond.codeWith ({ cls := "UmbrellaBankLaw", name := "debtWhenDue", desc := "(LUmbrellaBank;I[J)I" }) method_24_code (4 : Nat) (Option.some FieldType.int) [((0 : Nat), (9 : Nat), (12 : Nat), (36 : Nat))] ∈ lw_all := am_wa 3071 rfl rfl
theorem w_3072 : Cond.methodLink "UmbrellaBankLaw" (86 : Nat) ({ cls := "UmbrellaBank", name := "debtWhenDue", desc := "(I)I" }) ∈ lw_all := am_wa 3072 rfl rfl
theorem w_3073 : Cond.instanceMethod ({ cls := "UmbrellaBank", name := "debtWhenDue", desc := "(I)I" }) ∈ lw_all := am_wa 3073 rfl rfl
theorem w_3074 : Cond.selects "UmbrellaBank" ({ cls := "UmbrellaBank", name := "debtWhenDue", desc := "(I)I" }) ({ cls := "UmbrellaBank", name := "debtWhenDue", desc := "(I)I" }) ∈ lw_all := am_wa 3074 rfl rfl
theorem w_3075 : Cond.code ({ cls := "UmbrellaBank", name := "debtWhenDue", desc := "(I)I" }) prog_1_method_46_code (5 : Nat) (Option.some FieldType.int) ∈ lw_all := am_wa 3075 rfl rfl
theorem w_3076 : Cond.methodLink "UmbrellaBank" (240 : Nat) ({ cls := "UmbrellaBank$State", name := "rainOn", desc := "(I)I" }) ∈ lw_all := am_wa 3076 rfl rfl
theorem w_3077 : Cond.instanceMethod ({ cls := "UmbrellaBank$State", name := "rainOn", desc := "(I)I" }) ∈ lw_all := am_wa 3077 rfl rfl
theorem w_3078 : Cond.selects "UmbrellaBank$State" ({ cls := "UmbrellaBank$State", name := "rainOn", desc := "(I)I" }) ({ cls := "UmbrellaBank$State", name := "rainOn", desc := "(I)I" }) ∈ lw_all := am_wa 3078 rfl rfl
theorem w_3079 : Cond.code ({ cls := "UmbrellaBank$State", name := "rainOn", desc := "(I)I" }) prog_20_method_9_code (2 : Nat) (Option.some FieldType.int) ∈ lw_all := am_wa 3079 rfl rfl
theorem w_3080 : Cond.methodLink "UmbrellaBankLaw" (280 : Nat) ({ cls := "UmbrellaBankLaw", name := "callCost", desc := "(LUmbrellaBank;I[J)I" }) ∈ lw_all := am_wa 3080 rfl rfl
theorem w_3081 : Cond.static ({ cls := "UmbrellaBankLaw", name := "callCost", desc := "(LUmbrellaBank;I[J)I" }) ∈ lw_all := am_wa 3081 rfl rfl
theorem w_3082 : Cond.codeWith ({ cls := "UmbrellaBankLaw", name := "callCost", desc := "(LUmbrellaBank;I[J)I" }) method_25_code (4 : Nat) (Option.some FieldType.int) [((0 : Nat), (9 : Nat), (12 : Nat), (21 : Nat)), ((0 : Nat), (9 : Nat), (15 : Nat), (36 : Nat))] ∈ lw_all := am_wa 3082 rfl rfl
theorem w_3083 : Cond.methodLink "UmbrellaBankLaw" (89 : Nat) ({ cls := "UmbrellaBank", name := "callCost", desc := "(I)I" }) ∈ lw_all := am_wa 3083 rfl rfl
theorem w_3084 : Cond.instanceMethod ({ cls := "UmbrellaBank", name := "callCost", desc := "(I)I" }) ∈ lw_all := am_wa 3084 rfl rfl
theorem w_3085 : Cond.selects "UmbrellaBank" ({ cls := "UmbrellaBank", name := "callCost", desc := "(I)I" }) ({ cls := "UmbrellaBank", name := "callCost", desc := "(I)I" }) ∈ lw_all := am_wa 3085 rfl rfl
theorem w_3086 : Cond.code ({ cls := "UmbrellaBank", name := "callCost", desc := "(I)I" }) prog_1_method_47_code (3 : Nat) (Option.some FieldType.int) ∈ lw_all := am_wa 3086 rfl rfl
theorem w_3087 : Cond.methodLink "UmbrellaBank" (244 : Nat) ({ cls := "UmbrellaBank", name := "checkNumber", desc := "(I)V" }) ∈ lw_all := am_wa 3087 rfl rfl
theorem w_3088 : Cond.classLink "UmbrellaBank" (248 : Nat) "UmbrellaBank$Calling" ∈ lw_all := am_wa 3088 rfl rfl
theorem w_3089 : Cond.methodLink "UmbrellaBank" (250 : Nat) ({ cls := "UmbrellaBank$Calling", name := "<init>", desc := "(LUmbrellaBank$State;I)V" }) ∈ lw_all := am_wa 3089 rfl rfl
theorem w_3090 : Cond.methodLink "UmbrellaBank" (253 : Nat) ({ cls := "UmbrellaBank$Calling", name := "best", desc := "()Ljava/util/Optional;" }) ∈ lw_all := am_wa 3090 rfl rfl
theorem w_3091 : Cond.methodLink "UmbrellaBank" (257 : Nat) ({ cls := "java/util/Optional", name := "isPresent", desc := "()Z" }) ∈ lw_all := am_wa 3091 rfl rfl
theorem w_3092 : Cond.methodLink "UmbrellaBank" (262 : Nat) ({ cls := "java/util/Optional", name := "get", desc := "()Ljava/lang/Object;" }) ∈ lw_all := am_wa 3092 rfl rfl
theorem w_3093 : Cond.classLink "UmbrellaBank" (265 : Nat) "UmbrellaBank$LoanSet" ∈ lw_all := am_wa 3093 rfl rfl
theorem w_3094 : Cond.methodLink "UmbrellaBank" (267 : Nat) ({ cls := "UmbrellaBank$LoanSet", name := "debts", desc := "()I" }) ∈ lw_all := am_wa 3094 rfl rfl
theorem w_3095 : Cond.methodLink "UmbrellaBankLaw" (283 : Nat) ({ cls := "UmbrellaBankLaw", name := "callCostByTable", desc := "(LUmbrellaBank;I[J)I" }) ∈ lw_all := am_wa 3095 rfl rfl
theorem w_3096 : Cond.static ({ cls := "UmbrellaBankLaw", name := "callCostByTable", desc := "(LUmbrellaBank;I[J)I" }) ∈ lw_all := am_wa 3096 rfl rfl
theorem w_3097 : Cond.codeWith ({ cls := "UmbrellaBankLaw", name := "callCostByTable", desc := "(LUmbrellaBank;I[J)I" }) method_26_code (4 : Nat) (Option.some FieldType.int) [((0 : Nat), (9 : Nat), (12 : Nat), (21 : Nat)), ((0 : Nat), (9 : Nat), (15 : Nat), (36 : Nat))] ∈ lw_all := am_wa 3097 rfl rfl
theorem w_3098 : Cond.methodLink "UmbrellaBankLaw" (92 : Nat) ({ cls := "UmbrellaBank", name := "callCostByTable", desc := "(I)I" }) ∈ lw_all := am_wa 3098 rfl rfl
theorem w_3099 : Cond.instanceMethod ({ cls := "UmbrellaBank", name := "callCostByTable", desc := "(I)I" }) ∈ lw_all := am_wa 3099 rfl rfl
theorem w_3100 : Cond.selects "UmbrellaBank" ({ cls := "UmbrellaBank", name := "callCostByTable", desc := "(I)I" }) ({ cls := "UmbrellaBank", name := "callCostByTable", desc := "(I)I" }) ∈ lw_all := am_wa 3100 rfl rfl
theorem w_3101 : Cond.code ({ cls := "UmbrellaBank", name := "callCostByTable", desc := "(I)I" }) prog_1_method_48_code (3 : Nat) (Option.some FieldType.int) ∈ lw_all := am_wa 3101 rfl rfl
theorem w_3102 : Cond.methodLink "UmbrellaBank" (270 : Nat) ({ cls := "UmbrellaBank$Calling", name := "costByTable", desc := "()I" }) ∈ lw_all := am_wa 3102 rfl rfl
theorem w_3103 : Cond.constant "UmbrellaBank" (273 : Nat) (1000000000 : Int32) ∈ lw_all := am_wa 3103 rfl rfl
theorem w_3104 : Cond.methodLink "UmbrellaBankLaw" (286 : Nat) ({ cls := "UmbrellaBankLaw", name := "isCalled", desc := "(LUmbrellaBank;II[J)I" }) ∈ lw_all := am_wa 3104 rfl rfl
theorem w_3105 : Cond.static ({ cls := "UmbrellaBankLaw", name := "isCalled", desc := "(LUmbrellaBank;II[J)I" }) ∈ lw_all := am_wa 3105 rfl rfl
theorem w_3106 : Cond.codeWith ({ cls := "UmbrellaBankLaw", name := "isCalled", desc := "(LUmbrellaBank;II[J)I" }) method_27_code (5 : Nat) (Option.some FieldType.int) [((0 : Nat), (17 : Nat), (20 : Nat), (36 : Nat)), ((0 : Nat), (17 : Nat), (24 : Nat), (21 : Nat)), ((0 : Nat), (17 : Nat), (28 : Nat), (13 : Nat))] ∈ lw_all := am_wa 3106 rfl rfl
theorem w_3107 : Cond.methodLink "UmbrellaBankLaw" (95 : Nat) ({ cls := "UmbrellaBank", name := "isCalled", desc := "(II)Z" }) ∈ lw_all := am_wa 3107 rfl rfl
theorem w_3108 : Cond.instanceMethod ({ cls := "UmbrellaBank", name := "isCalled", desc := "(II)Z" }) ∈ lw_all := am_wa 3108 rfl rfl
theorem w_3109 : Cond.selects "UmbrellaBank" ({ cls := "UmbrellaBank", name := "isCalled", desc := "(II)Z" }) ({ cls := "UmbrellaBank", name := "isCalled", desc := "(II)Z" }) ∈ lw_all := am_wa 3109 rfl rfl
theorem w_3110 : Cond.code ({ cls := "UmbrellaBank", name := "isCalled", desc := "(II)Z" }) prog_1_method_49_code (5 : Nat) (Option.some FieldType.boolean) ∈ lw_all := am_wa 3110 rfl rfl
theorem w_3111 : Cond.methodLink "UmbrellaBank" (274 : Nat) ({ cls := "UmbrellaBank", name := "checkState", desc := "(Z)V" }) ∈ lw_all := am_wa 3111 rfl rfl
theorem w_3112 : Cond.methodLink "UmbrellaBank" (277 : Nat) ({ cls := "UmbrellaBank$LoanSet", name := "has", desc := "(I)Z" }) ∈ lw_all := am_wa 3112 rfl rfl
theorem w_3113 : Cond.instanceMethod ({ cls := "UmbrellaBank$LoanSet", name := "has", desc := "(I)Z" }) ∈ lw_all := am_wa 3113 rfl rfl
theorem w_3114 : Cond.selects "UmbrellaBank$LoanSet" ({ cls := "UmbrellaBank$LoanSet", name := "has", desc := "(I)Z" }) ({ cls := "UmbrellaBank$LoanSet", name := "has", desc := "(I)Z" }) ∈ lw_all := am_wa 3114 rfl rfl
theorem w_3115 : Cond.code ({ cls := "UmbrellaBank$LoanSet", name := "has", desc := "(I)Z" }) prog_11_method_4_code (4 : Nat) (Option.some FieldType.boolean) ∈ lw_all := am_wa 3115 rfl rfl
theorem w_3116 : Cond.methodLink "UmbrellaBank$LoanSet" (45 : Nat) ({ cls := "UmbrellaBank$Loan", name := "id", desc := "()I" }) ∈ lw_all := am_wa 3116 rfl rfl
theorem w_3117 : Cond.methodLink "UmbrellaBankLaw" (293 : Nat) ({ cls := "UmbrellaBankLaw", name := "claimOf", desc := "(LUmbrellaBank;I[J)I" }) ∈ lw_all := am_wa 3117 rfl rfl
theorem w_3118 : Cond.static ({ cls := "UmbrellaBankLaw", name := "claimOf", desc := "(LUmbrellaBank;I[J)I" }) ∈ lw_all := am_wa 3118 rfl rfl
theorem w_3119 : Cond.codeWith ({ cls := "UmbrellaBankLaw", name := "claimOf", desc := "(LUmbrellaBank;I[J)I" }) method_28_code (4 : Nat) (Option.some FieldType.int) [((0 : Nat), (9 : Nat), (12 : Nat), (36 : Nat))] ∈ lw_all := am_wa 3119 rfl rfl
theorem w_3120 : Cond.methodLink "UmbrellaBankLaw" (99 : Nat) ({ cls := "UmbrellaBank", name := "claimOf", desc := "(I)I" }) ∈ lw_all := am_wa 3120 rfl rfl
theorem w_3121 : Cond.instanceMethod ({ cls := "UmbrellaBank", name := "claimOf", desc := "(I)I" }) ∈ lw_all := am_wa 3121 rfl rfl
theorem w_3122 : Cond.selects "UmbrellaBank" ({ cls := "UmbrellaBank", name := "claimOf", desc := "(I)I" }) ({ cls := "UmbrellaBank", name := "claimOf", desc := "(I)I" }) ∈ lw_all := am_wa 3122 rfl rfl
theorem w_3123 : Cond.code ({ cls := "UmbrellaBank", name := "claimOf", desc := "(I)I" }) prog_1_method_51_code (2 : Nat) (Option.some FieldType.int) ∈ lw_all := am_wa 3123 rfl rfl
theorem w_3124 : Cond.methodLink "UmbrellaBankLaw" (304 : Nat) ({ cls := "UmbrellaBankLaw", name := "promised", desc := "(LUmbrellaBank;II[J)I" }) ∈ lw_all := am_wa 3124 rfl rfl
theorem w_3125 : Cond.static ({ cls := "UmbrellaBankLaw", name := "promised", desc := "(LUmbrellaBank;II[J)I" }) ∈ lw_all := am_wa 3125 rfl rfl
theorem w_3126 : Cond.codeWith ({ cls := "UmbrellaBankLaw", name := "promised", desc := "(LUmbrellaBank;II[J)I" }) method_29_code (5 : Nat) (Option.some FieldType.int) [((0 : Nat), (10 : Nat), (13 : Nat), (19 : Nat))] ∈ lw_all := am_wa 3126 rfl rfl
theorem w_3127 : Cond.methodLink "UmbrellaBankLaw" (102 : Nat) ({ cls := "UmbrellaBank", name := "promised", desc := "(II)I" }) ∈ lw_all := am_wa 3127 rfl rfl
theorem w_3128 : Cond.instanceMethod ({ cls := "UmbrellaBank", name := "promised", desc := "(II)I" }) ∈ lw_all := am_wa 3128 rfl rfl
theorem w_3129 : Cond.selects "UmbrellaBank" ({ cls := "UmbrellaBank", name := "promised", desc := "(II)I" }) ({ cls := "UmbrellaBank", name := "promised", desc := "(II)I" }) ∈ lw_all := am_wa 3129 rfl rfl
theorem w_3130 : Cond.code ({ cls := "UmbrellaBank", name := "promised", desc := "(II)I" }) prog_1_method_55_code (3 : Nat) (Option.some FieldType.int) ∈ lw_all := am_wa 3130 rfl rfl
theorem w_3131 : Cond.methodLink "UmbrellaBankLaw" (307 : Nat) ({ cls := "UmbrellaBankLaw", name := "netOf", desc := "(LUmbrellaBank;I[J)I" }) ∈ lw_all := am_wa 3131 rfl rfl
theorem w_3132 : Cond.static ({ cls := "UmbrellaBankLaw", name := "netOf", desc := "(LUmbrellaBank;I[J)I" }) ∈ lw_all := am_wa 3132 rfl rfl
theorem w_3133 : Cond.codeWith ({ cls := "UmbrellaBankLaw", name := "netOf", desc := "(LUmbrellaBank;I[J)I" }) method_30_code (4 : Nat) (Option.some FieldType.int) [((0 : Nat), (9 : Nat), (12 : Nat), (19 : Nat))] ∈ lw_all := am_wa 3133 rfl rfl
theorem w_3134 : Cond.methodLink "UmbrellaBankLaw" (105 : Nat) ({ cls := "UmbrellaBank", name := "netOf", desc := "(I)I" }) ∈ lw_all := am_wa 3134 rfl rfl
theorem w_3135 : Cond.instanceMethod ({ cls := "UmbrellaBank", name := "netOf", desc := "(I)I" }) ∈ lw_all := am_wa 3135 rfl rfl
theorem w_3136 : Cond.selects "UmbrellaBank" ({ cls := "UmbrellaBank", name := "netOf", desc := "(I)I" }) ({ cls := "UmbrellaBank", name := "netOf", desc := "(I)I" }) ∈ lw_all := am_wa 3136 rfl rfl
theorem w_3137 : Cond.code ({ cls := "UmbrellaBank", name := "netOf", desc := "(I)I" }) prog_1_method_56_code (2 : Nat) (Option.some FieldType.int) ∈ lw_all := am_wa 3137 rfl rfl
theorem w_3138 : Cond.methodLink "UmbrellaBank" (331 : Nat) ({ cls := "UmbrellaBank$State", name := "net", desc := "(I)I" }) ∈ lw_all := am_wa 3138 rfl rfl
theorem w_3139 : Cond.methodLink "UmbrellaBankLaw" (318 : Nat) ({ cls := "UmbrellaBankLaw", name := "meanDeposit", desc := "(LUmbrellaBank;[D)I" }) ∈ lw_all := am_wa 3139 rfl rfl
theorem w_3140 : Cond.static ({ cls := "UmbrellaBankLaw", name := "meanDeposit", desc := "(LUmbrellaBank;[D)I" }) ∈ lw_all := am_wa 3140 rfl rfl
theorem w_3141 : Cond.codeWith ({ cls := "UmbrellaBankLaw", name := "meanDeposit", desc := "(LUmbrellaBank;[D)I" }) method_31_code (3 : Nat) (Option.some FieldType.int) [((0 : Nat), (7 : Nat), (10 : Nat), (112 : Nat))] ∈ lw_all := am_wa 3141 rfl rfl
theorem w_3142 : Cond.classLink "UmbrellaBankLaw" (112 : Nat) "java/lang/ArithmeticException" ∈ lw_all := am_wa 3142 rfl rfl
theorem w_3143 : Cond.instantiable "java/lang/ArithmeticException" (6 : Nat) ∈ lw_all := am_wa 3143 rfl rfl
theorem w_3144 : Cond.instanceMethod ({ cls := "java/lang/ArithmeticException", name := "<init>", desc := "(Ljava/lang/String;)V" }) ∈ lw_all := am_wa 3144 rfl rfl
theorem w_3145 : Cond.code ({ cls := "java/lang/ArithmeticException", name := "<init>", desc := "(Ljava/lang/String;)V" }) prog_29_method_2_code (2 : Nat) (Option.none : Option FieldType) ∈ lw_all := am_wa 3145 rfl rfl
theorem w_3146 : Cond.methodLink "java/lang/ArithmeticException" (7 : Nat) ({ cls := "java/lang/RuntimeException", name := "<init>", desc := "(Ljava/lang/String;)V" }) ∈ lw_all := am_wa 3146 rfl rfl
theorem w_3153 : Cond.superclass "java/lang/ArithmeticException" "java/lang/RuntimeException" ∈ lw_all := am_wa 3153 rfl rfl
theorem v_3154 : Cond.castable "java/lang/ArithmeticException" "java/lang/ArithmeticException" ∈ lw_tbl := am_wv 3154 rfl
theorem w_3155 : Cond.selects "java/lang/ArithmeticException" ({ cls := "java/lang/Throwable", name := "fillInStackTrace", desc := "(I)Ljava/lang/Throwable;" }) ({ cls := "java/lang/Throwable", name := "fillInStackTrace", desc := "(I)Ljava/lang/Throwable;" }) ∈ lw_all := am_wa 3155 rfl rfl
theorem w_3156 : Cond.methodLink "UmbrellaBankLaw" (108 : Nat) ({ cls := "UmbrellaBank", name := "meanDeposit", desc := "()D" }) ∈ lw_all := am_wa 3156 rfl rfl
theorem w_3157 : Cond.instanceMethod ({ cls := "UmbrellaBank", name := "meanDeposit", desc := "()D" }) ∈ lw_all := am_wa 3157 rfl rfl
theorem w_3158 : Cond.selects "UmbrellaBank" ({ cls := "UmbrellaBank", name := "meanDeposit", desc := "()D" }) ({ cls := "UmbrellaBank", name := "meanDeposit", desc := "()D" }) ∈ lw_all := am_wa 3158 rfl rfl
theorem w_3159 : Cond.code ({ cls := "UmbrellaBank", name := "meanDeposit", desc := "()D" }) prog_1_method_60_code (1 : Nat) (Option.some FieldType.double) ∈ lw_all := am_wa 3159 rfl rfl
theorem w_3160 : Cond.methodLink "UmbrellaBank" (345 : Nat) ({ cls := "UmbrellaBank", name := "checkDivisor", desc := "(I)V" }) ∈ lw_all := am_wa 3160 rfl rfl
theorem w_3161 : Cond.static ({ cls := "UmbrellaBank", name := "checkDivisor", desc := "(I)V" }) ∈ lw_all := am_wa 3161 rfl rfl
theorem w_3162 : Cond.code ({ cls := "UmbrellaBank", name := "checkDivisor", desc := "(I)V" }) prog_1_method_59_code (1 : Nat) (Option.none : Option FieldType) ∈ lw_all := am_wa 3162 rfl rfl
theorem w_3163 : Cond.classLink "UmbrellaBank" (342 : Nat) "java/lang/ArithmeticException" ∈ lw_all := am_wa 3163 rfl rfl
theorem w_3164 : Cond.methodLink "UmbrellaBank" (344 : Nat) ({ cls := "java/lang/ArithmeticException", name := "<init>", desc := "()V" }) ∈ lw_all := am_wa 3164 rfl rfl
theorem w_3165 : Cond.instanceMethod ({ cls := "java/lang/ArithmeticException", name := "<init>", desc := "()V" }) ∈ lw_all := am_wa 3165 rfl rfl
theorem w_3166 : Cond.code ({ cls := "java/lang/ArithmeticException", name := "<init>", desc := "()V" }) prog_29_method_1_code (1 : Nat) (Option.none : Option FieldType) ∈ lw_all := am_wa 3166 rfl rfl
theorem w_3167 : Cond.methodLink "java/lang/ArithmeticException" (1 : Nat) ({ cls := "java/lang/RuntimeException", name := "<init>", desc := "()V" }) ∈ lw_all := am_wa 3167 rfl rfl
theorem w_3168 : Cond.methodLink "UmbrellaBankLaw" (322 : Nat) ({ cls := "UmbrellaBankLaw", name := "vaultShare", desc := "(LUmbrellaBank;[D)I" }) ∈ lw_all := am_wa 3168 rfl rfl
theorem w_3169 : Cond.static ({ cls := "UmbrellaBankLaw", name := "vaultShare", desc := "(LUmbrellaBank;[D)I" }) ∈ lw_all := am_wa 3169 rfl rfl
theorem w_3170 : Cond.codeWith ({ cls := "UmbrellaBankLaw", name := "vaultShare", desc := "(LUmbrellaBank;[D)I" }) method_32_code (3 : Nat) (Option.some FieldType.int) [((0 : Nat), (8 : Nat), (11 : Nat), (112 : Nat))] ∈ lw_all := am_wa 3170 rfl rfl
theorem w_3171 : Cond.methodLink "UmbrellaBankLaw" (114 : Nat) ({ cls := "UmbrellaBank", name := "vaultShare", desc := "()F" }) ∈ lw_all := am_wa 3171 rfl rfl
theorem w_3172 : Cond.instanceMethod ({ cls := "UmbrellaBank", name := "vaultShare", desc := "()F" }) ∈ lw_all := am_wa 3172 rfl rfl
theorem w_3173 : Cond.selects "UmbrellaBank" ({ cls := "UmbrellaBank", name := "vaultShare", desc := "()F" }) ({ cls := "UmbrellaBank", name := "vaultShare", desc := "()F" }) ∈ lw_all := am_wa 3173 rfl rfl
theorem w_3174 : Cond.code ({ cls := "UmbrellaBank", name := "vaultShare", desc := "()F" }) prog_1_method_61_code (2 : Nat) (Option.some FieldType.float) ∈ lw_all := am_wa 3174 rfl rfl
theorem w_3175 : Cond.methodLink "UmbrellaBankLaw" (330 : Nat) ({ cls := "UmbrellaBankLaw", name := "renderLoan", desc := "(LUmbrellaBank;I[J)I" }) ∈ lw_all := am_wa 3175 rfl rfl
theorem w_3176 : Cond.static ({ cls := "UmbrellaBankLaw", name := "renderLoan", desc := "(LUmbrellaBank;I[J)I" }) ∈ lw_all := am_wa 3176 rfl rfl
theorem w_3177 : Cond.codeWith ({ cls := "UmbrellaBankLaw", name := "renderLoan", desc := "(LUmbrellaBank;I[J)I" }) method_33_code (4 : Nat) (Option.some FieldType.int) [((0 : Nat), (9 : Nat), (12 : Nat), (36 : Nat))] ∈ lw_all := am_wa 3177 rfl rfl
theorem w_3178 : Cond.methodLink "UmbrellaBankLaw" (118 : Nat) ({ cls := "UmbrellaBank", name := "renderLoan", desc := "(I)I" }) ∈ lw_all := am_wa 3178 rfl rfl
theorem w_3179 : Cond.instanceMethod ({ cls := "UmbrellaBank", name := "renderLoan", desc := "(I)I" }) ∈ lw_all := am_wa 3179 rfl rfl
theorem w_3180 : Cond.selects "UmbrellaBank" ({ cls := "UmbrellaBank", name := "renderLoan", desc := "(I)I" }) ({ cls := "UmbrellaBank", name := "renderLoan", desc := "(I)I" }) ∈ lw_all := am_wa 3180 rfl rfl
theorem w_3181 : Cond.code ({ cls := "UmbrellaBank", name := "renderLoan", desc := "(I)I" }) prog_1_method_65_code (2 : Nat) (Option.some FieldType.int) ∈ lw_all := am_wa 3181 rfl rfl
theorem w_3182 : Cond.methodLink "UmbrellaBank" (385 : Nat) ({ cls := "UmbrellaBank$Loan", name := "toString", desc := "()Ljava/lang/String;" }) ∈ lw_all := am_wa 3182 rfl rfl
theorem w_3183 : Cond.instanceMethod ({ cls := "UmbrellaBank$Loan", name := "toString", desc := "()Ljava/lang/String;" }) ∈ lw_all := am_wa 3183 rfl rfl
theorem w_3184 : Cond.selects "UmbrellaBank$Loan" ({ cls := "UmbrellaBank$Loan", name := "toString", desc := "()Ljava/lang/String;" }) ({ cls := "UmbrellaBank$Loan", name := "toString", desc := "()Ljava/lang/String;" }) ∈ lw_all := am_wa 3184 rfl rfl
theorem w_3185 : Cond.code ({ cls := "UmbrellaBank$Loan", name := "toString", desc := "()Ljava/lang/String;" }) prog_10_method_4_code (2 : Nat) (Option.some (FieldType.object "java/lang/String")) ∈ lw_all := am_wa 3185 rfl rfl
theorem w_3186 : Cond.classLink "UmbrellaBank$Loan" (28 : Nat) "java/lang/StringBuilder" ∈ lw_all := am_wa 3186 rfl rfl
theorem w_3187 : Cond.methodLink "UmbrellaBank$Loan" (30 : Nat) ({ cls := "java/lang/StringBuilder", name := "<init>", desc := "()V" }) ∈ lw_all := am_wa 3187 rfl rfl
theorem w_3188 : Cond.methodLink "UmbrellaBank$Loan" (31 : Nat) ({ cls := "java/lang/StringBuilder", name := "append", desc := "(I)Ljava/lang/StringBuilder;" }) ∈ lw_all := am_wa 3188 rfl rfl
theorem w_3189 : Cond.methodLink "UmbrellaBank$Loan" (35 : Nat) ({ cls := "java/lang/StringBuilder", name := "append", desc := "(C)Ljava/lang/StringBuilder;" }) ∈ lw_all := am_wa 3189 rfl rfl
theorem w_3190 : Cond.methodLink "UmbrellaBank$Loan" (38 : Nat) ({ cls := "java/lang/StringBuilder", name := "toString", desc := "()Ljava/lang/String;" }) ∈ lw_all := am_wa 3190 rfl rfl
theorem w_3191 : Cond.methodLink "UmbrellaBankLaw" (337 : Nat) ({ cls := "UmbrellaBankLaw", name := "outputAt", desc := "(LUmbrellaBank;I[J)I" }) ∈ lw_all := am_wa 3191 rfl rfl
theorem w_3192 : Cond.static ({ cls := "UmbrellaBankLaw", name := "outputAt", desc := "(LUmbrellaBank;I[J)I" }) ∈ lw_all := am_wa 3192 rfl rfl
theorem w_3193 : Cond.codeWith ({ cls := "UmbrellaBankLaw", name := "outputAt", desc := "(LUmbrellaBank;I[J)I" }) method_34_code (4 : Nat) (Option.some FieldType.int) [((0 : Nat), (9 : Nat), (12 : Nat), (19 : Nat))] ∈ lw_all := am_wa 3193 rfl rfl
theorem w_3194 : Cond.methodLink "UmbrellaBankLaw" (121 : Nat) ({ cls := "UmbrellaBank", name := "outputAt", desc := "(I)C" }) ∈ lw_all := am_wa 3194 rfl rfl
theorem w_3195 : Cond.instanceMethod ({ cls := "UmbrellaBank", name := "outputAt", desc := "(I)C" }) ∈ lw_all := am_wa 3195 rfl rfl
theorem w_3196 : Cond.selects "UmbrellaBank" ({ cls := "UmbrellaBank", name := "outputAt", desc := "(I)C" }) ({ cls := "UmbrellaBank", name := "outputAt", desc := "(I)C" }) ∈ lw_all := am_wa 3196 rfl rfl
theorem w_3197 : Cond.code ({ cls := "UmbrellaBank", name := "outputAt", desc := "(I)C" }) prog_1_method_67_code (2 : Nat) (Option.some FieldType.char) ∈ lw_all := am_wa 3197 rfl rfl
theorem w_3198 : Cond.methodLink "UmbrellaBank" (405 : Nat) ({ cls := "UmbrellaBank", name := "checkIndex", desc := "(II)V" }) ∈ lw_all := am_wa 3198 rfl rfl
theorem w_3199 : Cond.methodLink "UmbrellaBank" (408 : Nat) ({ cls := "java/lang/String", name := "charAt", desc := "(I)C" }) ∈ lw_all := am_wa 3199 rfl rfl
theorem w_3200 : Cond.instanceMethod ({ cls := "java/lang/String", name := "charAt", desc := "(I)C" }) ∈ lw_all := am_wa 3200 rfl rfl
theorem w_3201 : Cond.selects "java/lang/String" ({ cls := "java/lang/String", name := "charAt", desc := "(I)C" }) ({ cls := "java/lang/String", name := "charAt", desc := "(I)C" }) ∈ lw_all := am_wa 3201 rfl rfl
theorem w_3202 : Cond.code ({ cls := "java/lang/String", name := "charAt", desc := "(I)C" }) prog_46_method_56_code (2 : Nat) (Option.some FieldType.char) ∈ lw_all := am_wa 3202 rfl rfl
theorem w_3203 : Cond.methodLink "java/lang/String" (495 : Nat) ({ cls := "java/lang/StringLatin1", name := "charAt", desc := "([BI)C" }) ∈ lw_all := am_wa 3203 rfl rfl
theorem w_3204 : Cond.static ({ cls := "java/lang/StringLatin1", name := "charAt", desc := "([BI)C" }) ∈ lw_all := am_wa 3204 rfl rfl
theorem w_3205 : Cond.code ({ cls := "java/lang/StringLatin1", name := "charAt", desc := "([BI)C" }) prog_48_method_2_code (2 : Nat) (Option.some FieldType.char) ∈ lw_all := am_wa 3205 rfl rfl
theorem w_3206 : Cond.methodLink "java/lang/StringLatin1" (9 : Nat) ({ cls := "java/lang/String", name := "checkIndex", desc := "(II)V" }) ∈ lw_all := am_wa 3206 rfl rfl
theorem w_3207 : Cond.methodLink "java/lang/String" (498 : Nat) ({ cls := "java/lang/StringUTF16", name := "charAt", desc := "([BI)C" }) ∈ lw_all := am_wa 3207 rfl rfl
theorem w_3208 : Cond.static ({ cls := "java/lang/StringUTF16", name := "charAt", desc := "([BI)C" }) ∈ lw_all := am_wa 3208 rfl rfl
theorem w_3209 : Cond.code ({ cls := "java/lang/StringUTF16", name := "charAt", desc := "([BI)C" }) prog_49_method_83_code (2 : Nat) (Option.some FieldType.char) ∈ lw_all := am_wa 3209 rfl rfl
theorem w_3210 : Cond.methodLink "UmbrellaBankLaw" (340 : Nat) ({ cls := "UmbrellaBankLaw", name := "type", desc := "(LUmbrellaBank;C[J)I" }) ∈ lw_all := am_wa 3210 rfl rfl
theorem w_3211 : Cond.static ({ cls := "UmbrellaBankLaw", name := "type", desc := "(LUmbrellaBank;C[J)I" }) ∈ lw_all := am_wa 3211 rfl rfl
theorem w_3212 : Cond.codeWith ({ cls := "UmbrellaBankLaw", name := "type", desc := "(LUmbrellaBank;C[J)I" }) method_35_code (4 : Nat) (Option.some FieldType.int) [((0 : Nat), (9 : Nat), (12 : Nat), (21 : Nat)), ((0 : Nat), (9 : Nat), (15 : Nat), (13 : Nat))] ∈ lw_all := am_wa 3212 rfl rfl
theorem w_3213 : Cond.methodLink "UmbrellaBankLaw" (125 : Nat) ({ cls := "UmbrellaBank", name := "type", desc := "(C)I" }) ∈ lw_all := am_wa 3213 rfl rfl
theorem w_3214 : Cond.instanceMethod ({ cls := "UmbrellaBank", name := "type", desc := "(C)I" }) ∈ lw_all := am_wa 3214 rfl rfl
theorem w_3215 : Cond.selects "UmbrellaBank" ({ cls := "UmbrellaBank", name := "type", desc := "(C)I" }) ({ cls := "UmbrellaBank", name := "type", desc := "(C)I" }) ∈ lw_all := am_wa 3215 rfl rfl
theorem w_3216 : Cond.code ({ cls := "UmbrellaBank", name := "type", desc := "(C)I" }) prog_1_method_68_code (2 : Nat) (Option.some FieldType.int) ∈ lw_all := am_wa 3216 rfl rfl
theorem w_3217 : Cond.methodLink "UmbrellaBankLaw" (344 : Nat) ({ cls := "UmbrellaBankLaw", name := "runScript", desc := "(LUmbrellaBank;[J)I" }) ∈ lw_all := am_wa 3217 rfl rfl
theorem w_3218 : Cond.static ({ cls := "UmbrellaBankLaw", name := "runScript", desc := "(LUmbrellaBank;[J)I" }) ∈ lw_all := am_wa 3218 rfl rfl
theorem w_3219 : Cond.codeWith ({ cls := "UmbrellaBankLaw", name := "runScript", desc := "(LUmbrellaBank;[J)I" }) method_36_code (3 : Nat) (Option.some FieldType.int) [((0 : Nat), (8 : Nat), (11 : Nat), (21 : Nat)), ((0 : Nat), (8 : Nat), (14 : Nat), (13 : Nat))] ∈ lw_all := am_wa 3219 rfl rfl
theorem w_3220 : Cond.methodLink "UmbrellaBankLaw" (129 : Nat) ({ cls := "UmbrellaBank", name := "runScript", desc := "()I" }) ∈ lw_all := am_wa 3220 rfl rfl
theorem w_3221 : Cond.instanceMethod ({ cls := "UmbrellaBank", name := "runScript", desc := "()I" }) ∈ lw_all := am_wa 3221 rfl rfl
theorem w_3222 : Cond.selects "UmbrellaBank" ({ cls := "UmbrellaBank", name := "runScript", desc := "()I" }) ({ cls := "UmbrellaBank", name := "runScript", desc := "()I" }) ∈ lw_all := am_wa 3222 rfl rfl
theorem w_3223 : Cond.codeWith ({ cls := "UmbrellaBank", name := "runScript", desc := "()I" }) prog_1_method_69_code (3 : Nat) (Option.some FieldType.int) [((0 : Nat), (23 : Nat), (30 : Nat), (427 : Nat)), ((0 : Nat), (23 : Nat), (47 : Nat), (0 : Nat)), ((30 : Nat), (48 : Nat), (47 : Nat), (0 : Nat))] ∈ lw_all := am_wa 3223 rfl rfl
theorem w_3224 : Cond.classLink "UmbrellaBank" (427 : Nat) "UmbrellaBank$SyntaxError" ∈ lw_all := am_wa 3224 rfl rfl
theorem w_3225 : Cond.classLink "UmbrellaBank" (414 : Nat) "UmbrellaBank$Script" ∈ lw_all := am_wa 3225 rfl rfl
theorem w_3226 : Cond.instantiable "UmbrellaBank$Script" (3 : Nat) ∈ lw_all := am_wa 3226 rfl rfl
theorem w_3227 : Cond.classLink "UmbrellaBank" (416 : Nat) "UmbrellaBank$Parser" ∈ lw_all := am_wa 3227 rfl rfl
theorem w_3228 : Cond.instantiable "UmbrellaBank$Parser" (3 : Nat) ∈ lw_all := am_wa 3228 rfl rfl
theorem v_3229 : Cond.methodLinkNest "UmbrellaBank" (418 : Nat) ({ cls := "UmbrellaBank$Parser", name := "<init>", desc := "(LUmbrellaBank;)V" }) "UmbrellaBank" ∈ lw_tbl := am_wv 3229 rfl
theorem w_3230 : Cond.instanceMethod ({ cls := "UmbrellaBank$Parser", name := "<init>", desc := "(LUmbrellaBank;)V" }) ∈ lw_all := am_wa 3230 rfl rfl
theorem w_3231 : Cond.code ({ cls := "UmbrellaBank$Parser", name := "<init>", desc := "(LUmbrellaBank;)V" }) prog_17_method_1_code (2 : Nat) (Option.none : Option FieldType) ∈ lw_all := am_wa 3231 rfl rfl
theorem w_3232 : Cond.methodLink "UmbrellaBank$Parser" (7 : Nat) ({ cls := "java/lang/Object", name := "<init>", desc := "()V" }) ∈ lw_all := am_wa 3232 rfl rfl
theorem w_3233 : Cond.classLink "UmbrellaBank$Parser" (13 : Nat) "java/lang/String" ∈ lw_all := am_wa 3233 rfl rfl
theorem v_3234 : Cond.arrayOver (FieldType.object "java/lang/String") ∈ lw_tbl := am_wv 3234 rfl
theorem w_3249 : Cond.methodLink "UmbrellaBank$Parser" (43 : Nat) ({ cls := "java/util/List", name := "of", desc := "([Ljava/lang/Object;)Ljava/util/List;" }) ∈ lw_all := am_wa 3249 rfl rfl
theorem w_3250 : Cond.static ({ cls := "java/util/List", name := "of", desc := "([Ljava/lang/Object;)Ljava/util/List;" }) ∈ lw_all := am_wa 3250 rfl rfl
theorem w_3251 : Cond.code ({ cls := "java/util/List", name := "of", desc := "([Ljava/lang/Object;)Ljava/util/List;" }) prog_77_method_47_code (2 : Nat) (Option.some (FieldType.object "java/util/List")) ∈ lw_all := am_wa 3251 rfl rfl
theorem w_3252 : Cond.fieldLink "java/util/List" (90 : Nat) "java/util/ImmutableCollections" "EMPTY_LIST" "Ljava/util/ImmutableCollections$ListN;" ∈ lw_all := am_wa 3252 rfl rfl
theorem w_3254 : Cond.classLink "java/util/List" (96 : Nat) "java/util/ImmutableCollections$List12" ∈ lw_all := am_wa 3254 rfl rfl
theorem w_3255 : Cond.instantiable "java/util/ImmutableCollections$List12" (2 : Nat) ∈ lw_all := am_wa 3255 rfl rfl
theorem w_3256 : Cond.methodLink "java/util/List" (98 : Nat) ({ cls := "java/util/ImmutableCollections$List12", name := "<init>", desc := "(Ljava/lang/Object;)V" }) ∈ lw_all := am_wa 3256 rfl rfl
theorem w_3257 : Cond.instanceMethod ({ cls := "java/util/ImmutableCollections$List12", name := "<init>", desc := "(Ljava/lang/Object;)V" }) ∈ lw_all := am_wa 3257 rfl rfl
theorem w_3258 : Cond.code ({ cls := "java/util/ImmutableCollections$List12", name := "<init>", desc := "(Ljava/lang/Object;)V" }) prog_73_method_1_code (2 : Nat) (Option.none : Option FieldType) ∈ lw_all := am_wa 3258 rfl rfl
theorem w_3259 : Cond.methodLink "java/util/ImmutableCollections$List12" (1 : Nat) ({ cls := "java/util/ImmutableCollections$AbstractImmutableList", name := "<init>", desc := "()V" }) ∈ lw_all := am_wa 3259 rfl rfl
theorem w_3260 : Cond.instanceMethod ({ cls := "java/util/ImmutableCollections$AbstractImmutableList", name := "<init>", desc := "()V" }) ∈ lw_all := am_wa 3260 rfl rfl
theorem w_3261 : Cond.code ({ cls := "java/util/ImmutableCollections$AbstractImmutableList", name := "<init>", desc := "()V" }) prog_72_method_1_code (1 : Nat) (Option.none : Option FieldType) ∈ lw_all := am_wa 3261 rfl rfl
theorem w_3262 : Cond.methodLink "java/util/ImmutableCollections$AbstractImmutableList" (1 : Nat) ({ cls := "java/util/ImmutableCollections$AbstractImmutableCollection", name := "<init>", desc := "()V" }) ∈ lw_all := am_wa 3262 rfl rfl
theorem w_3263 : Cond.instanceMethod ({ cls := "java/util/ImmutableCollections$AbstractImmutableCollection", name := "<init>", desc := "()V" }) ∈ lw_all := am_wa 3263 rfl rfl
theorem w_3264 : Cond.code ({ cls := "java/util/ImmutableCollections$AbstractImmutableCollection", name := "<init>", desc := "()V" }) prog_71_method_1_code (1 : Nat) (Option.none : Option FieldType) ∈ lw_all := am_wa 3264 rfl rfl
theorem w_3265 : Cond.methodLink "java/util/ImmutableCollections$AbstractImmutableCollection" (1 : Nat) ({ cls := "java/util/AbstractCollection", name := "<init>", desc := "()V" }) ∈ lw_all := am_wa 3265 rfl rfl
theorem w_3266 : Cond.fieldLink "java/util/ImmutableCollections$List12" (13 : Nat) "java/util/ImmutableCollections$List12" "e0" "Ljava/lang/Object;" ∈ lw_all := am_wa 3266 rfl rfl
theorem w_3267 : Cond.fieldLink "java/util/ImmutableCollections$List12" (24 : Nat) "java/util/ImmutableCollections$List12" "e1" "Ljava/lang/Object;" ∈ lw_all := am_wa 3267 rfl rfl
theorem w_3272 : Cond.superclass "java/util/ImmutableCollections$List12" "java/util/ImmutableCollections$AbstractImmutableList" ∈ lw_all := am_wa 3272 rfl rfl
theorem w_3273 : Cond.methodLink "java/util/List" (100 : Nat) ({ cls := "java/util/ImmutableCollections$List12", name := "<init>", desc := "(Ljava/lang/Object;Ljava/lang/Object;)V" }) ∈ lw_all := am_wa 3273 rfl rfl
theorem w_3274 : Cond.instanceMethod ({ cls := "java/util/ImmutableCollections$List12", name := "<init>", desc := "(Ljava/lang/Object;Ljava/lang/Object;)V" }) ∈ lw_all := am_wa 3274 rfl rfl
theorem w_3275 : Cond.code ({ cls := "java/util/ImmutableCollections$List12", name := "<init>", desc := "(Ljava/lang/Object;Ljava/lang/Object;)V" }) prog_73_method_2_code (3 : Nat) (Option.none : Option FieldType) ∈ lw_all := am_wa 3275 rfl rfl
theorem w_3276 : Cond.methodLink "java/util/List" (109 : Nat) ({ cls := "java/util/ImmutableCollections", name := "listFromArray", desc := "([Ljava/lang/Object;)Ljava/util/List;" }) ∈ lw_all := am_wa 3276 rfl rfl
theorem w_3277 : Cond.static ({ cls := "java/util/ImmutableCollections", name := "listFromArray", desc := "([Ljava/lang/Object;)Ljava/util/List;" }) ∈ lw_all := am_wa 3277 rfl rfl
theorem w_3278 : Cond.code ({ cls := "java/util/ImmutableCollections", name := "listFromArray", desc := "([Ljava/lang/Object;)Ljava/util/List;" }) prog_70_method_4_code (3 : Nat) (Option.some (FieldType.object "java/util/List")) ∈ lw_all := am_wa 3278 rfl rfl
theorem w_3279 : Cond.classLink "java/util/ImmutableCollections" (2 : Nat) "java/lang/Object" ∈ lw_all := am_wa 3279 rfl rfl
theorem w_3280 : Cond.methodLink "java/util/ImmutableCollections" (37 : Nat) ({ cls := "java/util/Objects", name := "requireNonNull", desc := "(Ljava/lang/Object;)Ljava/lang/Object;" }) ∈ lw_all := am_wa 3280 rfl rfl
theorem w_3281 : Cond.classLink "java/util/ImmutableCollections" (12 : Nat) "java/util/ImmutableCollections$ListN" ∈ lw_all := am_wa 3281 rfl rfl
theorem w_3282 : Cond.instantiable "java/util/ImmutableCollections$ListN" (2 : Nat) ∈ lw_all := am_wa 3282 rfl rfl
theorem v_3283 : Cond.methodLinkNest "java/util/ImmutableCollections" (43 : Nat) ({ cls := "java/util/ImmutableCollections$ListN", name := "<init>", desc := "([Ljava/lang/Object;Z)V" }) "java/util/ImmutableCollections" ∈ lw_tbl := am_wv 3283 rfl
theorem w_3284 : Cond.instanceMethod ({ cls := "java/util/ImmutableCollections$ListN", name := "<init>", desc := "([Ljava/lang/Object;Z)V" }) ∈ lw_all := am_wa 3284 rfl rfl
theorem w_3285 : Cond.code ({ cls := "java/util/ImmutableCollections$ListN", name := "<init>", desc := "([Ljava/lang/Object;Z)V" }) prog_75_method_1_code (3 : Nat) (Option.none : Option FieldType) ∈ lw_all := am_wa 3285 rfl rfl
theorem w_3286 : Cond.methodLink "java/util/ImmutableCollections$ListN" (1 : Nat) ({ cls := "java/util/ImmutableCollections$AbstractImmutableList", name := "<init>", desc := "()V" }) ∈ lw_all := am_wa 3286 rfl rfl
theorem w_3287 : Cond.fieldLink "java/util/ImmutableCollections$ListN" (7 : Nat) "java/util/ImmutableCollections$ListN" "elements" "[Ljava/lang/Object;" ∈ lw_all := am_wa 3287 rfl rfl
theorem w_3288 : Cond.fieldLink "java/util/ImmutableCollections$ListN" (13 : Nat) "java/util/ImmutableCollections$ListN" "allowNulls" "Z" ∈ lw_all := am_wa 3288 rfl rfl
theorem w_3293 : Cond.superclass "java/util/ImmutableCollections$ListN" "java/util/ImmutableCollections$AbstractImmutableList" ∈ lw_all := am_wa 3293 rfl rfl
theorem w_3294 : Cond.fieldLink "UmbrellaBank$Parser" (49 : Nat) "UmbrellaBank$Parser" "words" "Ljava/util/List;" ∈ lw_all := am_wa 3294 rfl rfl
theorem w_3295 : Cond.fieldLink "UmbrellaBank$Parser" (53 : Nat) "UmbrellaBank$Parser" "at" "I" ∈ lw_all := am_wa 3295 rfl rfl
theorem w_3296 : Cond.fieldLink "UmbrellaBank$Parser" (1 : Nat) "UmbrellaBank$Parser" "this$0" "LUmbrellaBank;" ∈ lw_all := am_wa 3296 rfl rfl
theorem w_3303 : Cond.superclass "UmbrellaBank$Parser" "java/lang/Object" ∈ lw_all := am_wa 3303 rfl rfl
theorem w_3304 : Cond.methodLink "UmbrellaBank" (419 : Nat) ({ cls := "UmbrellaBank$Parser", name := "parse", desc := "()Ljava/util/ArrayList;" }) ∈ lw_all := am_wa 3304 rfl rfl
theorem w_3305 : Cond.instanceMethod ({ cls := "UmbrellaBank$Parser", name := "parse", desc := "()Ljava/util/ArrayList;" }) ∈ lw_all := am_wa 3305 rfl rfl
theorem w_3306 : Cond.selects "UmbrellaBank$Parser" ({ cls := "UmbrellaBank$Parser", name := "parse", desc := "()Ljava/util/ArrayList;" }) ({ cls := "UmbrellaBank$Parser", name := "parse", desc := "()Ljava/util/ArrayList;" }) ∈ lw_all := am_wa 3306 rfl rfl
theorem w_3307 : Cond.code ({ cls := "UmbrellaBank$Parser", name := "parse", desc := "()Ljava/util/ArrayList;" }) prog_17_method_9_code (2 : Nat) (Option.some (FieldType.object "java/util/ArrayList")) ∈ lw_all := am_wa 3307 rfl rfl
theorem w_3308 : Cond.classLink "UmbrellaBank$Parser" (136 : Nat) "java/util/ArrayList" ∈ lw_all := am_wa 3308 rfl rfl
theorem w_3309 : Cond.methodLink "UmbrellaBank$Parser" (138 : Nat) ({ cls := "java/util/ArrayList", name := "<init>", desc := "()V" }) ∈ lw_all := am_wa 3309 rfl rfl
theorem w_3310 : Cond.methodLink "UmbrellaBank$Parser" (139 : Nat) ({ cls := "UmbrellaBank$Parser", name := "command", desc := "()LUmbrellaBank$Command;" }) ∈ lw_all := am_wa 3310 rfl rfl
theorem v_3311 : Cond.privateMethod ({ cls := "UmbrellaBank$Parser", name := "command", desc := "()LUmbrellaBank$Command;" }) ∈ lw_tbl := am_wv 3311 rfl
theorem w_3312 : Cond.instanceMethod ({ cls := "UmbrellaBank$Parser", name := "command", desc := "()LUmbrellaBank$Command;" }) ∈ lw_all := am_wa 3312 rfl rfl
theorem w_3313 : Cond.code ({ cls := "UmbrellaBank$Parser", name := "command", desc := "()LUmbrellaBank$Command;" }) prog_17_method_8_code (4 : Nat) (Option.some (FieldType.object "UmbrellaBank$Command")) ∈ lw_all := am_wa 3313 rfl rfl
theorem w_3314 : Cond.methodLink "UmbrellaBank$Parser" (117 : Nat) ({ cls := "UmbrellaBank$Parser", name := "word", desc := "()Ljava/lang/String;" }) ∈ lw_all := am_wa 3314 rfl rfl
theorem v_3315 : Cond.privateMethod ({ cls := "UmbrellaBank$Parser", name := "word", desc := "()Ljava/lang/String;" }) ∈ lw_tbl := am_wv 3315 rfl
theorem w_3316 : Cond.instanceMethod ({ cls := "UmbrellaBank$Parser", name := "word", desc := "()Ljava/lang/String;" }) ∈ lw_all := am_wa 3316 rfl rfl
theorem w_3317 : Cond.code ({ cls := "UmbrellaBank$Parser", name := "word", desc := "()Ljava/lang/String;" }) prog_17_method_5_code (5 : Nat) (Option.some (FieldType.object "java/lang/String")) ∈ lw_all := am_wa 3317 rfl rfl
theorem w_3319 : Cond.methodLink "UmbrellaBank$Parser" (77 : Nat) ({ cls := "java/util/List", name := "iterator", desc := "()Ljava/util/Iterator;" }) ∈ lw_all := am_wa 3319 rfl rfl
theorem w_3321 : Cond.methodLink "UmbrellaBank$Parser" (81 : Nat) ({ cls := "java/util/Iterator", name := "hasNext", desc := "()Z" }) ∈ lw_all := am_wa 3321 rfl rfl
theorem w_3323 : Cond.methodLink "UmbrellaBank$Parser" (87 : Nat) ({ cls := "java/util/Iterator", name := "next", desc := "()Ljava/lang/Object;" }) ∈ lw_all := am_wa 3323 rfl rfl
theorem w_3324 : Cond.methodLink "UmbrellaBank$Parser" (91 : Nat) ({ cls := "UmbrellaBank$Parser", name := "matchingPrefix", desc := "(Ljava/lang/String;)I" }) ∈ lw_all := am_wa 3324 rfl rfl
theorem v_3325 : Cond.privateMethod ({ cls := "UmbrellaBank$Parser", name := "matchingPrefix", desc := "(Ljava/lang/String;)I" }) ∈ lw_tbl := am_wv 3325 rfl
theorem w_3326 : Cond.instanceMethod ({ cls := "UmbrellaBank$Parser", name := "matchingPrefix", desc := "(Ljava/lang/String;)I" }) ∈ lw_all := am_wa 3326 rfl rfl
theorem w_3327 : Cond.code ({ cls := "UmbrellaBank$Parser", name := "matchingPrefix", desc := "(Ljava/lang/String;)I" }) prog_17_method_4_code (3 : Nat) (Option.some FieldType.int) ∈ lw_all := am_wa 3327 rfl rfl
theorem w_3328 : Cond.methodLink "UmbrellaBank$Parser" (70 : Nat) ({ cls := "java/lang/String", name := "length", desc := "()I" }) ∈ lw_all := am_wa 3328 rfl rfl
theorem w_3329 : Cond.methodLink "UmbrellaBank$Parser" (73 : Nat) ({ cls := "java/lang/String", name := "charAt", desc := "(I)C" }) ∈ lw_all := am_wa 3329 rfl rfl
theorem w_3330 : Cond.methodLink "UmbrellaBank$Parser" (95 : Nat) ({ cls := "java/lang/Math", name := "max", desc := "(II)I" }) ∈ lw_all := am_wa 3330 rfl rfl
theorem w_3331 : Cond.classLink "UmbrellaBank$Parser" (101 : Nat) "UmbrellaBank$SyntaxError" ∈ lw_all := am_wa 3331 rfl rfl
theorem w_3332 : Cond.instantiable "UmbrellaBank$SyntaxError" (7 : Nat) ∈ lw_all := am_wa 3332 rfl rfl
theorem v_3333 : Cond.castable "UmbrellaBank$SyntaxError" "UmbrellaBank$SyntaxError" ∈ lw_tbl := am_wv 3333 rfl
theorem w_3334 : Cond.selects "UmbrellaBank$SyntaxError" ({ cls := "java/lang/Throwable", name := "fillInStackTrace", desc := "(I)Ljava/lang/Throwable;" }) ({ cls := "java/lang/Throwable", name := "fillInStackTrace", desc := "(I)Ljava/lang/Throwable;" }) ∈ lw_all := am_wa 3334 rfl rfl
theorem w_3340 : Cond.methodLink "UmbrellaBank$Parser" (103 : Nat) ({ cls := "UmbrellaBank$SyntaxError", name := "<init>", desc := "(I)V" }) ∈ lw_all := am_wa 3340 rfl rfl
theorem w_3341 : Cond.instanceMethod ({ cls := "UmbrellaBank$SyntaxError", name := "<init>", desc := "(I)V" }) ∈ lw_all := am_wa 3341 rfl rfl
theorem w_3342 : Cond.code ({ cls := "UmbrellaBank$SyntaxError", name := "<init>", desc := "(I)V" }) prog_21_method_1_code (2 : Nat) (Option.none : Option FieldType) ∈ lw_all := am_wa 3342 rfl rfl
theorem w_3343 : Cond.methodLink "UmbrellaBank$SyntaxError" (1 : Nat) ({ cls := "java/lang/Exception", name := "<init>", desc := "(Ljava/lang/String;Ljava/lang/Throwable;ZZ)V" }) ∈ lw_all := am_wa 3343 rfl rfl
theorem w_3344 : Cond.instanceMethod ({ cls := "java/lang/Exception", name := "<init>", desc := "(Ljava/lang/String;Ljava/lang/Throwable;ZZ)V" }) ∈ lw_all := am_wa 3344 rfl rfl
theorem w_3345 : Cond.code ({ cls := "java/lang/Exception", name := "<init>", desc := "(Ljava/lang/String;Ljava/lang/Throwable;ZZ)V" }) prog_34_method_5_code (5 : Nat) (Option.none : Option FieldType) ∈ lw_all := am_wa 3345 rfl rfl
theorem w_3346 : Cond.methodLink "java/lang/Exception" (16 : Nat) ({ cls := "java/lang/Throwable", name := "<init>", desc := "(Ljava/lang/String;Ljava/lang/Throwable;ZZ)V" }) ∈ lw_all := am_wa 3346 rfl rfl
theorem w_3347 : Cond.instanceMethod ({ cls := "java/lang/Throwable", name := "<init>", desc := "(Ljava/lang/String;Ljava/lang/Throwable;ZZ)V" }) ∈ lw_all := am_wa 3347 rfl rfl
theorem w_3348 : Cond.code ({ cls := "java/lang/Throwable", name := "<init>", desc := "(Ljava/lang/String;Ljava/lang/Throwable;ZZ)V" }) prog_52_method_5_code (5 : Nat) (Option.none : Option FieldType) ∈ lw_all := am_wa 3348 rfl rfl
theorem w_3349 : Cond.fieldLink "UmbrellaBank$SyntaxError" (7 : Nat) "UmbrellaBank$SyntaxError" "position" "I" ∈ lw_all := am_wa 3349 rfl rfl
theorem v_3350 : Cond.fieldLinkNest "UmbrellaBank" (429 : Nat) "UmbrellaBank$SyntaxError" "position" "I" "UmbrellaBank" ∈ lw_tbl := am_wv 3350 rfl
theorem w_3354 : Cond.superclass "UmbrellaBank$SyntaxError" "java/lang/Exception" ∈ lw_all := am_wa 3354 rfl rfl
theorem w_3355 : Cond.methodLink "UmbrellaBank$Parser" (121 : Nat) ({ cls := "java/lang/String", name := "hashCode", desc := "()I" }) ∈ lw_all := am_wa 3355 rfl rfl
theorem w_3356 : Cond.methodLink "UmbrellaBank$Parser" (124 : Nat) ({ cls := "java/lang/String", name := "equals", desc := "(Ljava/lang/Object;)Z" }) ∈ lw_all := am_wa 3356 rfl rfl
theorem w_3357 : Cond.classLink "UmbrellaBank$Parser" (128 : Nat) "UmbrellaBank$Command" ∈ lw_all := am_wa 3357 rfl rfl
theorem w_3358 : Cond.methodLink "UmbrellaBank$Parser" (130 : Nat) ({ cls := "UmbrellaBank$Command", name := "<init>", desc := "(LUmbrellaBank;Ljava/lang/String;[I)V" }) ∈ lw_all := am_wa 3358 rfl rfl
theorem w_3359 : Cond.methodLink "UmbrellaBank$Parser" (133 : Nat) ({ cls := "UmbrellaBank$Parser", name := "number", desc := "(I)I" }) ∈ lw_all := am_wa 3359 rfl rfl
theorem v_3360 : Cond.privateMethod ({ cls := "UmbrellaBank$Parser", name := "number", desc := "(I)I" }) ∈ lw_tbl := am_wv 3360 rfl
theorem w_3361 : Cond.instanceMethod ({ cls := "UmbrellaBank$Parser", name := "number", desc := "(I)I" }) ∈ lw_all := am_wa 3361 rfl rfl
theorem w_3362 : Cond.code ({ cls := "UmbrellaBank$Parser", name := "number", desc := "(I)I" }) prog_17_method_7_code (2 : Nat) (Option.some FieldType.int) ∈ lw_all := am_wa 3362 rfl rfl
theorem w_3363 : Cond.methodLink "UmbrellaBank$Parser" (109 : Nat) ({ cls := "UmbrellaBank$Parser", name := "isAt", desc := "(C)Z" }) ∈ lw_all := am_wa 3363 rfl rfl
theorem v_3364 : Cond.privateMethod ({ cls := "UmbrellaBank$Parser", name := "isAt", desc := "(C)Z" }) ∈ lw_tbl := am_wv 3364 rfl
theorem w_3365 : Cond.instanceMethod ({ cls := "UmbrellaBank$Parser", name := "isAt", desc := "(C)Z" }) ∈ lw_all := am_wa 3365 rfl rfl
theorem w_3366 : Cond.code ({ cls := "UmbrellaBank$Parser", name := "isAt", desc := "(C)Z" }) prog_17_method_2_code (2 : Nat) (Option.some FieldType.boolean) ∈ lw_all := am_wa 3366 rfl rfl
theorem w_3367 : Cond.methodLink "UmbrellaBank$Parser" (113 : Nat) ({ cls := "UmbrellaBank$Parser", name := "digits", desc := "(I)I" }) ∈ lw_all := am_wa 3367 rfl rfl
theorem v_3368 : Cond.privateMethod ({ cls := "UmbrellaBank$Parser", name := "digits", desc := "(I)I" }) ∈ lw_tbl := am_wv 3368 rfl
theorem w_3369 : Cond.instanceMethod ({ cls := "UmbrellaBank$Parser", name := "digits", desc := "(I)I" }) ∈ lw_all := am_wa 3369 rfl rfl
theorem w_3370 : Cond.code ({ cls := "UmbrellaBank$Parser", name := "digits", desc := "(I)I" }) prog_17_method_6_code (4 : Nat) (Option.some FieldType.int) ∈ lw_all := am_wa 3370 rfl rfl
theorem w_3371 : Cond.methodLink "UmbrellaBank$Parser" (106 : Nat) ({ cls := "UmbrellaBank$Parser", name := "isDigit", desc := "()Z" }) ∈ lw_all := am_wa 3371 rfl rfl
theorem v_3372 : Cond.privateMethod ({ cls := "UmbrellaBank$Parser", name := "isDigit", desc := "()Z" }) ∈ lw_tbl := am_wv 3372 rfl
theorem w_3373 : Cond.instanceMethod ({ cls := "UmbrellaBank$Parser", name := "isDigit", desc := "()Z" }) ∈ lw_all := am_wa 3373 rfl rfl
theorem w_3374 : Cond.code ({ cls := "UmbrellaBank$Parser", name := "isDigit", desc := "()Z" }) prog_17_method_3_code (1 : Nat) (Option.some FieldType.boolean) ∈ lw_all := am_wa 3374 rfl rfl
theorem v_3375 : Cond.methodLinkNest "UmbrellaBank$Parser" (66 : Nat) ({ cls := "UmbrellaBank", name := "isBetween", desc := "(III)Z" }) "UmbrellaBank" ∈ lw_tbl := am_wv 3375 rfl
theorem w_3376 : Cond.methodLink "UmbrellaBank$Parser" (143 : Nat) ({ cls := "java/util/ArrayList", name := "add", desc := "(Ljava/lang/Object;)Z" }) ∈ lw_all := am_wa 3376 rfl rfl
theorem w_3377 : Cond.methodLink "UmbrellaBank" (423 : Nat) ({ cls := "UmbrellaBank$Script", name := "<init>", desc := "(LUmbrellaBank;Ljava/util/List;)V" }) ∈ lw_all := am_wa 3377 rfl rfl
theorem w_3378 : Cond.instanceMethod ({ cls := "UmbrellaBank$Script", name := "<init>", desc := "(LUmbrellaBank;Ljava/util/List;)V" }) ∈ lw_all := am_wa 3378 rfl rfl
theorem w_3379 : Cond.code ({ cls := "UmbrellaBank$Script", name := "<init>", desc := "(LUmbrellaBank;Ljava/util/List;)V" }) prog_18_method_1_code (3 : Nat) (Option.none : Option FieldType) ∈ lw_all := am_wa 3379 rfl rfl
theorem v_3380 : Cond.methodLinkNest "UmbrellaBank$Script" (7 : Nat) ({ cls := "UmbrellaBank$Change", name := "<init>", desc := "(LUmbrellaBank;)V" }) "UmbrellaBank" ∈ lw_tbl := am_wv 3380 rfl
theorem w_3381 : Cond.fieldLink "UmbrellaBank$Script" (13 : Nat) "UmbrellaBank$Script" "commands" "Ljava/util/List;" ∈ lw_all := am_wa 3381 rfl rfl
theorem w_3382 : Cond.fieldLink "UmbrellaBank$Script" (1 : Nat) "UmbrellaBank$Script" "this$0" "LUmbrellaBank;" ∈ lw_all := am_wa 3382 rfl rfl
theorem w_3388 : Cond.superclass "UmbrellaBank$Script" "UmbrellaBank$Change" ∈ lw_all := am_wa 3388 rfl rfl
theorem w_3389 : Cond.methodLink "UmbrellaBank" (426 : Nat) ({ cls := "UmbrellaBank$Script", name := "run", desc := "()I" }) ∈ lw_all := am_wa 3389 rfl rfl
theorem w_3390 : Cond.sameMethod "UmbrellaBank$Script" "UmbrellaBank$Change" "run" "()I" ∈ lw_all := am_wa 3390 rfl rfl
theorem w_3391 : Cond.selects "UmbrellaBank$Script" ({ cls := "UmbrellaBank$Script", name := "run", desc := "()I" }) ({ cls := "UmbrellaBank$Change", name := "run", desc := "()I" }) ∈ lw_all := am_wa 3391 rfl rfl
theorem w_3392 : Cond.methodLink "UmbrellaBankLaw" (347 : Nat) ({ cls := "UmbrellaBankLaw", name := "errorPosition", desc := "(LUmbrellaBank;[J)I" }) ∈ lw_all := am_wa 3392 rfl rfl
theorem w_3393 : Cond.static ({ cls := "UmbrellaBankLaw", name := "errorPosition", desc := "(LUmbrellaBank;[J)I" }) ∈ lw_all := am_wa 3393 rfl rfl
theorem w_3394 : Cond.codeWith ({ cls := "UmbrellaBankLaw", name := "errorPosition", desc := "(LUmbrellaBank;[J)I" }) method_37_code (3 : Nat) (Option.some FieldType.int) [((0 : Nat), (8 : Nat), (11 : Nat), (36 : Nat))] ∈ lw_all := am_wa 3394 rfl rfl
theorem w_3395 : Cond.methodLink "UmbrellaBankLaw" (132 : Nat) ({ cls := "UmbrellaBank", name := "errorPosition", desc := "()I" }) ∈ lw_all := am_wa 3395 rfl rfl
theorem w_3396 : Cond.instanceMethod ({ cls := "UmbrellaBank", name := "errorPosition", desc := "()I" }) ∈ lw_all := am_wa 3396 rfl rfl
theorem w_3397 : Cond.selects "UmbrellaBank" ({ cls := "UmbrellaBank", name := "errorPosition", desc := "()I" }) ({ cls := "UmbrellaBank", name := "errorPosition", desc := "()I" }) ∈ lw_all := am_wa 3397 rfl rfl
theorem w_3398 : Cond.code ({ cls := "UmbrellaBank", name := "errorPosition", desc := "()I" }) prog_1_method_70_code (1 : Nat) (Option.some FieldType.int) ∈ lw_all := am_wa 3398 rfl rfl
theorem w_3399 : Cond.methodLink "UmbrellaBankLaw" (350 : Nat) ({ cls := "UmbrellaBankLaw", name := "failedCommand", desc := "(LUmbrellaBank;[J)I" }) ∈ lw_all := am_wa 3399 rfl rfl
theorem w_3400 : Cond.static ({ cls := "UmbrellaBankLaw", name := "failedCommand", desc := "(LUmbrellaBank;[J)I" }) ∈ lw_all := am_wa 3400 rfl rfl
theorem w_3401 : Cond.codeWith ({ cls := "UmbrellaBankLaw", name := "failedCommand", desc := "(LUmbrellaBank;[J)I" }) method_38_code (3 : Nat) (Option.some FieldType.int) [((0 : Nat), (8 : Nat), (11 : Nat), (36 : Nat))] ∈ lw_all := am_wa 3401 rfl rfl
theorem w_3402 : Cond.methodLink "UmbrellaBankLaw" (135 : Nat) ({ cls := "UmbrellaBank", name := "failedCommand", desc := "()I" }) ∈ lw_all := am_wa 3402 rfl rfl
theorem w_3403 : Cond.instanceMethod ({ cls := "UmbrellaBank", name := "failedCommand", desc := "()I" }) ∈ lw_all := am_wa 3403 rfl rfl
theorem w_3404 : Cond.selects "UmbrellaBank" ({ cls := "UmbrellaBank", name := "failedCommand", desc := "()I" }) ({ cls := "UmbrellaBank", name := "failedCommand", desc := "()I" }) ∈ lw_all := am_wa 3404 rfl rfl
theorem w_3405 : Cond.code ({ cls := "UmbrellaBank", name := "failedCommand", desc := "()I" }) prog_1_method_71_code (1 : Nat) (Option.some FieldType.int) ∈ lw_all := am_wa 3405 rfl rfl
theorem w_3406 : Cond.methodLink "UmbrellaBankLaw" (353 : Nat) ({ cls := "UmbrellaBankLaw", name := "undo", desc := "(LUmbrellaBank;[J)I" }) ∈ lw_all := am_wa 3406 rfl rfl
theorem w_3407 : Cond.static ({ cls := "UmbrellaBankLaw", name := "undo", desc := "(LUmbrellaBank;[J)I" }) ∈ lw_all := am_wa 3407 rfl rfl
theorem w_3408 : Cond.codeWith ({ cls := "UmbrellaBankLaw", name := "undo", desc := "(LUmbrellaBank;[J)I" }) method_39_code (3 : Nat) (Option.some FieldType.int) [((0 : Nat), (8 : Nat), (11 : Nat), (13 : Nat))] ∈ lw_all := am_wa 3408 rfl rfl
theorem w_3409 : Cond.methodLink "UmbrellaBankLaw" (138 : Nat) ({ cls := "UmbrellaBank", name := "undo", desc := "()I" }) ∈ lw_all := am_wa 3409 rfl rfl
theorem w_3410 : Cond.instanceMethod ({ cls := "UmbrellaBank", name := "undo", desc := "()I" }) ∈ lw_all := am_wa 3410 rfl rfl
theorem w_3411 : Cond.selects "UmbrellaBank" ({ cls := "UmbrellaBank", name := "undo", desc := "()I" }) ({ cls := "UmbrellaBank", name := "undo", desc := "()I" }) ∈ lw_all := am_wa 3411 rfl rfl
theorem w_3412 : Cond.code ({ cls := "UmbrellaBank", name := "undo", desc := "()I" }) prog_1_method_72_code (1 : Nat) (Option.some FieldType.int) ∈ lw_all := am_wa 3412 rfl rfl
theorem w_3413 : Cond.methodLink "UmbrellaBank" (432 : Nat) ({ cls := "java/util/ArrayDeque", name := "isEmpty", desc := "()Z" }) ∈ lw_all := am_wa 3413 rfl rfl
theorem w_3414 : Cond.methodLink "UmbrellaBank" (435 : Nat) ({ cls := "java/util/ArrayDeque", name := "removeLast", desc := "()Ljava/lang/Object;" }) ∈ lw_all := am_wa 3414 rfl rfl
theorem w_3415 : Cond.instanceMethod ({ cls := "java/util/ArrayDeque", name := "removeLast", desc := "()Ljava/lang/Object;" }) ∈ lw_all := am_wa 3415 rfl rfl
theorem w_3416 : Cond.selects "java/util/ArrayDeque" ({ cls := "java/util/ArrayDeque", name := "removeLast", desc := "()Ljava/lang/Object;" }) ({ cls := "java/util/ArrayDeque", name := "removeLast", desc := "()Ljava/lang/Object;" }) ∈ lw_all := am_wa 3416 rfl rfl
theorem w_3417 : Cond.code ({ cls := "java/util/ArrayDeque", name := "removeLast", desc := "()Ljava/lang/Object;" }) prog_61_method_19_code (2 : Nat) (Option.some (FieldType.object "java/lang/Object")) ∈ lw_all := am_wa 3417 rfl rfl
theorem w_3418 : Cond.methodLink "java/util/ArrayDeque" (100 : Nat) ({ cls := "java/util/ArrayDeque", name := "pollLast", desc := "()Ljava/lang/Object;" }) ∈ lw_all := am_wa 3418 rfl rfl
theorem w_3419 : Cond.instanceMethod ({ cls := "java/util/ArrayDeque", name := "pollLast", desc := "()Ljava/lang/Object;" }) ∈ lw_all := am_wa 3419 rfl rfl
theorem w_3420 : Cond.selects "java/util/ArrayDeque" ({ cls := "java/util/ArrayDeque", name := "pollLast", desc := "()Ljava/lang/Object;" }) ({ cls := "java/util/ArrayDeque", name := "pollLast", desc := "()Ljava/lang/Object;" }) ∈ lw_all := am_wa 3420 rfl rfl
theorem w_3421 : Cond.code ({ cls := "java/util/ArrayDeque", name := "pollLast", desc := "()Ljava/lang/Object;" }) prog_61_method_21_code (4 : Nat) (Option.some (FieldType.object "java/lang/Object")) ∈ lw_all := am_wa 3421 rfl rfl
theorem w_3422 : Cond.methodLink "UmbrellaBank" (438 : Nat) ({ cls := "java/util/ArrayDeque", name := "size", desc := "()I" }) ∈ lw_all := am_wa 3422 rfl rfl
theorem w_3423 : Cond.methodLink "UmbrellaBankLaw" (360 : Nat) ({ cls := "UmbrellaBankLaw", name := "restore", desc := "(LUmbrellaBank;[J)I" }) ∈ lw_all := am_wa 3423 rfl rfl
theorem w_3424 : Cond.static ({ cls := "UmbrellaBankLaw", name := "restore", desc := "(LUmbrellaBank;[J)I" }) ∈ lw_all := am_wa 3424 rfl rfl
theorem w_3425 : Cond.codeWith ({ cls := "UmbrellaBankLaw", name := "restore", desc := "(LUmbrellaBank;[J)I" }) method_40_code (3 : Nat) (Option.some FieldType.int) [((0 : Nat), (8 : Nat), (11 : Nat), (13 : Nat))] ∈ lw_all := am_wa 3425 rfl rfl
theorem w_3426 : Cond.methodLink "UmbrellaBankLaw" (141 : Nat) ({ cls := "UmbrellaBank", name := "restore", desc := "()I" }) ∈ lw_all := am_wa 3426 rfl rfl
theorem w_3427 : Cond.instanceMethod ({ cls := "UmbrellaBank", name := "restore", desc := "()I" }) ∈ lw_all := am_wa 3427 rfl rfl
theorem w_3428 : Cond.selects "UmbrellaBank" ({ cls := "UmbrellaBank", name := "restore", desc := "()I" }) ({ cls := "UmbrellaBank", name := "restore", desc := "()I" }) ∈ lw_all := am_wa 3428 rfl rfl
theorem w_3429 : Cond.code ({ cls := "UmbrellaBank", name := "restore", desc := "()I" }) prog_1_method_74_code (1 : Nat) (Option.some FieldType.int) ∈ lw_all := am_wa 3429 rfl rfl
theorem w_3430 : Cond.methodLink "UmbrellaBank" (442 : Nat) ({ cls := "java/util/ArrayDeque", name := "clear", desc := "()V" }) ∈ lw_all := am_wa 3430 rfl rfl
theorem w_3431 : Cond.instanceMethod ({ cls := "java/util/ArrayDeque", name := "clear", desc := "()V" }) ∈ lw_all := am_wa 3431 rfl rfl
theorem w_3432 : Cond.selects "java/util/ArrayDeque" ({ cls := "java/util/ArrayDeque", name := "clear", desc := "()V" }) ({ cls := "java/util/ArrayDeque", name := "clear", desc := "()V" }) ∈ lw_all := am_wa 3432 rfl rfl
theorem w_3433 : Cond.code ({ cls := "java/util/ArrayDeque", name := "clear", desc := "()V" }) prog_61_method_53_code (1 : Nat) (Option.none : Option FieldType) ∈ lw_all := am_wa 3433 rfl rfl
theorem w_3434 : Cond.methodLink "java/util/ArrayDeque" (181 : Nat) ({ cls := "java/util/ArrayDeque", name := "circularClear", desc := "([Ljava/lang/Object;II)V" }) ∈ lw_all := am_wa 3434 rfl rfl
theorem w_3435 : Cond.static ({ cls := "java/util/ArrayDeque", name := "circularClear", desc := "([Ljava/lang/Object;II)V" }) ∈ lw_all := am_wa 3435 rfl rfl
theorem w_3436 : Cond.code ({ cls := "java/util/ArrayDeque", name := "circularClear", desc := "([Ljava/lang/Object;II)V" }) prog_61_method_54_code (4 : Nat) (Option.none : Option FieldType) ∈ lw_all := am_wa 3436 rfl rfl
theorem w_3437 : Cond.methodLink "UmbrellaBankLaw" (154 : Nat) ({ cls := "UmbrellaBankModel", name := "thrown", desc := "()I" }) ∈ lw_all := am_wa 3437 rfl rfl
theorem w_3438 : Cond.instanceMethod ({ cls := "UmbrellaBankModel", name := "thrown", desc := "()I" }) ∈ lw_all := am_wa 3438 rfl rfl
theorem w_3439 : Cond.selects "UmbrellaBankModel" ({ cls := "UmbrellaBankModel", name := "thrown", desc := "()I" }) ({ cls := "UmbrellaBankModel", name := "thrown", desc := "()I" }) ∈ lw_all := am_wa 3439 rfl rfl
theorem w_3440 : Cond.code ({ cls := "UmbrellaBankModel", name := "thrown", desc := "()I" }) prog_25_method_1_code (1 : Nat) (Option.some FieldType.int) ∈ lw_all := am_wa 3440 rfl rfl
theorem w_3441 : Cond.classLink "UmbrellaBankLaw" (145 : Nat) "UmbrellaBankModel" ∈ lw_all := am_wa 3441 rfl rfl
theorem w_3442 : Cond.instantiable "UmbrellaBankModel" (20 : Nat) ∈ lw_all := am_wa 3442 rfl rfl
theorem w_3443 : Cond.methodLink "UmbrellaBankLaw" (147 : Nat) ({ cls := "UmbrellaBankModel", name := "<init>", desc := "()V" }) ∈ lw_all := am_wa 3443 rfl rfl
theorem w_3444 : Cond.instanceMethod ({ cls := "UmbrellaBankModel", name := "<init>", desc := "()V" }) ∈ lw_all := am_wa 3444 rfl rfl
theorem w_3445 : Cond.code ({ cls := "UmbrellaBankModel", name := "<init>", desc := "()V" }) prog_25_method_5_code (1 : Nat) (Option.none : Option FieldType) ∈ lw_all := am_wa 3445 rfl rfl
theorem w_3446 : Cond.methodLink "UmbrellaBankModel" (7 : Nat) ({ cls := "java/lang/Object", name := "<init>", desc := "()V" }) ∈ lw_all := am_wa 3446 rfl rfl
theorem w_3447 : Cond.fieldLink "UmbrellaBankModel" (1 : Nat) "UmbrellaBankModel" "thrown" "I" ∈ lw_all := am_wa 3447 rfl rfl
theorem w_3448 : Cond.fieldLink "UmbrellaBankModel" (13 : Nat) "UmbrellaBankModel" "w" "[I" ∈ lw_all := am_wa 3448 rfl rfl
theorem w_3449 : Cond.fieldLink "UmbrellaBankModel" (17 : Nat) "UmbrellaBankModel" "undos" "[I" ∈ lw_all := am_wa 3449 rfl rfl
theorem w_3450 : Cond.fieldLink "UmbrellaBankModel" (20 : Nat) "UmbrellaBankModel" "savedRow" "[I" ∈ lw_all := am_wa 3450 rfl rfl
theorem w_3451 : Cond.fieldLink "UmbrellaBankModel" (23 : Nat) "UmbrellaBankModel" "before" "[I" ∈ lw_all := am_wa 3451 rfl rfl
theorem w_3452 : Cond.fieldLink "UmbrellaBankModel" (48 : Nat) "UmbrellaBankModel" "changes" "I" ∈ lw_all := am_wa 3452 rfl rfl
theorem w_3453 : Cond.fieldLink "UmbrellaBankModel" (51 : Nat) "UmbrellaBankModel" "firstChange" "I" ∈ lw_all := am_wa 3453 rfl rfl
theorem w_3454 : Cond.fieldLink "UmbrellaBankModel" (283 : Nat) "UmbrellaBankModel" "isSaved" "Z" ∈ lw_all := am_wa 3454 rfl rfl
theorem w_3455 : Cond.fieldLink "UmbrellaBankModel" (26 : Nat) "UmbrellaBankModel" "held" "[I" ∈ lw_all := am_wa 3455 rfl rfl
theorem w_3456 : Cond.fieldLink "UmbrellaBankModel" (29 : Nat) "UmbrellaBankModel" "nets" "[I" ∈ lw_all := am_wa 3456 rfl rfl
theorem w_3457 : Cond.fieldLink "UmbrellaBankModel" (32 : Nat) "UmbrellaBankModel" "line" "[C" ∈ lw_all := am_wa 3457 rfl rfl
theorem w_3458 : Cond.fieldLink "UmbrellaBankModel" (216 : Nat) "UmbrellaBankModel" "lineLength" "I" ∈ lw_all := am_wa 3458 rfl rfl
theorem w_3459 : Cond.fieldLink "UmbrellaBankModel" (36 : Nat) "UmbrellaBankModel" "text" "[C" ∈ lw_all := am_wa 3459 rfl rfl
theorem w_3460 : Cond.fieldLink "UmbrellaBankModel" (225 : Nat) "UmbrellaBankModel" "textLength" "I" ∈ lw_all := am_wa 3460 rfl rfl
theorem w_3461 : Cond.fieldLink "UmbrellaBankModel" (228 : Nat) "UmbrellaBankModel" "textAt" "I" ∈ lw_all := am_wa 3461 rfl rfl
theorem w_3462 : Cond.fieldLink "UmbrellaBankModel" (39 : Nat) "UmbrellaBankModel" "errorAt" "I" ∈ lw_all := am_wa 3462 rfl rfl
theorem w_3463 : Cond.fieldLink "UmbrellaBankModel" (42 : Nat) "UmbrellaBankModel" "failedAt" "I" ∈ lw_all := am_wa 3463 rfl rfl
theorem w_3464 : Cond.fieldLink "UmbrellaBankModel" (45 : Nat) "UmbrellaBankModel" "numbers" "[I" ∈ lw_all := am_wa 3464 rfl rfl
theorem w_3465 : Cond.fieldLink "UmbrellaBankModel" (247 : Nat) "UmbrellaBankModel" "sort" "I" ∈ lw_all := am_wa 3465 rfl rfl
theorem w_3466 : Cond.fieldLink "UmbrellaBankModel" (265 : Nat) "UmbrellaBankModel" "done" "I" ∈ lw_all := am_wa 3466 rfl rfl
theorem w_3507 : Cond.superclass "UmbrellaBankModel" "java/lang/Object" ∈ lw_all := am_wa 3507 rfl rfl
theorem w_3508 : Cond.methodLink "UmbrellaBankLaw" (153 : Nat) ({ cls := "UmbrellaBankModel", name := "join", desc := "()I" }) ∈ lw_all := am_wa 3508 rfl rfl
theorem w_3509 : Cond.instanceMethod ({ cls := "UmbrellaBankModel", name := "join", desc := "()I" }) ∈ lw_all := am_wa 3509 rfl rfl
theorem w_3510 : Cond.selects "UmbrellaBankModel" ({ cls := "UmbrellaBankModel", name := "join", desc := "()I" }) ({ cls := "UmbrellaBankModel", name := "join", desc := "()I" }) ∈ lw_all := am_wa 3510 rfl rfl
theorem w_3511 : Cond.code ({ cls := "UmbrellaBankModel", name := "join", desc := "()I" }) prog_25_method_19_code (1 : Nat) (Option.some FieldType.int) ∈ lw_all := am_wa 3511 rfl rfl
theorem w_3512 : Cond.methodLink "UmbrellaBankModel" (68 : Nat) ({ cls := "UmbrellaBankModel", name := "notJoin", desc := "()I" }) ∈ lw_all := am_wa 3512 rfl rfl
theorem v_3513 : Cond.privateMethod ({ cls := "UmbrellaBankModel", name := "notJoin", desc := "()I" }) ∈ lw_tbl := am_wv 3513 rfl
theorem w_3514 : Cond.instanceMethod ({ cls := "UmbrellaBankModel", name := "notJoin", desc := "()I" }) ∈ lw_all := am_wa 3514 rfl rfl
theorem w_3515 : Cond.code ({ cls := "UmbrellaBankModel", name := "notJoin", desc := "()I" }) prog_25_method_17_code (1 : Nat) (Option.some FieldType.int) ∈ lw_all := am_wa 3515 rfl rfl
theorem w_3516 : Cond.methodLink "UmbrellaBankModel" (72 : Nat) ({ cls := "UmbrellaBankModel", name := "fails", desc := "(I)I" }) ∈ lw_all := am_wa 3516 rfl rfl
theorem v_3517 : Cond.privateMethod ({ cls := "UmbrellaBankModel", name := "fails", desc := "(I)I" }) ∈ lw_tbl := am_wv 3517 rfl
theorem w_3518 : Cond.instanceMethod ({ cls := "UmbrellaBankModel", name := "fails", desc := "(I)I" }) ∈ lw_all := am_wa 3518 rfl rfl
theorem w_3519 : Cond.code ({ cls := "UmbrellaBankModel", name := "fails", desc := "(I)I" }) prog_25_method_2_code (2 : Nat) (Option.some FieldType.int) ∈ lw_all := am_wa 3519 rfl rfl
theorem w_3520 : Cond.methodLink "UmbrellaBankModel" (76 : Nat) ({ cls := "UmbrellaBankModel", name := "remembers", desc := "()V" }) ∈ lw_all := am_wa 3520 rfl rfl
theorem v_3521 : Cond.privateMethod ({ cls := "UmbrellaBankModel", name := "remembers", desc := "()V" }) ∈ lw_tbl := am_wv 3521 rfl
theorem w_3522 : Cond.instanceMethod ({ cls := "UmbrellaBankModel", name := "remembers", desc := "()V" }) ∈ lw_all := am_wa 3522 rfl rfl
theorem w_3523 : Cond.code ({ cls := "UmbrellaBankModel", name := "remembers", desc := "()V" }) prog_25_method_9_code (1 : Nat) (Option.none : Option FieldType) ∈ lw_all := am_wa 3523 rfl rfl
theorem w_3524 : Cond.methodLink "UmbrellaBankModel" (54 : Nat) ({ cls := "UmbrellaBankModel", name := "copies", desc := "()V" }) ∈ lw_all := am_wa 3524 rfl rfl
theorem v_3525 : Cond.privateMethod ({ cls := "UmbrellaBankModel", name := "copies", desc := "()V" }) ∈ lw_tbl := am_wv 3525 rfl
theorem w_3526 : Cond.instanceMethod ({ cls := "UmbrellaBankModel", name := "copies", desc := "()V" }) ∈ lw_all := am_wa 3526 rfl rfl
theorem w_3527 : Cond.code ({ cls := "UmbrellaBankModel", name := "copies", desc := "()V" }) prog_25_method_6_code (2 : Nat) (Option.none : Option FieldType) ∈ lw_all := am_wa 3527 rfl rfl
theorem w_3528 : Cond.methodLink "UmbrellaBankModel" (57 : Nat) ({ cls := "UmbrellaBankModel", name := "keeps", desc := "()V" }) ∈ lw_all := am_wa 3528 rfl rfl
theorem v_3529 : Cond.privateMethod ({ cls := "UmbrellaBankModel", name := "keeps", desc := "()V" }) ∈ lw_tbl := am_wv 3529 rfl
theorem w_3530 : Cond.instanceMethod ({ cls := "UmbrellaBankModel", name := "keeps", desc := "()V" }) ∈ lw_all := am_wa 3530 rfl rfl
theorem w_3531 : Cond.code ({ cls := "UmbrellaBankModel", name := "keeps", desc := "()V" }) prog_25_method_8_code (3 : Nat) (Option.none : Option FieldType) ∈ lw_all := am_wa 3531 rfl rfl
theorem w_3532 : Cond.methodLink "UmbrellaBankModel" (79 : Nat) ({ cls := "UmbrellaBankModel", name := "joins", desc := "()I" }) ∈ lw_all := am_wa 3532 rfl rfl
theorem v_3533 : Cond.privateMethod ({ cls := "UmbrellaBankModel", name := "joins", desc := "()I" }) ∈ lw_tbl := am_wv 3533 rfl
theorem w_3534 : Cond.instanceMethod ({ cls := "UmbrellaBankModel", name := "joins", desc := "()I" }) ∈ lw_all := am_wa 3534 rfl rfl
theorem w_3535 : Cond.code ({ cls := "UmbrellaBankModel", name := "joins", desc := "()I" }) prog_25_method_18_code (1 : Nat) (Option.some FieldType.int) ∈ lw_all := am_wa 3535 rfl rfl
theorem w_3536 : Cond.methodLink "UmbrellaBankLaw" (160 : Nat) ({ cls := "UmbrellaBankModel", name := "deposit", desc := "(II)I" }) ∈ lw_all := am_wa 3536 rfl rfl
theorem w_3537 : Cond.instanceMethod ({ cls := "UmbrellaBankModel", name := "deposit", desc := "(II)I" }) ∈ lw_all := am_wa 3537 rfl rfl
theorem w_3538 : Cond.selects "UmbrellaBankModel" ({ cls := "UmbrellaBankModel", name := "deposit", desc := "(II)I" }) ({ cls := "UmbrellaBankModel", name := "deposit", desc := "(II)I" }) ∈ lw_all := am_wa 3538 rfl rfl
theorem w_3539 : Cond.code ({ cls := "UmbrellaBankModel", name := "deposit", desc := "(II)I" }) prog_25_method_22_code (4 : Nat) (Option.some FieldType.int) ∈ lw_all := am_wa 3539 rfl rfl
theorem w_3540 : Cond.methodLink "UmbrellaBankModel" (86 : Nat) ({ cls := "UmbrellaBankModel", name := "notDeposit", desc := "(II)I" }) ∈ lw_all := am_wa 3540 rfl rfl
theorem v_3541 : Cond.privateMethod ({ cls := "UmbrellaBankModel", name := "notDeposit", desc := "(II)I" }) ∈ lw_tbl := am_wv 3541 rfl
theorem w_3542 : Cond.instanceMethod ({ cls := "UmbrellaBankModel", name := "notDeposit", desc := "(II)I" }) ∈ lw_all := am_wa 3542 rfl rfl
theorem w_3543 : Cond.code ({ cls := "UmbrellaBankModel", name := "notDeposit", desc := "(II)I" }) prog_25_method_20_code (3 : Nat) (Option.some FieldType.int) ∈ lw_all := am_wa 3543 rfl rfl
theorem w_3544 : Cond.methodLink "UmbrellaBankModel" (82 : Nat) ({ cls := "UmbrellaBankModel", name := "isOwner", desc := "(I)Z" }) ∈ lw_all := am_wa 3544 rfl rfl
theorem v_3545 : Cond.privateMethod ({ cls := "UmbrellaBankModel", name := "isOwner", desc := "(I)Z" }) ∈ lw_tbl := am_wv 3545 rfl
theorem w_3546 : Cond.instanceMethod ({ cls := "UmbrellaBankModel", name := "isOwner", desc := "(I)Z" }) ∈ lw_all := am_wa 3546 rfl rfl
theorem w_3547 : Cond.code ({ cls := "UmbrellaBankModel", name := "isOwner", desc := "(I)Z" }) prog_25_method_10_code (2 : Nat) (Option.some FieldType.boolean) ∈ lw_all := am_wa 3547 rfl rfl
theorem w_3548 : Cond.methodLink "UmbrellaBankModel" (60 : Nat) ({ cls := "UmbrellaBankModel", name := "isBetween", desc := "(III)Z" }) ∈ lw_all := am_wa 3548 rfl rfl
theorem w_3549 : Cond.static ({ cls := "UmbrellaBankModel", name := "isBetween", desc := "(III)Z" }) ∈ lw_all := am_wa 3549 rfl rfl
theorem w_3550 : Cond.code ({ cls := "UmbrellaBankModel", name := "isBetween", desc := "(III)Z" }) prog_25_method_3_code (3 : Nat) (Option.some FieldType.boolean) ∈ lw_all := am_wa 3550 rfl rfl
theorem w_3551 : Cond.methodLink "UmbrellaBankModel" (89 : Nat) ({ cls := "UmbrellaBankModel", name := "adds", desc := "(II)I" }) ∈ lw_all := am_wa 3551 rfl rfl
theorem v_3552 : Cond.privateMethod ({ cls := "UmbrellaBankModel", name := "adds", desc := "(II)I" }) ∈ lw_tbl := am_wv 3552 rfl
theorem w_3553 : Cond.instanceMethod ({ cls := "UmbrellaBankModel", name := "adds", desc := "(II)I" }) ∈ lw_all := am_wa 3553 rfl rfl
theorem w_3554 : Cond.code ({ cls := "UmbrellaBankModel", name := "adds", desc := "(II)I" }) prog_25_method_21_code (3 : Nat) (Option.some FieldType.int) ∈ lw_all := am_wa 3554 rfl rfl
theorem w_3555 : Cond.methodLink "UmbrellaBankLaw" (163 : Nat) ({ cls := "UmbrellaBankModel", name := "withdraw", desc := "(II)I" }) ∈ lw_all := am_wa 3555 rfl rfl
theorem w_3556 : Cond.instanceMethod ({ cls := "UmbrellaBankModel", name := "withdraw", desc := "(II)I" }) ∈ lw_all := am_wa 3556 rfl rfl
theorem w_3557 : Cond.selects "UmbrellaBankModel" ({ cls := "UmbrellaBankModel", name := "withdraw", desc := "(II)I" }) ({ cls := "UmbrellaBankModel", name := "withdraw", desc := "(II)I" }) ∈ lw_all := am_wa 3557 rfl rfl
theorem w_3558 : Cond.code ({ cls := "UmbrellaBankModel", name := "withdraw", desc := "(II)I" }) prog_25_method_24_code (4 : Nat) (Option.some FieldType.int) ∈ lw_all := am_wa 3558 rfl rfl
theorem w_3559 : Cond.methodLink "UmbrellaBankModel" (95 : Nat) ({ cls := "UmbrellaBankModel", name := "notWithdraw", desc := "(II)I" }) ∈ lw_all := am_wa 3559 rfl rfl
theorem v_3560 : Cond.privateMethod ({ cls := "UmbrellaBankModel", name := "notWithdraw", desc := "(II)I" }) ∈ lw_tbl := am_wv 3560 rfl
theorem w_3561 : Cond.instanceMethod ({ cls := "UmbrellaBankModel", name := "notWithdraw", desc := "(II)I" }) ∈ lw_all := am_wa 3561 rfl rfl
theorem w_3562 : Cond.code ({ cls := "UmbrellaBankModel", name := "notWithdraw", desc := "(II)I" }) prog_25_method_23_code (3 : Nat) (Option.some FieldType.int) ∈ lw_all := am_wa 3562 rfl rfl
theorem w_3563 : Cond.methodLink "UmbrellaBankModel" (92 : Nat) ({ cls := "UmbrellaBankModel", name := "deposits", desc := "()I" }) ∈ lw_all := am_wa 3563 rfl rfl
theorem v_3564 : Cond.privateMethod ({ cls := "UmbrellaBankModel", name := "deposits", desc := "()I" }) ∈ lw_tbl := am_wv 3564 rfl
theorem w_3565 : Cond.instanceMethod ({ cls := "UmbrellaBankModel", name := "deposits", desc := "()I" }) ∈ lw_all := am_wa 3565 rfl rfl
theorem w_3566 : Cond.code ({ cls := "UmbrellaBankModel", name := "deposits", desc := "()I" }) prog_25_method_11_code (3 : Nat) (Option.some FieldType.int) ∈ lw_all := am_wa 3566 rfl rfl
theorem w_3567 : Cond.methodLink "UmbrellaBankLaw" (167 : Nat) ({ cls := "UmbrellaBankModel", name := "lend", desc := "(III)I" }) ∈ lw_all := am_wa 3567 rfl rfl
theorem w_3568 : Cond.instanceMethod ({ cls := "UmbrellaBankModel", name := "lend", desc := "(III)I" }) ∈ lw_all := am_wa 3568 rfl rfl
theorem w_3569 : Cond.selects "UmbrellaBankModel" ({ cls := "UmbrellaBankModel", name := "lend", desc := "(III)I" }) ({ cls := "UmbrellaBankModel", name := "lend", desc := "(III)I" }) ∈ lw_all := am_wa 3569 rfl rfl
theorem w_3570 : Cond.code ({ cls := "UmbrellaBankModel", name := "lend", desc := "(III)I" }) prog_25_method_27_code (5 : Nat) (Option.some FieldType.int) ∈ lw_all := am_wa 3570 rfl rfl
theorem w_3571 : Cond.methodLink "UmbrellaBankModel" (102 : Nat) ({ cls := "UmbrellaBankModel", name := "notLend", desc := "(III)I" }) ∈ lw_all := am_wa 3571 rfl rfl
theorem v_3572 : Cond.privateMethod ({ cls := "UmbrellaBankModel", name := "notLend", desc := "(III)I" }) ∈ lw_tbl := am_wv 3572 rfl
theorem w_3573 : Cond.instanceMethod ({ cls := "UmbrellaBankModel", name := "notLend", desc := "(III)I" }) ∈ lw_all := am_wa 3573 rfl rfl
theorem w_3574 : Cond.code ({ cls := "UmbrellaBankModel", name := "notLend", desc := "(III)I" }) prog_25_method_25_code (4 : Nat) (Option.some FieldType.int) ∈ lw_all := am_wa 3574 rfl rfl
theorem w_3575 : Cond.methodLink "UmbrellaBankModel" (106 : Nat) ({ cls := "UmbrellaBankModel", name := "lends", desc := "(III)I" }) ∈ lw_all := am_wa 3575 rfl rfl
theorem v_3576 : Cond.privateMethod ({ cls := "UmbrellaBankModel", name := "lends", desc := "(III)I" }) ∈ lw_tbl := am_wv 3576 rfl
theorem w_3577 : Cond.instanceMethod ({ cls := "UmbrellaBankModel", name := "lends", desc := "(III)I" }) ∈ lw_all := am_wa 3577 rfl rfl
theorem w_3578 : Cond.code ({ cls := "UmbrellaBankModel", name := "lends", desc := "(III)I" }) prog_25_method_26_code (5 : Nat) (Option.some FieldType.int) ∈ lw_all := am_wa 3578 rfl rfl
theorem w_3579 : Cond.methodLink "UmbrellaBankModel" (98 : Nat) ({ cls := "UmbrellaBankModel", name := "puts", desc := "(III)V" }) ∈ lw_all := am_wa 3579 rfl rfl
theorem v_3580 : Cond.privateMethod ({ cls := "UmbrellaBankModel", name := "puts", desc := "(III)V" }) ∈ lw_tbl := am_wv 3580 rfl
theorem w_3581 : Cond.instanceMethod ({ cls := "UmbrellaBankModel", name := "puts", desc := "(III)V" }) ∈ lw_all := am_wa 3581 rfl rfl
theorem w_3582 : Cond.code ({ cls := "UmbrellaBankModel", name := "puts", desc := "(III)V" }) prog_25_method_13_code (4 : Nat) (Option.none : Option FieldType) ∈ lw_all := am_wa 3582 rfl rfl
theorem w_3583 : Cond.methodLink "UmbrellaBankLaw" (171 : Nat) ({ cls := "UmbrellaBankModel", name := "giveBack", desc := "(I)I" }) ∈ lw_all := am_wa 3583 rfl rfl
theorem w_3584 : Cond.instanceMethod ({ cls := "UmbrellaBankModel", name := "giveBack", desc := "(I)I" }) ∈ lw_all := am_wa 3584 rfl rfl
theorem w_3585 : Cond.selects "UmbrellaBankModel" ({ cls := "UmbrellaBankModel", name := "giveBack", desc := "(I)I" }) ({ cls := "UmbrellaBankModel", name := "giveBack", desc := "(I)I" }) ∈ lw_all := am_wa 3585 rfl rfl
theorem w_3586 : Cond.code ({ cls := "UmbrellaBankModel", name := "giveBack", desc := "(I)I" }) prog_25_method_30_code (2 : Nat) (Option.some FieldType.int) ∈ lw_all := am_wa 3586 rfl rfl
theorem w_3587 : Cond.methodLink "UmbrellaBankModel" (116 : Nat) ({ cls := "UmbrellaBankModel", name := "notBack", desc := "(I)I" }) ∈ lw_all := am_wa 3587 rfl rfl
theorem v_3588 : Cond.privateMethod ({ cls := "UmbrellaBankModel", name := "notBack", desc := "(I)I" }) ∈ lw_tbl := am_wv 3588 rfl
theorem w_3589 : Cond.instanceMethod ({ cls := "UmbrellaBankModel", name := "notBack", desc := "(I)I" }) ∈ lw_all := am_wa 3589 rfl rfl
theorem w_3590 : Cond.code ({ cls := "UmbrellaBankModel", name := "notBack", desc := "(I)I" }) prog_25_method_28_code (2 : Nat) (Option.some FieldType.int) ∈ lw_all := am_wa 3590 rfl rfl
theorem w_3591 : Cond.methodLink "UmbrellaBankModel" (109 : Nat) ({ cls := "UmbrellaBankModel", name := "place", desc := "(I)I" }) ∈ lw_all := am_wa 3591 rfl rfl
theorem v_3592 : Cond.privateMethod ({ cls := "UmbrellaBankModel", name := "place", desc := "(I)I" }) ∈ lw_tbl := am_wv 3592 rfl
theorem w_3593 : Cond.instanceMethod ({ cls := "UmbrellaBankModel", name := "place", desc := "(I)I" }) ∈ lw_all := am_wa 3593 rfl rfl
theorem w_3594 : Cond.code ({ cls := "UmbrellaBankModel", name := "place", desc := "(I)I" }) prog_25_method_14_code (3 : Nat) (Option.some FieldType.int) ∈ lw_all := am_wa 3594 rfl rfl
theorem w_3595 : Cond.methodLink "UmbrellaBankModel" (64 : Nat) ({ cls := "UmbrellaBankModel", name := "loan", desc := "(II)I" }) ∈ lw_all := am_wa 3595 rfl rfl
theorem v_3596 : Cond.privateMethod ({ cls := "UmbrellaBankModel", name := "loan", desc := "(II)I" }) ∈ lw_tbl := am_wv 3596 rfl
theorem w_3597 : Cond.instanceMethod ({ cls := "UmbrellaBankModel", name := "loan", desc := "(II)I" }) ∈ lw_all := am_wa 3597 rfl rfl
theorem w_3598 : Cond.code ({ cls := "UmbrellaBankModel", name := "loan", desc := "(II)I" }) prog_25_method_12_code (3 : Nat) (Option.some FieldType.int) ∈ lw_all := am_wa 3598 rfl rfl
theorem w_3599 : Cond.methodLink "UmbrellaBankModel" (119 : Nat) ({ cls := "UmbrellaBankModel", name := "givesBack", desc := "(I)I" }) ∈ lw_all := am_wa 3599 rfl rfl
theorem v_3600 : Cond.privateMethod ({ cls := "UmbrellaBankModel", name := "givesBack", desc := "(I)I" }) ∈ lw_tbl := am_wv 3600 rfl
theorem w_3601 : Cond.instanceMethod ({ cls := "UmbrellaBankModel", name := "givesBack", desc := "(I)I" }) ∈ lw_all := am_wa 3601 rfl rfl
theorem w_3602 : Cond.code ({ cls := "UmbrellaBankModel", name := "givesBack", desc := "(I)I" }) prog_25_method_29_code (4 : Nat) (Option.some FieldType.int) ∈ lw_all := am_wa 3602 rfl rfl
theorem w_3603 : Cond.methodLink "UmbrellaBankModel" (112 : Nat) ({ cls := "UmbrellaBankModel", name := "closes", desc := "(I)V" }) ∈ lw_all := am_wa 3603 rfl rfl
theorem v_3604 : Cond.privateMethod ({ cls := "UmbrellaBankModel", name := "closes", desc := "(I)V" }) ∈ lw_tbl := am_wv 3604 rfl
theorem w_3605 : Cond.instanceMethod ({ cls := "UmbrellaBankModel", name := "closes", desc := "(I)V" }) ∈ lw_all := am_wa 3605 rfl rfl
theorem w_3606 : Cond.code ({ cls := "UmbrellaBankModel", name := "closes", desc := "(I)V" }) prog_25_method_15_code (4 : Nat) (Option.none : Option FieldType) ∈ lw_all := am_wa 3606 rfl rfl
theorem w_3607 : Cond.methodLink "UmbrellaBankLaw" (174 : Nat) ({ cls := "UmbrellaBankModel", name := "callIn", desc := "(I)I" }) ∈ lw_all := am_wa 3607 rfl rfl
theorem w_3608 : Cond.instanceMethod ({ cls := "UmbrellaBankModel", name := "callIn", desc := "(I)I" }) ∈ lw_all := am_wa 3608 rfl rfl
theorem w_3609 : Cond.selects "UmbrellaBankModel" ({ cls := "UmbrellaBankModel", name := "callIn", desc := "(I)I" }) ({ cls := "UmbrellaBankModel", name := "callIn", desc := "(I)I" }) ∈ lw_all := am_wa 3609 rfl rfl
theorem w_3610 : Cond.code ({ cls := "UmbrellaBankModel", name := "callIn", desc := "(I)I" }) prog_25_method_36_code (3 : Nat) (Option.some FieldType.int) ∈ lw_all := am_wa 3610 rfl rfl
theorem w_3611 : Cond.methodLink "UmbrellaBankModel" (132 : Nat) ({ cls := "UmbrellaBankModel", name := "notCall", desc := "(I)I" }) ∈ lw_all := am_wa 3611 rfl rfl
theorem v_3612 : Cond.privateMethod ({ cls := "UmbrellaBankModel", name := "notCall", desc := "(I)I" }) ∈ lw_tbl := am_wv 3612 rfl
theorem w_3613 : Cond.instanceMethod ({ cls := "UmbrellaBankModel", name := "notCall", desc := "(I)I" }) ∈ lw_all := am_wa 3613 rfl rfl
theorem w_3614 : Cond.code ({ cls := "UmbrellaBankModel", name := "notCall", desc := "(I)I" }) prog_25_method_34_code (2 : Nat) (Option.some FieldType.int) ∈ lw_all := am_wa 3614 rfl rfl
theorem w_3615 : Cond.methodLink "UmbrellaBankModel" (129 : Nat) ({ cls := "UmbrellaBankModel", name := "bestSet", desc := "(I)I" }) ∈ lw_all := am_wa 3615 rfl rfl
theorem v_3616 : Cond.privateMethod ({ cls := "UmbrellaBankModel", name := "bestSet", desc := "(I)I" }) ∈ lw_tbl := am_wv 3616 rfl
theorem w_3617 : Cond.instanceMethod ({ cls := "UmbrellaBankModel", name := "bestSet", desc := "(I)I" }) ∈ lw_all := am_wa 3617 rfl rfl
theorem w_3618 : Cond.code ({ cls := "UmbrellaBankModel", name := "bestSet", desc := "(I)I" }) prog_25_method_33_code (4 : Nat) (Option.some FieldType.int) ∈ lw_all := am_wa 3618 rfl rfl
theorem w_3619 : Cond.methodLink "UmbrellaBankModel" (122 : Nat) ({ cls := "UmbrellaBankModel", name := "inSet", desc := "(II)I" }) ∈ lw_all := am_wa 3619 rfl rfl
theorem v_3620 : Cond.privateMethod ({ cls := "UmbrellaBankModel", name := "inSet", desc := "(II)I" }) ∈ lw_tbl := am_wv 3620 rfl
theorem w_3621 : Cond.instanceMethod ({ cls := "UmbrellaBankModel", name := "inSet", desc := "(II)I" }) ∈ lw_all := am_wa 3621 rfl rfl
theorem w_3622 : Cond.code ({ cls := "UmbrellaBankModel", name := "inSet", desc := "(II)I" }) prog_25_method_31_code (5 : Nat) (Option.some FieldType.int) ∈ lw_all := am_wa 3622 rfl rfl
theorem w_3623 : Cond.methodLink "UmbrellaBankModel" (125 : Nat) ({ cls := "UmbrellaBankModel", name := "isBetter", desc := "(II)Z" }) ∈ lw_all := am_wa 3623 rfl rfl
theorem v_3624 : Cond.privateMethod ({ cls := "UmbrellaBankModel", name := "isBetter", desc := "(II)Z" }) ∈ lw_tbl := am_wv 3624 rfl
theorem w_3625 : Cond.instanceMethod ({ cls := "UmbrellaBankModel", name := "isBetter", desc := "(II)Z" }) ∈ lw_all := am_wa 3625 rfl rfl
theorem w_3626 : Cond.code ({ cls := "UmbrellaBankModel", name := "isBetter", desc := "(II)Z" }) prog_25_method_32_code (4 : Nat) (Option.some FieldType.boolean) ∈ lw_all := am_wa 3626 rfl rfl
theorem w_3627 : Cond.methodLink "UmbrellaBankModel" (135 : Nat) ({ cls := "UmbrellaBankModel", name := "calls", desc := "(I)I" }) ∈ lw_all := am_wa 3627 rfl rfl
theorem v_3628 : Cond.privateMethod ({ cls := "UmbrellaBankModel", name := "calls", desc := "(I)I" }) ∈ lw_tbl := am_wv 3628 rfl
theorem w_3629 : Cond.instanceMethod ({ cls := "UmbrellaBankModel", name := "calls", desc := "(I)I" }) ∈ lw_all := am_wa 3629 rfl rfl
theorem w_3630 : Cond.code ({ cls := "UmbrellaBankModel", name := "calls", desc := "(I)I" }) prog_25_method_35_code (5 : Nat) (Option.some FieldType.int) ∈ lw_all := am_wa 3630 rfl rfl
theorem w_3631 : Cond.methodLink "UmbrellaBankLaw" (177 : Nat) ({ cls := "UmbrellaBankModel", name := "addClaim", desc := "(II)I" }) ∈ lw_all := am_wa 3631 rfl rfl
theorem w_3632 : Cond.instanceMethod ({ cls := "UmbrellaBankModel", name := "addClaim", desc := "(II)I" }) ∈ lw_all := am_wa 3632 rfl rfl
theorem w_3633 : Cond.selects "UmbrellaBankModel" ({ cls := "UmbrellaBankModel", name := "addClaim", desc := "(II)I" }) ({ cls := "UmbrellaBankModel", name := "addClaim", desc := "(II)I" }) ∈ lw_all := am_wa 3633 rfl rfl
theorem w_3634 : Cond.code ({ cls := "UmbrellaBankModel", name := "addClaim", desc := "(II)I" }) prog_25_method_39_code (4 : Nat) (Option.some FieldType.int) ∈ lw_all := am_wa 3634 rfl rfl
theorem w_3635 : Cond.methodLink "UmbrellaBankModel" (138 : Nat) ({ cls := "UmbrellaBankModel", name := "notClaim", desc := "(II)I" }) ∈ lw_all := am_wa 3635 rfl rfl
theorem v_3636 : Cond.privateMethod ({ cls := "UmbrellaBankModel", name := "notClaim", desc := "(II)I" }) ∈ lw_tbl := am_wv 3636 rfl
theorem w_3637 : Cond.instanceMethod ({ cls := "UmbrellaBankModel", name := "notClaim", desc := "(II)I" }) ∈ lw_all := am_wa 3637 rfl rfl
theorem w_3638 : Cond.code ({ cls := "UmbrellaBankModel", name := "notClaim", desc := "(II)I" }) prog_25_method_37_code (3 : Nat) (Option.some FieldType.int) ∈ lw_all := am_wa 3638 rfl rfl
theorem w_3639 : Cond.methodLink "UmbrellaBankModel" (141 : Nat) ({ cls := "UmbrellaBankModel", name := "claims", desc := "(II)I" }) ∈ lw_all := am_wa 3639 rfl rfl
theorem v_3640 : Cond.privateMethod ({ cls := "UmbrellaBankModel", name := "claims", desc := "(II)I" }) ∈ lw_tbl := am_wv 3640 rfl
theorem w_3641 : Cond.instanceMethod ({ cls := "UmbrellaBankModel", name := "claims", desc := "(II)I" }) ∈ lw_all := am_wa 3641 rfl rfl
theorem w_3642 : Cond.code ({ cls := "UmbrellaBankModel", name := "claims", desc := "(II)I" }) prog_25_method_38_code (3 : Nat) (Option.some FieldType.int) ∈ lw_all := am_wa 3642 rfl rfl
theorem w_3643 : Cond.methodLink "UmbrellaBankLaw" (181 : Nat) ({ cls := "UmbrellaBankModel", name := "payClaims", desc := "()I" }) ∈ lw_all := am_wa 3643 rfl rfl
theorem w_3644 : Cond.instanceMethod ({ cls := "UmbrellaBankModel", name := "payClaims", desc := "()I" }) ∈ lw_all := am_wa 3644 rfl rfl
theorem w_3645 : Cond.selects "UmbrellaBankModel" ({ cls := "UmbrellaBankModel", name := "payClaims", desc := "()I" }) ({ cls := "UmbrellaBankModel", name := "payClaims", desc := "()I" }) ∈ lw_all := am_wa 3645 rfl rfl
theorem w_3646 : Cond.code ({ cls := "UmbrellaBankModel", name := "payClaims", desc := "()I" }) prog_25_method_42_code (1 : Nat) (Option.some FieldType.int) ∈ lw_all := am_wa 3646 rfl rfl
theorem w_3647 : Cond.methodLink "UmbrellaBankModel" (147 : Nat) ({ cls := "UmbrellaBankModel", name := "pays", desc := "()I" }) ∈ lw_all := am_wa 3647 rfl rfl
theorem v_3648 : Cond.privateMethod ({ cls := "UmbrellaBankModel", name := "pays", desc := "()I" }) ∈ lw_tbl := am_wv 3648 rfl
theorem w_3649 : Cond.instanceMethod ({ cls := "UmbrellaBankModel", name := "pays", desc := "()I" }) ∈ lw_all := am_wa 3649 rfl rfl
theorem w_3650 : Cond.code ({ cls := "UmbrellaBankModel", name := "pays", desc := "()I" }) prog_25_method_41_code (3 : Nat) (Option.some FieldType.int) ∈ lw_all := am_wa 3650 rfl rfl
theorem w_3651 : Cond.methodLink "UmbrellaBankModel" (144 : Nat) ({ cls := "UmbrellaBankModel", name := "payable", desc := "()I" }) ∈ lw_all := am_wa 3651 rfl rfl
theorem v_3652 : Cond.privateMethod ({ cls := "UmbrellaBankModel", name := "payable", desc := "()I" }) ∈ lw_tbl := am_wv 3652 rfl
theorem w_3653 : Cond.instanceMethod ({ cls := "UmbrellaBankModel", name := "payable", desc := "()I" }) ∈ lw_all := am_wa 3653 rfl rfl
theorem w_3654 : Cond.code ({ cls := "UmbrellaBankModel", name := "payable", desc := "()I" }) prog_25_method_40_code (5 : Nat) (Option.some FieldType.int) ∈ lw_all := am_wa 3654 rfl rfl
theorem w_3655 : Cond.methodLink "UmbrellaBankLaw" (184 : Nat) ({ cls := "UmbrellaBankModel", name := "promise", desc := "(III)I" }) ∈ lw_all := am_wa 3655 rfl rfl
theorem w_3656 : Cond.instanceMethod ({ cls := "UmbrellaBankModel", name := "promise", desc := "(III)I" }) ∈ lw_all := am_wa 3656 rfl rfl
theorem w_3657 : Cond.selects "UmbrellaBankModel" ({ cls := "UmbrellaBankModel", name := "promise", desc := "(III)I" }) ({ cls := "UmbrellaBankModel", name := "promise", desc := "(III)I" }) ∈ lw_all := am_wa 3657 rfl rfl
theorem w_3658 : Cond.code ({ cls := "UmbrellaBankModel", name := "promise", desc := "(III)I" }) prog_25_method_45_code (5 : Nat) (Option.some FieldType.int) ∈ lw_all := am_wa 3658 rfl rfl
theorem w_3659 : Cond.methodLink "UmbrellaBankModel" (150 : Nat) ({ cls := "UmbrellaBankModel", name := "notPromise", desc := "(III)I" }) ∈ lw_all := am_wa 3659 rfl rfl
theorem v_3660 : Cond.privateMethod ({ cls := "UmbrellaBankModel", name := "notPromise", desc := "(III)I" }) ∈ lw_tbl := am_wv 3660 rfl
theorem w_3661 : Cond.instanceMethod ({ cls := "UmbrellaBankModel", name := "notPromise", desc := "(III)I" }) ∈ lw_all := am_wa 3661 rfl rfl
theorem w_3662 : Cond.code ({ cls := "UmbrellaBankModel", name := "notPromise", desc := "(III)I" }) prog_25_method_43_code (4 : Nat) (Option.some FieldType.int) ∈ lw_all := am_wa 3662 rfl rfl
theorem w_3663 : Cond.methodLink "UmbrellaBankModel" (153 : Nat) ({ cls := "UmbrellaBankModel", name := "promises", desc := "(III)I" }) ∈ lw_all := am_wa 3663 rfl rfl
theorem v_3664 : Cond.privateMethod ({ cls := "UmbrellaBankModel", name := "promises", desc := "(III)I" }) ∈ lw_tbl := am_wv 3664 rfl
theorem w_3665 : Cond.instanceMethod ({ cls := "UmbrellaBankModel", name := "promises", desc := "(III)I" }) ∈ lw_all := am_wa 3665 rfl rfl
theorem w_3666 : Cond.code ({ cls := "UmbrellaBankModel", name := "promises", desc := "(III)I" }) prog_25_method_44_code (4 : Nat) (Option.some FieldType.int) ∈ lw_all := am_wa 3666 rfl rfl
theorem w_3667 : Cond.methodLink "UmbrellaBankLaw" (188 : Nat) ({ cls := "UmbrellaBankModel", name := "netPromises", desc := "()I" }) ∈ lw_all := am_wa 3667 rfl rfl
theorem w_3668 : Cond.instanceMethod ({ cls := "UmbrellaBankModel", name := "netPromises", desc := "()I" }) ∈ lw_all := am_wa 3668 rfl rfl
theorem w_3669 : Cond.selects "UmbrellaBankModel" ({ cls := "UmbrellaBankModel", name := "netPromises", desc := "()I" }) ({ cls := "UmbrellaBankModel", name := "netPromises", desc := "()I" }) ∈ lw_all := am_wa 3669 rfl rfl
theorem w_3670 : Cond.code ({ cls := "UmbrellaBankModel", name := "netPromises", desc := "()I" }) prog_25_method_49_code (1 : Nat) (Option.some FieldType.int) ∈ lw_all := am_wa 3670 rfl rfl
theorem w_3671 : Cond.methodLink "UmbrellaBankModel" (165 : Nat) ({ cls := "UmbrellaBankModel", name := "settles", desc := "()I" }) ∈ lw_all := am_wa 3671 rfl rfl
theorem v_3672 : Cond.privateMethod ({ cls := "UmbrellaBankModel", name := "settles", desc := "()I" }) ∈ lw_tbl := am_wv 3672 rfl
theorem w_3673 : Cond.instanceMethod ({ cls := "UmbrellaBankModel", name := "settles", desc := "()I" }) ∈ lw_all := am_wa 3673 rfl rfl
theorem w_3674 : Cond.code ({ cls := "UmbrellaBankModel", name := "settles", desc := "()I" }) prog_25_method_48_code (3 : Nat) (Option.some FieldType.int) ∈ lw_all := am_wa 3674 rfl rfl
theorem w_3675 : Cond.methodLink "UmbrellaBankModel" (162 : Nat) ({ cls := "UmbrellaBankModel", name := "netting", desc := "()I" }) ∈ lw_all := am_wa 3675 rfl rfl
theorem v_3676 : Cond.privateMethod ({ cls := "UmbrellaBankModel", name := "netting", desc := "()I" }) ∈ lw_tbl := am_wv 3676 rfl
theorem w_3677 : Cond.instanceMethod ({ cls := "UmbrellaBankModel", name := "netting", desc := "()I" }) ∈ lw_all := am_wa 3677 rfl rfl
theorem w_3678 : Cond.code ({ cls := "UmbrellaBankModel", name := "netting", desc := "()I" }) prog_25_method_47_code (6 : Nat) (Option.some FieldType.int) ∈ lw_all := am_wa 3678 rfl rfl
theorem w_3679 : Cond.methodLink "UmbrellaBankModel" (156 : Nat) ({ cls := "UmbrellaBankModel", name := "net", desc := "(I)I" }) ∈ lw_all := am_wa 3679 rfl rfl
theorem v_3680 : Cond.privateMethod ({ cls := "UmbrellaBankModel", name := "net", desc := "(I)I" }) ∈ lw_tbl := am_wv 3680 rfl
theorem w_3681 : Cond.instanceMethod ({ cls := "UmbrellaBankModel", name := "net", desc := "(I)I" }) ∈ lw_all := am_wa 3681 rfl rfl
theorem w_3682 : Cond.code ({ cls := "UmbrellaBankModel", name := "net", desc := "(I)I" }) prog_25_method_46_code (4 : Nat) (Option.some FieldType.int) ∈ lw_all := am_wa 3682 rfl rfl
theorem w_3683 : Cond.methodLink "UmbrellaBankModel" (159 : Nat) ({ cls := "UmbrellaBankModel", name := "least", desc := "(II)I" }) ∈ lw_all := am_wa 3683 rfl rfl
theorem w_3684 : Cond.static ({ cls := "UmbrellaBankModel", name := "least", desc := "(II)I" }) ∈ lw_all := am_wa 3684 rfl rfl
theorem w_3685 : Cond.code ({ cls := "UmbrellaBankModel", name := "least", desc := "(II)I" }) prog_25_method_4_code (2 : Nat) (Option.some FieldType.int) ∈ lw_all := am_wa 3685 rfl rfl
theorem w_3686 : Cond.methodLink "UmbrellaBankLaw" (191 : Nat) ({ cls := "UmbrellaBankModel", name := "setRain", desc := "(II)I" }) ∈ lw_all := am_wa 3686 rfl rfl
theorem w_3687 : Cond.instanceMethod ({ cls := "UmbrellaBankModel", name := "setRain", desc := "(II)I" }) ∈ lw_all := am_wa 3687 rfl rfl
theorem w_3688 : Cond.selects "UmbrellaBankModel" ({ cls := "UmbrellaBankModel", name := "setRain", desc := "(II)I" }) ({ cls := "UmbrellaBankModel", name := "setRain", desc := "(II)I" }) ∈ lw_all := am_wa 3688 rfl rfl
theorem w_3689 : Cond.code ({ cls := "UmbrellaBankModel", name := "setRain", desc := "(II)I" }) prog_25_method_52_code (3 : Nat) (Option.some FieldType.int) ∈ lw_all := am_wa 3689 rfl rfl
theorem w_3690 : Cond.methodLink "UmbrellaBankModel" (168 : Nat) ({ cls := "UmbrellaBankModel", name := "notRain", desc := "(II)I" }) ∈ lw_all := am_wa 3690 rfl rfl
theorem w_3691 : Cond.static ({ cls := "UmbrellaBankModel", name := "notRain", desc := "(II)I" }) ∈ lw_all := am_wa 3691 rfl rfl
theorem w_3692 : Cond.code ({ cls := "UmbrellaBankModel", name := "notRain", desc := "(II)I" }) prog_25_method_50_code (2 : Nat) (Option.some FieldType.int) ∈ lw_all := am_wa 3692 rfl rfl
theorem w_3693 : Cond.methodLink "UmbrellaBankModel" (171 : Nat) ({ cls := "UmbrellaBankModel", name := "sets", desc := "(II)I" }) ∈ lw_all := am_wa 3693 rfl rfl
theorem v_3694 : Cond.privateMethod ({ cls := "UmbrellaBankModel", name := "sets", desc := "(II)I" }) ∈ lw_tbl := am_wv 3694 rfl
theorem w_3695 : Cond.instanceMethod ({ cls := "UmbrellaBankModel", name := "sets", desc := "(II)I" }) ∈ lw_all := am_wa 3695 rfl rfl
theorem w_3696 : Cond.code ({ cls := "UmbrellaBankModel", name := "sets", desc := "(II)I" }) prog_25_method_51_code (4 : Nat) (Option.some FieldType.int) ∈ lw_all := am_wa 3696 rfl rfl
theorem w_3697 : Cond.methodLink "UmbrellaBankLaw" (194 : Nat) ({ cls := "UmbrellaBankModel", name := "setGust", desc := "(I)I" }) ∈ lw_all := am_wa 3697 rfl rfl
theorem w_3698 : Cond.instanceMethod ({ cls := "UmbrellaBankModel", name := "setGust", desc := "(I)I" }) ∈ lw_all := am_wa 3698 rfl rfl
theorem w_3699 : Cond.selects "UmbrellaBankModel" ({ cls := "UmbrellaBankModel", name := "setGust", desc := "(I)I" }) ({ cls := "UmbrellaBankModel", name := "setGust", desc := "(I)I" }) ∈ lw_all := am_wa 3699 rfl rfl
theorem w_3700 : Cond.code ({ cls := "UmbrellaBankModel", name := "setGust", desc := "(I)I" }) prog_25_method_53_code (2 : Nat) (Option.some FieldType.int) ∈ lw_all := am_wa 3700 rfl rfl
theorem w_3701 : Cond.methodLink "UmbrellaBankLaw" (197 : Nat) ({ cls := "UmbrellaBankModel", name := "setRatio", desc := "(I)I" }) ∈ lw_all := am_wa 3701 rfl rfl
theorem w_3702 : Cond.instanceMethod ({ cls := "UmbrellaBankModel", name := "setRatio", desc := "(I)I" }) ∈ lw_all := am_wa 3702 rfl rfl
theorem w_3703 : Cond.selects "UmbrellaBankModel" ({ cls := "UmbrellaBankModel", name := "setRatio", desc := "(I)I" }) ({ cls := "UmbrellaBankModel", name := "setRatio", desc := "(I)I" }) ∈ lw_all := am_wa 3703 rfl rfl
theorem w_3704 : Cond.code ({ cls := "UmbrellaBankModel", name := "setRatio", desc := "(I)I" }) prog_25_method_55_code (2 : Nat) (Option.some FieldType.int) ∈ lw_all := am_wa 3704 rfl rfl
theorem w_3705 : Cond.methodLink "UmbrellaBankModel" (174 : Nat) ({ cls := "UmbrellaBankModel", name := "notRatio", desc := "(I)I" }) ∈ lw_all := am_wa 3705 rfl rfl
theorem w_3706 : Cond.static ({ cls := "UmbrellaBankModel", name := "notRatio", desc := "(I)I" }) ∈ lw_all := am_wa 3706 rfl rfl
theorem w_3707 : Cond.code ({ cls := "UmbrellaBankModel", name := "notRatio", desc := "(I)I" }) prog_25_method_54_code (1 : Nat) (Option.some FieldType.int) ∈ lw_all := am_wa 3707 rfl rfl
theorem w_3708 : Cond.methodLink "UmbrellaBankLaw" (200 : Nat) ({ cls := "UmbrellaBankModel", name := "passDays", desc := "(I)I" }) ∈ lw_all := am_wa 3708 rfl rfl
theorem w_3709 : Cond.instanceMethod ({ cls := "UmbrellaBankModel", name := "passDays", desc := "(I)I" }) ∈ lw_all := am_wa 3709 rfl rfl
theorem w_3710 : Cond.selects "UmbrellaBankModel" ({ cls := "UmbrellaBankModel", name := "passDays", desc := "(I)I" }) ({ cls := "UmbrellaBankModel", name := "passDays", desc := "(I)I" }) ∈ lw_all := am_wa 3710 rfl rfl
theorem w_3711 : Cond.code ({ cls := "UmbrellaBankModel", name := "passDays", desc := "(I)I" }) prog_25_method_60_code (3 : Nat) (Option.some FieldType.int) ∈ lw_all := am_wa 3711 rfl rfl
theorem w_3712 : Cond.methodLink "UmbrellaBankModel" (183 : Nat) ({ cls := "UmbrellaBankModel", name := "notPass", desc := "(I)I" }) ∈ lw_all := am_wa 3712 rfl rfl
theorem v_3713 : Cond.privateMethod ({ cls := "UmbrellaBankModel", name := "notPass", desc := "(I)I" }) ∈ lw_tbl := am_wv 3713 rfl
theorem w_3714 : Cond.instanceMethod ({ cls := "UmbrellaBankModel", name := "notPass", desc := "(I)I" }) ∈ lw_all := am_wa 3714 rfl rfl
theorem w_3715 : Cond.code ({ cls := "UmbrellaBankModel", name := "notPass", desc := "(I)I" }) prog_25_method_59_code (2 : Nat) (Option.some FieldType.int) ∈ lw_all := am_wa 3715 rfl rfl
theorem w_3716 : Cond.methodLink "UmbrellaBankModel" (186 : Nat) ({ cls := "UmbrellaBankModel", name := "passes", desc := "(I)I" }) ∈ lw_all := am_wa 3716 rfl rfl
theorem v_3717 : Cond.privateMethod ({ cls := "UmbrellaBankModel", name := "passes", desc := "(I)I" }) ∈ lw_tbl := am_wv 3717 rfl
theorem w_3718 : Cond.instanceMethod ({ cls := "UmbrellaBankModel", name := "passes", desc := "(I)I" }) ∈ lw_all := am_wa 3718 rfl rfl
theorem w_3719 : Cond.code ({ cls := "UmbrellaBankModel", name := "passes", desc := "(I)I" }) prog_25_method_58_code (5 : Nat) (Option.some FieldType.int) ∈ lw_all := am_wa 3719 rfl rfl
theorem w_3720 : Cond.methodLink "UmbrellaBankModel" (177 : Nat) ({ cls := "UmbrellaBankModel", name := "rain", desc := "(I)I" }) ∈ lw_all := am_wa 3720 rfl rfl
theorem v_3721 : Cond.privateMethod ({ cls := "UmbrellaBankModel", name := "rain", desc := "(I)I" }) ∈ lw_tbl := am_wv 3721 rfl
theorem w_3722 : Cond.instanceMethod ({ cls := "UmbrellaBankModel", name := "rain", desc := "(I)I" }) ∈ lw_all := am_wa 3722 rfl rfl
theorem w_3723 : Cond.code ({ cls := "UmbrellaBankModel", name := "rain", desc := "(I)I" }) prog_25_method_56_code (2 : Nat) (Option.some FieldType.int) ∈ lw_all := am_wa 3723 rfl rfl
theorem w_3724 : Cond.methodLink "UmbrellaBankModel" (180 : Nat) ({ cls := "UmbrellaBankModel", name := "defaults", desc := "(I)V" }) ∈ lw_all := am_wa 3724 rfl rfl
theorem v_3725 : Cond.privateMethod ({ cls := "UmbrellaBankModel", name := "defaults", desc := "(I)V" }) ∈ lw_tbl := am_wv 3725 rfl
theorem w_3726 : Cond.instanceMethod ({ cls := "UmbrellaBankModel", name := "defaults", desc := "(I)V" }) ∈ lw_all := am_wa 3726 rfl rfl
theorem w_3727 : Cond.code ({ cls := "UmbrellaBankModel", name := "defaults", desc := "(I)V" }) prog_25_method_57_code (5 : Nat) (Option.none : Option FieldType) ∈ lw_all := am_wa 3727 rfl rfl
theorem w_3728 : Cond.methodLink "UmbrellaBankLaw" (204 : Nat) ({ cls := "UmbrellaBankModel", name := "ownerCount", desc := "()I" }) ∈ lw_all := am_wa 3728 rfl rfl
theorem w_3729 : Cond.instanceMethod ({ cls := "UmbrellaBankModel", name := "ownerCount", desc := "()I" }) ∈ lw_all := am_wa 3729 rfl rfl
theorem w_3730 : Cond.selects "UmbrellaBankModel" ({ cls := "UmbrellaBankModel", name := "ownerCount", desc := "()I" }) ({ cls := "UmbrellaBankModel", name := "ownerCount", desc := "()I" }) ∈ lw_all := am_wa 3730 rfl rfl
theorem w_3731 : Cond.code ({ cls := "UmbrellaBankModel", name := "ownerCount", desc := "()I" }) prog_25_method_62_code (1 : Nat) (Option.some FieldType.int) ∈ lw_all := am_wa 3731 rfl rfl
theorem w_3732 : Cond.methodLink "UmbrellaBankModel" (189 : Nat) ({ cls := "UmbrellaBankModel", name := "told", desc := "(I)I" }) ∈ lw_all := am_wa 3732 rfl rfl
theorem v_3733 : Cond.privateMethod ({ cls := "UmbrellaBankModel", name := "told", desc := "(I)I" }) ∈ lw_tbl := am_wv 3733 rfl
theorem w_3734 : Cond.instanceMethod ({ cls := "UmbrellaBankModel", name := "told", desc := "(I)I" }) ∈ lw_all := am_wa 3734 rfl rfl
theorem w_3735 : Cond.code ({ cls := "UmbrellaBankModel", name := "told", desc := "(I)I" }) prog_25_method_61_code (2 : Nat) (Option.some FieldType.int) ∈ lw_all := am_wa 3735 rfl rfl
theorem w_3736 : Cond.methodLink "UmbrellaBankLaw" (207 : Nat) ({ cls := "UmbrellaBankModel", name := "depositOf", desc := "(I)I" }) ∈ lw_all := am_wa 3736 rfl rfl
theorem w_3737 : Cond.instanceMethod ({ cls := "UmbrellaBankModel", name := "depositOf", desc := "(I)I" }) ∈ lw_all := am_wa 3737 rfl rfl
theorem w_3738 : Cond.selects "UmbrellaBankModel" ({ cls := "UmbrellaBankModel", name := "depositOf", desc := "(I)I" }) ({ cls := "UmbrellaBankModel", name := "depositOf", desc := "(I)I" }) ∈ lw_all := am_wa 3738 rfl rfl
theorem w_3739 : Cond.code ({ cls := "UmbrellaBankModel", name := "depositOf", desc := "(I)I" }) prog_25_method_63_code (2 : Nat) (Option.some FieldType.int) ∈ lw_all := am_wa 3739 rfl rfl
theorem w_3740 : Cond.methodLink "UmbrellaBankLaw" (210 : Nat) ({ cls := "UmbrellaBankModel", name := "borrowedBy", desc := "(I)I" }) ∈ lw_all := am_wa 3740 rfl rfl
theorem w_3741 : Cond.instanceMethod ({ cls := "UmbrellaBankModel", name := "borrowedBy", desc := "(I)I" }) ∈ lw_all := am_wa 3741 rfl rfl
theorem w_3742 : Cond.selects "UmbrellaBankModel" ({ cls := "UmbrellaBankModel", name := "borrowedBy", desc := "(I)I" }) ({ cls := "UmbrellaBankModel", name := "borrowedBy", desc := "(I)I" }) ∈ lw_all := am_wa 3742 rfl rfl
theorem w_3743 : Cond.code ({ cls := "UmbrellaBankModel", name := "borrowedBy", desc := "(I)I" }) prog_25_method_64_code (4 : Nat) (Option.some FieldType.int) ∈ lw_all := am_wa 3743 rfl rfl
theorem w_3744 : Cond.methodLink "UmbrellaBankLaw" (214 : Nat) ({ cls := "UmbrellaBankModel", name := "vault", desc := "()I" }) ∈ lw_all := am_wa 3744 rfl rfl
theorem w_3745 : Cond.instanceMethod ({ cls := "UmbrellaBankModel", name := "vault", desc := "()I" }) ∈ lw_all := am_wa 3745 rfl rfl
theorem w_3746 : Cond.selects "UmbrellaBankModel" ({ cls := "UmbrellaBankModel", name := "vault", desc := "()I" }) ({ cls := "UmbrellaBankModel", name := "vault", desc := "()I" }) ∈ lw_all := am_wa 3746 rfl rfl
theorem w_3747 : Cond.code ({ cls := "UmbrellaBankModel", name := "vault", desc := "()I" }) prog_25_method_65_code (1 : Nat) (Option.some FieldType.int) ∈ lw_all := am_wa 3747 rfl rfl
theorem w_3748 : Cond.methodLink "UmbrellaBankLaw" (218 : Nat) ({ cls := "UmbrellaBankModel", name := "capital", desc := "()I" }) ∈ lw_all := am_wa 3748 rfl rfl
theorem w_3749 : Cond.instanceMethod ({ cls := "UmbrellaBankModel", name := "capital", desc := "()I" }) ∈ lw_all := am_wa 3749 rfl rfl
theorem w_3750 : Cond.selects "UmbrellaBankModel" ({ cls := "UmbrellaBankModel", name := "capital", desc := "()I" }) ({ cls := "UmbrellaBankModel", name := "capital", desc := "()I" }) ∈ lw_all := am_wa 3750 rfl rfl
theorem w_3751 : Cond.code ({ cls := "UmbrellaBankModel", name := "capital", desc := "()I" }) prog_25_method_66_code (1 : Nat) (Option.some FieldType.int) ∈ lw_all := am_wa 3751 rfl rfl
theorem w_3752 : Cond.methodLink "UmbrellaBankLaw" (222 : Nat) ({ cls := "UmbrellaBankModel", name := "depositTotal", desc := "()I" }) ∈ lw_all := am_wa 3752 rfl rfl
theorem w_3753 : Cond.instanceMethod ({ cls := "UmbrellaBankModel", name := "depositTotal", desc := "()I" }) ∈ lw_all := am_wa 3753 rfl rfl
theorem w_3754 : Cond.selects "UmbrellaBankModel" ({ cls := "UmbrellaBankModel", name := "depositTotal", desc := "()I" }) ({ cls := "UmbrellaBankModel", name := "depositTotal", desc := "()I" }) ∈ lw_all := am_wa 3754 rfl rfl
theorem w_3755 : Cond.code ({ cls := "UmbrellaBankModel", name := "depositTotal", desc := "()I" }) prog_25_method_67_code (1 : Nat) (Option.some FieldType.int) ∈ lw_all := am_wa 3755 rfl rfl
theorem w_3756 : Cond.methodLink "UmbrellaBankLaw" (226 : Nat) ({ cls := "UmbrellaBankModel", name := "lentTotal", desc := "()I" }) ∈ lw_all := am_wa 3756 rfl rfl
theorem w_3757 : Cond.instanceMethod ({ cls := "UmbrellaBankModel", name := "lentTotal", desc := "()I" }) ∈ lw_all := am_wa 3757 rfl rfl
theorem w_3758 : Cond.selects "UmbrellaBankModel" ({ cls := "UmbrellaBankModel", name := "lentTotal", desc := "()I" }) ({ cls := "UmbrellaBankModel", name := "lentTotal", desc := "()I" }) ∈ lw_all := am_wa 3758 rfl rfl
theorem w_3759 : Cond.code ({ cls := "UmbrellaBankModel", name := "lentTotal", desc := "()I" }) prog_25_method_68_code (1 : Nat) (Option.some FieldType.int) ∈ lw_all := am_wa 3759 rfl rfl
theorem w_3760 : Cond.methodLink "UmbrellaBankModel" (192 : Nat) ({ cls := "UmbrellaBankModel", name := "lent", desc := "()I" }) ∈ lw_all := am_wa 3760 rfl rfl
theorem v_3761 : Cond.privateMethod ({ cls := "UmbrellaBankModel", name := "lent", desc := "()I" }) ∈ lw_tbl := am_wv 3761 rfl
theorem w_3762 : Cond.instanceMethod ({ cls := "UmbrellaBankModel", name := "lent", desc := "()I" }) ∈ lw_all := am_wa 3762 rfl rfl
theorem w_3763 : Cond.code ({ cls := "UmbrellaBankModel", name := "lent", desc := "()I" }) prog_25_method_16_code (3 : Nat) (Option.some FieldType.int) ∈ lw_all := am_wa 3763 rfl rfl
theorem w_3764 : Cond.methodLink "UmbrellaBankLaw" (230 : Nat) ({ cls := "UmbrellaBankModel", name := "lentByAccounts", desc := "()I" }) ∈ lw_all := am_wa 3764 rfl rfl
theorem w_3765 : Cond.instanceMethod ({ cls := "UmbrellaBankModel", name := "lentByAccounts", desc := "()I" }) ∈ lw_all := am_wa 3765 rfl rfl
theorem w_3766 : Cond.selects "UmbrellaBankModel" ({ cls := "UmbrellaBankModel", name := "lentByAccounts", desc := "()I" }) ({ cls := "UmbrellaBankModel", name := "lentByAccounts", desc := "()I" }) ∈ lw_all := am_wa 3766 rfl rfl
theorem w_3767 : Cond.code ({ cls := "UmbrellaBankModel", name := "lentByAccounts", desc := "()I" }) prog_25_method_69_code (1 : Nat) (Option.some FieldType.int) ∈ lw_all := am_wa 3767 rfl rfl
theorem w_3768 : Cond.methodLink "UmbrellaBankLaw" (235 : Nat) ({ cls := "UmbrellaBankModel", name := "drops", desc := "()J" }) ∈ lw_all := am_wa 3768 rfl rfl
theorem w_3769 : Cond.instanceMethod ({ cls := "UmbrellaBankModel", name := "drops", desc := "()J" }) ∈ lw_all := am_wa 3769 rfl rfl
theorem w_3770 : Cond.selects "UmbrellaBankModel" ({ cls := "UmbrellaBankModel", name := "drops", desc := "()J" }) ({ cls := "UmbrellaBankModel", name := "drops", desc := "()J" }) ∈ lw_all := am_wa 3770 rfl rfl
theorem w_3771 : Cond.code ({ cls := "UmbrellaBankModel", name := "drops", desc := "()J" }) prog_25_method_70_code (1 : Nat) (Option.some FieldType.long) ∈ lw_all := am_wa 3771 rfl rfl
theorem w_3772 : Cond.methodLink "UmbrellaBankLaw" (239 : Nat) ({ cls := "UmbrellaBankModel", name := "mostToLend", desc := "()I" }) ∈ lw_all := am_wa 3772 rfl rfl
theorem w_3773 : Cond.instanceMethod ({ cls := "UmbrellaBankModel", name := "mostToLend", desc := "()I" }) ∈ lw_all := am_wa 3773 rfl rfl
theorem w_3774 : Cond.selects "UmbrellaBankModel" ({ cls := "UmbrellaBankModel", name := "mostToLend", desc := "()I" }) ({ cls := "UmbrellaBankModel", name := "mostToLend", desc := "()I" }) ∈ lw_all := am_wa 3774 rfl rfl
theorem w_3775 : Cond.code ({ cls := "UmbrellaBankModel", name := "mostToLend", desc := "()I" }) prog_25_method_71_code (3 : Nat) (Option.some FieldType.int) ∈ lw_all := am_wa 3775 rfl rfl
theorem w_3776 : Cond.methodLink "UmbrellaBankLaw" (243 : Nat) ({ cls := "UmbrellaBankModel", name := "ratio", desc := "()I" }) ∈ lw_all := am_wa 3776 rfl rfl
theorem w_3777 : Cond.instanceMethod ({ cls := "UmbrellaBankModel", name := "ratio", desc := "()I" }) ∈ lw_all := am_wa 3777 rfl rfl
theorem w_3778 : Cond.selects "UmbrellaBankModel" ({ cls := "UmbrellaBankModel", name := "ratio", desc := "()I" }) ({ cls := "UmbrellaBankModel", name := "ratio", desc := "()I" }) ∈ lw_all := am_wa 3778 rfl rfl
theorem w_3779 : Cond.code ({ cls := "UmbrellaBankModel", name := "ratio", desc := "()I" }) prog_25_method_72_code (1 : Nat) (Option.some FieldType.int) ∈ lw_all := am_wa 3779 rfl rfl
theorem w_3780 : Cond.methodLink "UmbrellaBankLaw" (247 : Nat) ({ cls := "UmbrellaBankModel", name := "gust", desc := "()I" }) ∈ lw_all := am_wa 3780 rfl rfl
theorem w_3781 : Cond.instanceMethod ({ cls := "UmbrellaBankModel", name := "gust", desc := "()I" }) ∈ lw_all := am_wa 3781 rfl rfl
theorem w_3782 : Cond.selects "UmbrellaBankModel" ({ cls := "UmbrellaBankModel", name := "gust", desc := "()I" }) ({ cls := "UmbrellaBankModel", name := "gust", desc := "()I" }) ∈ lw_all := am_wa 3782 rfl rfl
theorem w_3783 : Cond.code ({ cls := "UmbrellaBankModel", name := "gust", desc := "()I" }) prog_25_method_73_code (1 : Nat) (Option.some FieldType.int) ∈ lw_all := am_wa 3783 rfl rfl
theorem w_3784 : Cond.methodLink "UmbrellaBankLaw" (251 : Nat) ({ cls := "UmbrellaBankModel", name := "day", desc := "()I" }) ∈ lw_all := am_wa 3784 rfl rfl
theorem w_3785 : Cond.instanceMethod ({ cls := "UmbrellaBankModel", name := "day", desc := "()I" }) ∈ lw_all := am_wa 3785 rfl rfl
theorem w_3786 : Cond.selects "UmbrellaBankModel" ({ cls := "UmbrellaBankModel", name := "day", desc := "()I" }) ({ cls := "UmbrellaBankModel", name := "day", desc := "()I" }) ∈ lw_all := am_wa 3786 rfl rfl
theorem w_3787 : Cond.code ({ cls := "UmbrellaBankModel", name := "day", desc := "()I" }) prog_25_method_74_code (1 : Nat) (Option.some FieldType.int) ∈ lw_all := am_wa 3787 rfl rfl
theorem w_3788 : Cond.methodLink "UmbrellaBankLaw" (254 : Nat) ({ cls := "UmbrellaBankModel", name := "rainOf", desc := "(II)I" }) ∈ lw_all := am_wa 3788 rfl rfl
theorem w_3789 : Cond.instanceMethod ({ cls := "UmbrellaBankModel", name := "rainOf", desc := "(II)I" }) ∈ lw_all := am_wa 3789 rfl rfl
theorem w_3790 : Cond.selects "UmbrellaBankModel" ({ cls := "UmbrellaBankModel", name := "rainOf", desc := "(II)I" }) ({ cls := "UmbrellaBankModel", name := "rainOf", desc := "(II)I" }) ∈ lw_all := am_wa 3790 rfl rfl
theorem w_3791 : Cond.code ({ cls := "UmbrellaBankModel", name := "rainOf", desc := "(II)I" }) prog_25_method_76_code (4 : Nat) (Option.some FieldType.int) ∈ lw_all := am_wa 3791 rfl rfl
theorem w_3792 : Cond.methodLink "UmbrellaBankModel" (195 : Nat) ({ cls := "UmbrellaBankModel", name := "span", desc := "(II)I" }) ∈ lw_all := am_wa 3792 rfl rfl
theorem v_3793 : Cond.privateMethod ({ cls := "UmbrellaBankModel", name := "span", desc := "(II)I" }) ∈ lw_tbl := am_wv 3793 rfl
theorem w_3794 : Cond.instanceMethod ({ cls := "UmbrellaBankModel", name := "span", desc := "(II)I" }) ∈ lw_all := am_wa 3794 rfl rfl
theorem w_3795 : Cond.code ({ cls := "UmbrellaBankModel", name := "span", desc := "(II)I" }) prog_25_method_75_code (5 : Nat) (Option.some FieldType.int) ∈ lw_all := am_wa 3795 rfl rfl
theorem w_3796 : Cond.methodLink "UmbrellaBankLaw" (257 : Nat) ({ cls := "UmbrellaBankModel", name := "rainBySums", desc := "(II)I" }) ∈ lw_all := am_wa 3796 rfl rfl
theorem w_3797 : Cond.instanceMethod ({ cls := "UmbrellaBankModel", name := "rainBySums", desc := "(II)I" }) ∈ lw_all := am_wa 3797 rfl rfl
theorem w_3798 : Cond.selects "UmbrellaBankModel" ({ cls := "UmbrellaBankModel", name := "rainBySums", desc := "(II)I" }) ({ cls := "UmbrellaBankModel", name := "rainBySums", desc := "(II)I" }) ∈ lw_all := am_wa 3798 rfl rfl
theorem w_3799 : Cond.code ({ cls := "UmbrellaBankModel", name := "rainBySums", desc := "(II)I" }) prog_25_method_77_code (3 : Nat) (Option.some FieldType.int) ∈ lw_all := am_wa 3799 rfl rfl
theorem w_3800 : Cond.methodLink "UmbrellaBankModel" (198 : Nat) ({ cls := "UmbrellaBankModel", name := "rainOf", desc := "(II)I" }) ∈ lw_all := am_wa 3800 rfl rfl
theorem w_3801 : Cond.methodLink "UmbrellaBankLaw" (260 : Nat) ({ cls := "UmbrellaBankModel", name := "wettestSpan", desc := "(I)I" }) ∈ lw_all := am_wa 3801 rfl rfl
theorem w_3802 : Cond.instanceMethod ({ cls := "UmbrellaBankModel", name := "wettestSpan", desc := "(I)I" }) ∈ lw_all := am_wa 3802 rfl rfl
theorem w_3803 : Cond.selects "UmbrellaBankModel" ({ cls := "UmbrellaBankModel", name := "wettestSpan", desc := "(I)I" }) ({ cls := "UmbrellaBankModel", name := "wettestSpan", desc := "(I)I" }) ∈ lw_all := am_wa 3803 rfl rfl
theorem w_3804 : Cond.code ({ cls := "UmbrellaBankModel", name := "wettestSpan", desc := "(I)I" }) prog_25_method_78_code (4 : Nat) (Option.some FieldType.int) ∈ lw_all := am_wa 3804 rfl rfl
theorem w_3805 : Cond.methodLink "UmbrellaBankLaw" (264 : Nat) ({ cls := "UmbrellaBankModel", name := "loanCount", desc := "()I" }) ∈ lw_all := am_wa 3805 rfl rfl
theorem w_3806 : Cond.instanceMethod ({ cls := "UmbrellaBankModel", name := "loanCount", desc := "()I" }) ∈ lw_all := am_wa 3806 rfl rfl
theorem w_3807 : Cond.selects "UmbrellaBankModel" ({ cls := "UmbrellaBankModel", name := "loanCount", desc := "()I" }) ({ cls := "UmbrellaBankModel", name := "loanCount", desc := "()I" }) ∈ lw_all := am_wa 3807 rfl rfl
theorem w_3808 : Cond.code ({ cls := "UmbrellaBankModel", name := "loanCount", desc := "()I" }) prog_25_method_79_code (1 : Nat) (Option.some FieldType.int) ∈ lw_all := am_wa 3808 rfl rfl
theorem w_3809 : Cond.methodLink "UmbrellaBankLaw" (267 : Nat) ({ cls := "UmbrellaBankModel", name := "loanAt", desc := "(I)I" }) ∈ lw_all := am_wa 3809 rfl rfl
theorem w_3810 : Cond.instanceMethod ({ cls := "UmbrellaBankModel", name := "loanAt", desc := "(I)I" }) ∈ lw_all := am_wa 3810 rfl rfl
theorem w_3811 : Cond.selects "UmbrellaBankModel" ({ cls := "UmbrellaBankModel", name := "loanAt", desc := "(I)I" }) ({ cls := "UmbrellaBankModel", name := "loanAt", desc := "(I)I" }) ∈ lw_all := am_wa 3811 rfl rfl
theorem w_3812 : Cond.code ({ cls := "UmbrellaBankModel", name := "loanAt", desc := "(I)I" }) prog_25_method_81_code (5 : Nat) (Option.some FieldType.int) ∈ lw_all := am_wa 3812 rfl rfl
theorem w_3813 : Cond.methodLink "UmbrellaBankModel" (201 : Nat) ({ cls := "UmbrellaBankModel", name := "isAhead", desc := "(II)Z" }) ∈ lw_all := am_wa 3813 rfl rfl
theorem v_3814 : Cond.privateMethod ({ cls := "UmbrellaBankModel", name := "isAhead", desc := "(II)Z" }) ∈ lw_tbl := am_wv 3814 rfl
theorem w_3815 : Cond.instanceMethod ({ cls := "UmbrellaBankModel", name := "isAhead", desc := "(II)Z" }) ∈ lw_all := am_wa 3815 rfl rfl
theorem w_3816 : Cond.code ({ cls := "UmbrellaBankModel", name := "isAhead", desc := "(II)Z" }) prog_25_method_80_code (3 : Nat) (Option.some FieldType.boolean) ∈ lw_all := am_wa 3816 rfl rfl
theorem w_3817 : Cond.methodLink "UmbrellaBankLaw" (270 : Nat) ({ cls := "UmbrellaBankModel", name := "borrowerOf", desc := "(I)I" }) ∈ lw_all := am_wa 3817 rfl rfl
theorem w_3818 : Cond.instanceMethod ({ cls := "UmbrellaBankModel", name := "borrowerOf", desc := "(I)I" }) ∈ lw_all := am_wa 3818 rfl rfl
theorem w_3819 : Cond.selects "UmbrellaBankModel" ({ cls := "UmbrellaBankModel", name := "borrowerOf", desc := "(I)I" }) ({ cls := "UmbrellaBankModel", name := "borrowerOf", desc := "(I)I" }) ∈ lw_all := am_wa 3819 rfl rfl
theorem w_3820 : Cond.code ({ cls := "UmbrellaBankModel", name := "borrowerOf", desc := "(I)I" }) prog_25_method_83_code (2 : Nat) (Option.some FieldType.int) ∈ lw_all := am_wa 3820 rfl rfl
theorem w_3821 : Cond.methodLink "UmbrellaBankModel" (204 : Nat) ({ cls := "UmbrellaBankModel", name := "tells", desc := "(II)I" }) ∈ lw_all := am_wa 3821 rfl rfl
theorem v_3822 : Cond.privateMethod ({ cls := "UmbrellaBankModel", name := "tells", desc := "(II)I" }) ∈ lw_tbl := am_wv 3822 rfl
theorem w_3823 : Cond.instanceMethod ({ cls := "UmbrellaBankModel", name := "tells", desc := "(II)I" }) ∈ lw_all := am_wa 3823 rfl rfl
theorem w_3824 : Cond.code ({ cls := "UmbrellaBankModel", name := "tells", desc := "(II)I" }) prog_25_method_82_code (3 : Nat) (Option.some FieldType.int) ∈ lw_all := am_wa 3824 rfl rfl
theorem w_3825 : Cond.methodLink "UmbrellaBankLaw" (273 : Nat) ({ cls := "UmbrellaBankModel", name := "debtOf", desc := "(I)I" }) ∈ lw_all := am_wa 3825 rfl rfl
theorem w_3826 : Cond.instanceMethod ({ cls := "UmbrellaBankModel", name := "debtOf", desc := "(I)I" }) ∈ lw_all := am_wa 3826 rfl rfl
theorem w_3827 : Cond.selects "UmbrellaBankModel" ({ cls := "UmbrellaBankModel", name := "debtOf", desc := "(I)I" }) ({ cls := "UmbrellaBankModel", name := "debtOf", desc := "(I)I" }) ∈ lw_all := am_wa 3827 rfl rfl
theorem w_3828 : Cond.code ({ cls := "UmbrellaBankModel", name := "debtOf", desc := "(I)I" }) prog_25_method_84_code (2 : Nat) (Option.some FieldType.int) ∈ lw_all := am_wa 3828 rfl rfl
theorem w_3829 : Cond.methodLink "UmbrellaBankLaw" (276 : Nat) ({ cls := "UmbrellaBankModel", name := "dueDayOf", desc := "(I)I" }) ∈ lw_all := am_wa 3829 rfl rfl
theorem w_3830 : Cond.instanceMethod ({ cls := "UmbrellaBankModel", name := "dueDayOf", desc := "(I)I" }) ∈ lw_all := am_wa 3830 rfl rfl
theorem w_3831 : Cond.selects "UmbrellaBankModel" ({ cls := "UmbrellaBankModel", name := "dueDayOf", desc := "(I)I" }) ({ cls := "UmbrellaBankModel", name := "dueDayOf", desc := "(I)I" }) ∈ lw_all := am_wa 3831 rfl rfl
theorem w_3832 : Cond.code ({ cls := "UmbrellaBankModel", name := "dueDayOf", desc := "(I)I" }) prog_25_method_85_code (2 : Nat) (Option.some FieldType.int) ∈ lw_all := am_wa 3832 rfl rfl
theorem w_3833 : Cond.methodLink "UmbrellaBankLaw" (279 : Nat) ({ cls := "UmbrellaBankModel", name := "debtWhenDue", desc := "(I)I" }) ∈ lw_all := am_wa 3833 rfl rfl
theorem w_3834 : Cond.instanceMethod ({ cls := "UmbrellaBankModel", name := "debtWhenDue", desc := "(I)I" }) ∈ lw_all := am_wa 3834 rfl rfl
theorem w_3835 : Cond.selects "UmbrellaBankModel" ({ cls := "UmbrellaBankModel", name := "debtWhenDue", desc := "(I)I" }) ({ cls := "UmbrellaBankModel", name := "debtWhenDue", desc := "(I)I" }) ∈ lw_all := am_wa 3835 rfl rfl
theorem w_3836 : Cond.code ({ cls := "UmbrellaBankModel", name := "debtWhenDue", desc := "(I)I" }) prog_25_method_86_code (5 : Nat) (Option.some FieldType.int) ∈ lw_all := am_wa 3836 rfl rfl
theorem w_3837 : Cond.methodLink "UmbrellaBankLaw" (282 : Nat) ({ cls := "UmbrellaBankModel", name := "callCost", desc := "(I)I" }) ∈ lw_all := am_wa 3837 rfl rfl
theorem w_3838 : Cond.instanceMethod ({ cls := "UmbrellaBankModel", name := "callCost", desc := "(I)I" }) ∈ lw_all := am_wa 3838 rfl rfl
theorem w_3839 : Cond.selects "UmbrellaBankModel" ({ cls := "UmbrellaBankModel", name := "callCost", desc := "(I)I" }) ({ cls := "UmbrellaBankModel", name := "callCost", desc := "(I)I" }) ∈ lw_all := am_wa 3839 rfl rfl
theorem w_3840 : Cond.code ({ cls := "UmbrellaBankModel", name := "callCost", desc := "(I)I" }) prog_25_method_87_code (3 : Nat) (Option.some FieldType.int) ∈ lw_all := am_wa 3840 rfl rfl
theorem w_3841 : Cond.methodLink "UmbrellaBankLaw" (285 : Nat) ({ cls := "UmbrellaBankModel", name := "callCostByTable", desc := "(I)I" }) ∈ lw_all := am_wa 3841 rfl rfl
theorem w_3842 : Cond.instanceMethod ({ cls := "UmbrellaBankModel", name := "callCostByTable", desc := "(I)I" }) ∈ lw_all := am_wa 3842 rfl rfl
theorem w_3843 : Cond.selects "UmbrellaBankModel" ({ cls := "UmbrellaBankModel", name := "callCostByTable", desc := "(I)I" }) ({ cls := "UmbrellaBankModel", name := "callCostByTable", desc := "(I)I" }) ∈ lw_all := am_wa 3843 rfl rfl
theorem w_3844 : Cond.code ({ cls := "UmbrellaBankModel", name := "callCostByTable", desc := "(I)I" }) prog_25_method_88_code (2 : Nat) (Option.some FieldType.int) ∈ lw_all := am_wa 3844 rfl rfl
theorem w_3845 : Cond.methodLink "UmbrellaBankModel" (207 : Nat) ({ cls := "UmbrellaBankModel", name := "callCost", desc := "(I)I" }) ∈ lw_all := am_wa 3845 rfl rfl
theorem w_3846 : Cond.methodLink "UmbrellaBankLaw" (288 : Nat) ({ cls := "UmbrellaBankModel", name := "isCalled", desc := "(II)Z" }) ∈ lw_all := am_wa 3846 rfl rfl
theorem w_3847 : Cond.instanceMethod ({ cls := "UmbrellaBankModel", name := "isCalled", desc := "(II)Z" }) ∈ lw_all := am_wa 3847 rfl rfl
theorem w_3848 : Cond.selects "UmbrellaBankModel" ({ cls := "UmbrellaBankModel", name := "isCalled", desc := "(II)Z" }) ({ cls := "UmbrellaBankModel", name := "isCalled", desc := "(II)Z" }) ∈ lw_all := am_wa 3848 rfl rfl
theorem w_3849 : Cond.code ({ cls := "UmbrellaBankModel", name := "isCalled", desc := "(II)Z" }) prog_25_method_89_code (4 : Nat) (Option.some FieldType.boolean) ∈ lw_all := am_wa 3849 rfl rfl
theorem w_3850 : Cond.methodLink "UmbrellaBankLaw" (292 : Nat) ({ cls := "UmbrellaBankModel", name := "claimCount", desc := "()I" }) ∈ lw_all := am_wa 3850 rfl rfl
theorem w_3851 : Cond.instanceMethod ({ cls := "UmbrellaBankModel", name := "claimCount", desc := "()I" }) ∈ lw_all := am_wa 3851 rfl rfl
theorem w_3852 : Cond.selects "UmbrellaBankModel" ({ cls := "UmbrellaBankModel", name := "claimCount", desc := "()I" }) ({ cls := "UmbrellaBankModel", name := "claimCount", desc := "()I" }) ∈ lw_all := am_wa 3852 rfl rfl
theorem w_3853 : Cond.code ({ cls := "UmbrellaBankModel", name := "claimCount", desc := "()I" }) prog_25_method_90_code (1 : Nat) (Option.some FieldType.int) ∈ lw_all := am_wa 3853 rfl rfl
theorem w_3854 : Cond.methodLink "UmbrellaBankLaw" (295 : Nat) ({ cls := "UmbrellaBankModel", name := "claimOf", desc := "(I)I" }) ∈ lw_all := am_wa 3854 rfl rfl
theorem w_3855 : Cond.instanceMethod ({ cls := "UmbrellaBankModel", name := "claimOf", desc := "(I)I" }) ∈ lw_all := am_wa 3855 rfl rfl
theorem w_3856 : Cond.selects "UmbrellaBankModel" ({ cls := "UmbrellaBankModel", name := "claimOf", desc := "(I)I" }) ({ cls := "UmbrellaBankModel", name := "claimOf", desc := "(I)I" }) ∈ lw_all := am_wa 3856 rfl rfl
theorem w_3857 : Cond.code ({ cls := "UmbrellaBankModel", name := "claimOf", desc := "(I)I" }) prog_25_method_91_code (2 : Nat) (Option.some FieldType.int) ∈ lw_all := am_wa 3857 rfl rfl
theorem w_3858 : Cond.methodLink "UmbrellaBankLaw" (299 : Nat) ({ cls := "UmbrellaBankModel", name := "payableClaims", desc := "()I" }) ∈ lw_all := am_wa 3858 rfl rfl
theorem w_3859 : Cond.instanceMethod ({ cls := "UmbrellaBankModel", name := "payableClaims", desc := "()I" }) ∈ lw_all := am_wa 3859 rfl rfl
theorem w_3860 : Cond.selects "UmbrellaBankModel" ({ cls := "UmbrellaBankModel", name := "payableClaims", desc := "()I" }) ({ cls := "UmbrellaBankModel", name := "payableClaims", desc := "()I" }) ∈ lw_all := am_wa 3860 rfl rfl
theorem w_3861 : Cond.code ({ cls := "UmbrellaBankModel", name := "payableClaims", desc := "()I" }) prog_25_method_92_code (1 : Nat) (Option.some FieldType.int) ∈ lw_all := am_wa 3861 rfl rfl
theorem w_3862 : Cond.methodLink "UmbrellaBankLaw" (303 : Nat) ({ cls := "UmbrellaBankModel", name := "payableClaimsBySums", desc := "()I" }) ∈ lw_all := am_wa 3862 rfl rfl
theorem w_3863 : Cond.instanceMethod ({ cls := "UmbrellaBankModel", name := "payableClaimsBySums", desc := "()I" }) ∈ lw_all := am_wa 3863 rfl rfl
theorem w_3864 : Cond.selects "UmbrellaBankModel" ({ cls := "UmbrellaBankModel", name := "payableClaimsBySums", desc := "()I" }) ({ cls := "UmbrellaBankModel", name := "payableClaimsBySums", desc := "()I" }) ∈ lw_all := am_wa 3864 rfl rfl
theorem w_3865 : Cond.code ({ cls := "UmbrellaBankModel", name := "payableClaimsBySums", desc := "()I" }) prog_25_method_93_code (1 : Nat) (Option.some FieldType.int) ∈ lw_all := am_wa 3865 rfl rfl
theorem w_3866 : Cond.methodLink "UmbrellaBankModel" (210 : Nat) ({ cls := "UmbrellaBankModel", name := "payableClaims", desc := "()I" }) ∈ lw_all := am_wa 3866 rfl rfl
theorem w_3867 : Cond.methodLink "UmbrellaBankLaw" (306 : Nat) ({ cls := "UmbrellaBankModel", name := "promised", desc := "(II)I" }) ∈ lw_all := am_wa 3867 rfl rfl
theorem w_3868 : Cond.instanceMethod ({ cls := "UmbrellaBankModel", name := "promised", desc := "(II)I" }) ∈ lw_all := am_wa 3868 rfl rfl
theorem w_3869 : Cond.selects "UmbrellaBankModel" ({ cls := "UmbrellaBankModel", name := "promised", desc := "(II)I" }) ({ cls := "UmbrellaBankModel", name := "promised", desc := "(II)I" }) ∈ lw_all := am_wa 3869 rfl rfl
theorem w_3870 : Cond.code ({ cls := "UmbrellaBankModel", name := "promised", desc := "(II)I" }) prog_25_method_94_code (3 : Nat) (Option.some FieldType.int) ∈ lw_all := am_wa 3870 rfl rfl
theorem w_3871 : Cond.methodLink "UmbrellaBankLaw" (309 : Nat) ({ cls := "UmbrellaBankModel", name := "netOf", desc := "(I)I" }) ∈ lw_all := am_wa 3871 rfl rfl
theorem w_3872 : Cond.instanceMethod ({ cls := "UmbrellaBankModel", name := "netOf", desc := "(I)I" }) ∈ lw_all := am_wa 3872 rfl rfl
theorem w_3873 : Cond.selects "UmbrellaBankModel" ({ cls := "UmbrellaBankModel", name := "netOf", desc := "(I)I" }) ({ cls := "UmbrellaBankModel", name := "netOf", desc := "(I)I" }) ∈ lw_all := am_wa 3873 rfl rfl
theorem w_3874 : Cond.code ({ cls := "UmbrellaBankModel", name := "netOf", desc := "(I)I" }) prog_25_method_95_code (2 : Nat) (Option.some FieldType.int) ∈ lw_all := am_wa 3874 rfl rfl
theorem w_3875 : Cond.methodLink "UmbrellaBankLaw" (313 : Nat) ({ cls := "UmbrellaBankModel", name := "payments", desc := "()I" }) ∈ lw_all := am_wa 3875 rfl rfl
theorem w_3876 : Cond.instanceMethod ({ cls := "UmbrellaBankModel", name := "payments", desc := "()I" }) ∈ lw_all := am_wa 3876 rfl rfl
theorem w_3877 : Cond.selects "UmbrellaBankModel" ({ cls := "UmbrellaBankModel", name := "payments", desc := "()I" }) ({ cls := "UmbrellaBankModel", name := "payments", desc := "()I" }) ∈ lw_all := am_wa 3877 rfl rfl
theorem w_3878 : Cond.code ({ cls := "UmbrellaBankModel", name := "payments", desc := "()I" }) prog_25_method_96_code (1 : Nat) (Option.some FieldType.int) ∈ lw_all := am_wa 3878 rfl rfl
theorem w_3879 : Cond.methodLink "UmbrellaBankLaw" (317 : Nat) ({ cls := "UmbrellaBankModel", name := "paymentsByLooking", desc := "()I" }) ∈ lw_all := am_wa 3879 rfl rfl
theorem w_3880 : Cond.instanceMethod ({ cls := "UmbrellaBankModel", name := "paymentsByLooking", desc := "()I" }) ∈ lw_all := am_wa 3880 rfl rfl
theorem w_3881 : Cond.selects "UmbrellaBankModel" ({ cls := "UmbrellaBankModel", name := "paymentsByLooking", desc := "()I" }) ({ cls := "UmbrellaBankModel", name := "paymentsByLooking", desc := "()I" }) ∈ lw_all := am_wa 3881 rfl rfl
theorem w_3882 : Cond.code ({ cls := "UmbrellaBankModel", name := "paymentsByLooking", desc := "()I" }) prog_25_method_97_code (1 : Nat) (Option.some FieldType.int) ∈ lw_all := am_wa 3882 rfl rfl
theorem w_3883 : Cond.methodLink "UmbrellaBankModel" (213 : Nat) ({ cls := "UmbrellaBankModel", name := "payments", desc := "()I" }) ∈ lw_all := am_wa 3883 rfl rfl
theorem w_3884 : Cond.methodLink "UmbrellaBankLaw" (321 : Nat) ({ cls := "UmbrellaBankModel", name := "meanDeposit", desc := "()D" }) ∈ lw_all := am_wa 3884 rfl rfl
theorem w_3885 : Cond.instanceMethod ({ cls := "UmbrellaBankModel", name := "meanDeposit", desc := "()D" }) ∈ lw_all := am_wa 3885 rfl rfl
theorem w_3886 : Cond.selects "UmbrellaBankModel" ({ cls := "UmbrellaBankModel", name := "meanDeposit", desc := "()D" }) ({ cls := "UmbrellaBankModel", name := "meanDeposit", desc := "()D" }) ∈ lw_all := am_wa 3886 rfl rfl
theorem w_3887 : Cond.code ({ cls := "UmbrellaBankModel", name := "meanDeposit", desc := "()D" }) prog_25_method_98_code (1 : Nat) (Option.some FieldType.double) ∈ lw_all := am_wa 3887 rfl rfl
theorem w_3888 : Cond.methodLink "UmbrellaBankLaw" (324 : Nat) ({ cls := "UmbrellaBankModel", name := "vaultShare", desc := "()F" }) ∈ lw_all := am_wa 3888 rfl rfl
theorem w_3889 : Cond.instanceMethod ({ cls := "UmbrellaBankModel", name := "vaultShare", desc := "()F" }) ∈ lw_all := am_wa 3889 rfl rfl
theorem w_3890 : Cond.selects "UmbrellaBankModel" ({ cls := "UmbrellaBankModel", name := "vaultShare", desc := "()F" }) ({ cls := "UmbrellaBankModel", name := "vaultShare", desc := "()F" }) ∈ lw_all := am_wa 3890 rfl rfl
theorem w_3891 : Cond.code ({ cls := "UmbrellaBankModel", name := "vaultShare", desc := "()F" }) prog_25_method_99_code (2 : Nat) (Option.some FieldType.float) ∈ lw_all := am_wa 3891 rfl rfl
theorem w_3892 : Cond.methodLink "UmbrellaBankLaw" (329 : Nat) ({ cls := "UmbrellaBankModel", name := "isConsistent", desc := "()Z" }) ∈ lw_all := am_wa 3892 rfl rfl
theorem w_3893 : Cond.instanceMethod ({ cls := "UmbrellaBankModel", name := "isConsistent", desc := "()Z" }) ∈ lw_all := am_wa 3893 rfl rfl
theorem w_3894 : Cond.selects "UmbrellaBankModel" ({ cls := "UmbrellaBankModel", name := "isConsistent", desc := "()Z" }) ({ cls := "UmbrellaBankModel", name := "isConsistent", desc := "()Z" }) ∈ lw_all := am_wa 3894 rfl rfl
theorem w_3895 : Cond.code ({ cls := "UmbrellaBankModel", name := "isConsistent", desc := "()Z" }) prog_25_method_100_code (1 : Nat) (Option.some FieldType.boolean) ∈ lw_all := am_wa 3895 rfl rfl
theorem w_3896 : Cond.methodLink "UmbrellaBankLaw" (332 : Nat) ({ cls := "UmbrellaBankModel", name := "renderLoan", desc := "(I)I" }) ∈ lw_all := am_wa 3896 rfl rfl
theorem w_3897 : Cond.instanceMethod ({ cls := "UmbrellaBankModel", name := "renderLoan", desc := "(I)I" }) ∈ lw_all := am_wa 3897 rfl rfl
theorem w_3898 : Cond.selects "UmbrellaBankModel" ({ cls := "UmbrellaBankModel", name := "renderLoan", desc := "(I)I" }) ({ cls := "UmbrellaBankModel", name := "renderLoan", desc := "(I)I" }) ∈ lw_all := am_wa 3898 rfl rfl
theorem w_3899 : Cond.code ({ cls := "UmbrellaBankModel", name := "renderLoan", desc := "(I)I" }) prog_25_method_103_code (3 : Nat) (Option.some FieldType.int) ∈ lw_all := am_wa 3899 rfl rfl
theorem w_3900 : Cond.methodLink "UmbrellaBankModel" (222 : Nat) ({ cls := "UmbrellaBankModel", name := "writesNumber", desc := "(I)V" }) ∈ lw_all := am_wa 3900 rfl rfl
theorem v_3901 : Cond.privateMethod ({ cls := "UmbrellaBankModel", name := "writesNumber", desc := "(I)V" }) ∈ lw_tbl := am_wv 3901 rfl
theorem w_3902 : Cond.instanceMethod ({ cls := "UmbrellaBankModel", name := "writesNumber", desc := "(I)V" }) ∈ lw_all := am_wa 3902 rfl rfl
theorem w_3903 : Cond.code ({ cls := "UmbrellaBankModel", name := "writesNumber", desc := "(I)V" }) prog_25_method_102_code (4 : Nat) (Option.none : Option FieldType) ∈ lw_all := am_wa 3903 rfl rfl
theorem w_3904 : Cond.methodLink "UmbrellaBankModel" (219 : Nat) ({ cls := "UmbrellaBankModel", name := "writes", desc := "(I)V" }) ∈ lw_all := am_wa 3904 rfl rfl
theorem v_3905 : Cond.privateMethod ({ cls := "UmbrellaBankModel", name := "writes", desc := "(I)V" }) ∈ lw_tbl := am_wv 3905 rfl
theorem w_3906 : Cond.instanceMethod ({ cls := "UmbrellaBankModel", name := "writes", desc := "(I)V" }) ∈ lw_all := am_wa 3906 rfl rfl
theorem w_3907 : Cond.code ({ cls := "UmbrellaBankModel", name := "writes", desc := "(I)V" }) prog_25_method_101_code (2 : Nat) (Option.none : Option FieldType) ∈ lw_all := am_wa 3907 rfl rfl
theorem w_3908 : Cond.methodLink "UmbrellaBankLaw" (336 : Nat) ({ cls := "UmbrellaBankModel", name := "renderClaims", desc := "()I" }) ∈ lw_all := am_wa 3908 rfl rfl
theorem w_3909 : Cond.instanceMethod ({ cls := "UmbrellaBankModel", name := "renderClaims", desc := "()I" }) ∈ lw_all := am_wa 3909 rfl rfl
theorem w_3910 : Cond.selects "UmbrellaBankModel" ({ cls := "UmbrellaBankModel", name := "renderClaims", desc := "()I" }) ({ cls := "UmbrellaBankModel", name := "renderClaims", desc := "()I" }) ∈ lw_all := am_wa 3910 rfl rfl
theorem w_3911 : Cond.code ({ cls := "UmbrellaBankModel", name := "renderClaims", desc := "()I" }) prog_25_method_104_code (2 : Nat) (Option.some FieldType.int) ∈ lw_all := am_wa 3911 rfl rfl
theorem w_3912 : Cond.methodLink "UmbrellaBankLaw" (339 : Nat) ({ cls := "UmbrellaBankModel", name := "outputAt", desc := "(I)C" }) ∈ lw_all := am_wa 3912 rfl rfl
theorem w_3913 : Cond.instanceMethod ({ cls := "UmbrellaBankModel", name := "outputAt", desc := "(I)C" }) ∈ lw_all := am_wa 3913 rfl rfl
theorem w_3914 : Cond.selects "UmbrellaBankModel" ({ cls := "UmbrellaBankModel", name := "outputAt", desc := "(I)C" }) ({ cls := "UmbrellaBankModel", name := "outputAt", desc := "(I)C" }) ∈ lw_all := am_wa 3914 rfl rfl
theorem w_3915 : Cond.code ({ cls := "UmbrellaBankModel", name := "outputAt", desc := "(I)C" }) prog_25_method_105_code (2 : Nat) (Option.some FieldType.char) ∈ lw_all := am_wa 3915 rfl rfl
theorem w_3916 : Cond.methodLink "UmbrellaBankLaw" (343 : Nat) ({ cls := "UmbrellaBankModel", name := "type", desc := "(C)I" }) ∈ lw_all := am_wa 3916 rfl rfl
theorem w_3917 : Cond.instanceMethod ({ cls := "UmbrellaBankModel", name := "type", desc := "(C)I" }) ∈ lw_all := am_wa 3917 rfl rfl
theorem w_3918 : Cond.selects "UmbrellaBankModel" ({ cls := "UmbrellaBankModel", name := "type", desc := "(C)I" }) ({ cls := "UmbrellaBankModel", name := "type", desc := "(C)I" }) ∈ lw_all := am_wa 3918 rfl rfl
theorem w_3919 : Cond.code ({ cls := "UmbrellaBankModel", name := "type", desc := "(C)I" }) prog_25_method_106_code (2 : Nat) (Option.some FieldType.int) ∈ lw_all := am_wa 3919 rfl rfl
theorem w_3920 : Cond.methodLink "UmbrellaBankLaw" (346 : Nat) ({ cls := "UmbrellaBankModel", name := "runScript", desc := "()I" }) ∈ lw_all := am_wa 3920 rfl rfl
theorem w_3921 : Cond.instanceMethod ({ cls := "UmbrellaBankModel", name := "runScript", desc := "()I" }) ∈ lw_all := am_wa 3921 rfl rfl
theorem w_3922 : Cond.selects "UmbrellaBankModel" ({ cls := "UmbrellaBankModel", name := "runScript", desc := "()I" }) ({ cls := "UmbrellaBankModel", name := "runScript", desc := "()I" }) ∈ lw_all := am_wa 3922 rfl rfl
theorem w_3923 : Cond.code ({ cls := "UmbrellaBankModel", name := "runScript", desc := "()I" }) prog_25_method_121_code (2 : Nat) (Option.some FieldType.int) ∈ lw_all := am_wa 3923 rfl rfl
theorem w_3924 : Cond.methodLink "UmbrellaBankModel" (274 : Nat) ({ cls := "UmbrellaBankModel", name := "readsAll", desc := "()Z" }) ∈ lw_all := am_wa 3924 rfl rfl
theorem v_3925 : Cond.privateMethod ({ cls := "UmbrellaBankModel", name := "readsAll", desc := "()Z" }) ∈ lw_tbl := am_wv 3925 rfl
theorem w_3926 : Cond.instanceMethod ({ cls := "UmbrellaBankModel", name := "readsAll", desc := "()Z" }) ∈ lw_all := am_wa 3926 rfl rfl
theorem w_3927 : Cond.code ({ cls := "UmbrellaBankModel", name := "readsAll", desc := "()Z" }) prog_25_method_117_code (2 : Nat) (Option.some FieldType.boolean) ∈ lw_all := am_wa 3927 rfl rfl
theorem w_3928 : Cond.methodLink "UmbrellaBankModel" (262 : Nat) ({ cls := "UmbrellaBankModel", name := "readsCommand", desc := "()Z" }) ∈ lw_all := am_wa 3928 rfl rfl
theorem v_3929 : Cond.privateMethod ({ cls := "UmbrellaBankModel", name := "readsCommand", desc := "()Z" }) ∈ lw_tbl := am_wv 3929 rfl
theorem w_3930 : Cond.instanceMethod ({ cls := "UmbrellaBankModel", name := "readsCommand", desc := "()Z" }) ∈ lw_all := am_wa 3930 rfl rfl
theorem w_3931 : Cond.code ({ cls := "UmbrellaBankModel", name := "readsCommand", desc := "()Z" }) prog_25_method_116_code (1 : Nat) (Option.some FieldType.boolean) ∈ lw_all := am_wa 3931 rfl rfl
theorem w_3932 : Cond.methodLink "UmbrellaBankModel" (231 : Nat) ({ cls := "UmbrellaBankModel", name := "nextChar", desc := "()I" }) ∈ lw_all := am_wa 3932 rfl rfl
theorem v_3933 : Cond.privateMethod ({ cls := "UmbrellaBankModel", name := "nextChar", desc := "()I" }) ∈ lw_tbl := am_wv 3933 rfl
theorem w_3934 : Cond.instanceMethod ({ cls := "UmbrellaBankModel", name := "nextChar", desc := "()I" }) ∈ lw_all := am_wa 3934 rfl rfl
theorem w_3935 : Cond.code ({ cls := "UmbrellaBankModel", name := "nextChar", desc := "()I" }) prog_25_method_107_code (1 : Nat) (Option.some FieldType.int) ∈ lw_all := am_wa 3935 rfl rfl
theorem w_3936 : Cond.methodLink "UmbrellaBankModel" (237 : Nat) ({ cls := "UmbrellaBankModel", name := "reads", desc := "(I)Z" }) ∈ lw_all := am_wa 3936 rfl rfl
theorem v_3937 : Cond.privateMethod ({ cls := "UmbrellaBankModel", name := "reads", desc := "(I)Z" }) ∈ lw_tbl := am_wv 3937 rfl
theorem w_3938 : Cond.instanceMethod ({ cls := "UmbrellaBankModel", name := "reads", desc := "(I)Z" }) ∈ lw_all := am_wa 3938 rfl rfl
theorem w_3939 : Cond.code ({ cls := "UmbrellaBankModel", name := "reads", desc := "(I)Z" }) prog_25_method_108_code (2 : Nat) (Option.some FieldType.boolean) ∈ lw_all := am_wa 3939 rfl rfl
theorem w_3940 : Cond.methodLink "UmbrellaBankModel" (250 : Nat) ({ cls := "UmbrellaBankModel", name := "readsP", desc := "()Z" }) ∈ lw_all := am_wa 3940 rfl rfl
theorem v_3941 : Cond.privateMethod ({ cls := "UmbrellaBankModel", name := "readsP", desc := "()Z" }) ∈ lw_tbl := am_wv 3941 rfl
theorem w_3942 : Cond.instanceMethod ({ cls := "UmbrellaBankModel", name := "readsP", desc := "()Z" }) ∈ lw_all := am_wa 3942 rfl rfl
theorem w_3943 : Cond.code ({ cls := "UmbrellaBankModel", name := "readsP", desc := "()Z" }) prog_25_method_112_code (1 : Nat) (Option.some FieldType.boolean) ∈ lw_all := am_wa 3943 rfl rfl
theorem w_3944 : Cond.methodLink "UmbrellaBankModel" (243 : Nat) ({ cls := "UmbrellaBankModel", name := "readsTwo", desc := "()Z" }) ∈ lw_all := am_wa 3944 rfl rfl
theorem v_3945 : Cond.privateMethod ({ cls := "UmbrellaBankModel", name := "readsTwo", desc := "()Z" }) ∈ lw_tbl := am_wv 3945 rfl
theorem w_3946 : Cond.instanceMethod ({ cls := "UmbrellaBankModel", name := "readsTwo", desc := "()Z" }) ∈ lw_all := am_wa 3946 rfl rfl
theorem w_3947 : Cond.code ({ cls := "UmbrellaBankModel", name := "readsTwo", desc := "()Z" }) prog_25_method_111_code (1 : Nat) (Option.some FieldType.boolean) ∈ lw_all := am_wa 3947 rfl rfl
theorem w_3948 : Cond.methodLink "UmbrellaBankModel" (234 : Nat) ({ cls := "UmbrellaBankModel", name := "readsDigit", desc := "(I)Z" }) ∈ lw_all := am_wa 3948 rfl rfl
theorem v_3949 : Cond.privateMethod ({ cls := "UmbrellaBankModel", name := "readsDigit", desc := "(I)Z" }) ∈ lw_tbl := am_wv 3949 rfl
theorem w_3950 : Cond.instanceMethod ({ cls := "UmbrellaBankModel", name := "readsDigit", desc := "(I)Z" }) ∈ lw_all := am_wa 3950 rfl rfl
theorem w_3951 : Cond.code ({ cls := "UmbrellaBankModel", name := "readsDigit", desc := "(I)Z" }) prog_25_method_109_code (2 : Nat) (Option.some FieldType.boolean) ∈ lw_all := am_wa 3951 rfl rfl
theorem w_3952 : Cond.methodLink "UmbrellaBankModel" (240 : Nat) ({ cls := "UmbrellaBankModel", name := "readsNumber", desc := "(I)Z" }) ∈ lw_all := am_wa 3952 rfl rfl
theorem v_3953 : Cond.privateMethod ({ cls := "UmbrellaBankModel", name := "readsNumber", desc := "(I)Z" }) ∈ lw_tbl := am_wv 3953 rfl
theorem w_3954 : Cond.instanceMethod ({ cls := "UmbrellaBankModel", name := "readsNumber", desc := "(I)Z" }) ∈ lw_all := am_wa 3954 rfl rfl
theorem w_3955 : Cond.code ({ cls := "UmbrellaBankModel", name := "readsNumber", desc := "(I)Z" }) prog_25_method_110_code (2 : Nat) (Option.some FieldType.boolean) ∈ lw_all := am_wa 3955 rfl rfl
theorem w_3956 : Cond.methodLink "UmbrellaBankModel" (253 : Nat) ({ cls := "UmbrellaBankModel", name := "readsC", desc := "()Z" }) ∈ lw_all := am_wa 3956 rfl rfl
theorem v_3957 : Cond.privateMethod ({ cls := "UmbrellaBankModel", name := "readsC", desc := "()Z" }) ∈ lw_tbl := am_wv 3957 rfl
theorem w_3958 : Cond.instanceMethod ({ cls := "UmbrellaBankModel", name := "readsC", desc := "()Z" }) ∈ lw_all := am_wa 3958 rfl rfl
theorem w_3959 : Cond.code ({ cls := "UmbrellaBankModel", name := "readsC", desc := "()Z" }) prog_25_method_113_code (1 : Nat) (Option.some FieldType.boolean) ∈ lw_all := am_wa 3959 rfl rfl
theorem w_3960 : Cond.methodLink "UmbrellaBankModel" (256 : Nat) ({ cls := "UmbrellaBankModel", name := "readsR", desc := "()Z" }) ∈ lw_all := am_wa 3960 rfl rfl
theorem v_3961 : Cond.privateMethod ({ cls := "UmbrellaBankModel", name := "readsR", desc := "()Z" }) ∈ lw_tbl := am_wv 3961 rfl
theorem w_3962 : Cond.instanceMethod ({ cls := "UmbrellaBankModel", name := "readsR", desc := "()Z" }) ∈ lw_all := am_wa 3962 rfl rfl
theorem w_3963 : Cond.code ({ cls := "UmbrellaBankModel", name := "readsR", desc := "()Z" }) prog_25_method_114_code (1 : Nat) (Option.some FieldType.boolean) ∈ lw_all := am_wa 3963 rfl rfl
theorem w_3964 : Cond.methodLink "UmbrellaBankModel" (259 : Nat) ({ cls := "UmbrellaBankModel", name := "readsDay", desc := "()Z" }) ∈ lw_all := am_wa 3964 rfl rfl
theorem v_3965 : Cond.privateMethod ({ cls := "UmbrellaBankModel", name := "readsDay", desc := "()Z" }) ∈ lw_tbl := am_wv 3965 rfl
theorem w_3966 : Cond.instanceMethod ({ cls := "UmbrellaBankModel", name := "readsDay", desc := "()Z" }) ∈ lw_all := am_wa 3966 rfl rfl
theorem w_3967 : Cond.code ({ cls := "UmbrellaBankModel", name := "readsDay", desc := "()Z" }) prog_25_method_115_code (1 : Nat) (Option.some FieldType.boolean) ∈ lw_all := am_wa 3967 rfl rfl
theorem w_3968 : Cond.methodLink "UmbrellaBankModel" (277 : Nat) ({ cls := "UmbrellaBankModel", name := "doesAll", desc := "()Z" }) ∈ lw_all := am_wa 3968 rfl rfl
theorem v_3969 : Cond.privateMethod ({ cls := "UmbrellaBankModel", name := "doesAll", desc := "()Z" }) ∈ lw_tbl := am_wv 3969 rfl
theorem w_3970 : Cond.instanceMethod ({ cls := "UmbrellaBankModel", name := "doesAll", desc := "()Z" }) ∈ lw_all := am_wa 3970 rfl rfl
theorem w_3971 : Cond.code ({ cls := "UmbrellaBankModel", name := "doesAll", desc := "()Z" }) prog_25_method_120_code (2 : Nat) (Option.some FieldType.boolean) ∈ lw_all := am_wa 3971 rfl rfl
theorem w_3972 : Cond.methodLink "UmbrellaBankModel" (268 : Nat) ({ cls := "UmbrellaBankModel", name := "notNow", desc := "()I" }) ∈ lw_all := am_wa 3972 rfl rfl
theorem v_3973 : Cond.privateMethod ({ cls := "UmbrellaBankModel", name := "notNow", desc := "()I" }) ∈ lw_tbl := am_wv 3973 rfl
theorem w_3974 : Cond.instanceMethod ({ cls := "UmbrellaBankModel", name := "notNow", desc := "()I" }) ∈ lw_all := am_wa 3974 rfl rfl
theorem w_3975 : Cond.code ({ cls := "UmbrellaBankModel", name := "notNow", desc := "()I" }) prog_25_method_118_code (3 : Nat) (Option.some FieldType.int) ∈ lw_all := am_wa 3975 rfl rfl
theorem w_3976 : Cond.methodLink "UmbrellaBankModel" (271 : Nat) ({ cls := "UmbrellaBankModel", name := "doesNow", desc := "()I" }) ∈ lw_all := am_wa 3976 rfl rfl
theorem v_3977 : Cond.privateMethod ({ cls := "UmbrellaBankModel", name := "doesNow", desc := "()I" }) ∈ lw_tbl := am_wv 3977 rfl
theorem w_3978 : Cond.instanceMethod ({ cls := "UmbrellaBankModel", name := "doesNow", desc := "()I" }) ∈ lw_all := am_wa 3978 rfl rfl
theorem w_3979 : Cond.code ({ cls := "UmbrellaBankModel", name := "doesNow", desc := "()I" }) prog_25_method_119_code (3 : Nat) (Option.some FieldType.int) ∈ lw_all := am_wa 3979 rfl rfl
theorem w_3980 : Cond.methodLink "UmbrellaBankModel" (280 : Nat) ({ cls := "UmbrellaBankModel", name := "goesBack", desc := "()V" }) ∈ lw_all := am_wa 3980 rfl rfl
theorem v_3981 : Cond.privateMethod ({ cls := "UmbrellaBankModel", name := "goesBack", desc := "()V" }) ∈ lw_tbl := am_wv 3981 rfl
theorem w_3982 : Cond.instanceMethod ({ cls := "UmbrellaBankModel", name := "goesBack", desc := "()V" }) ∈ lw_all := am_wa 3982 rfl rfl
theorem w_3983 : Cond.code ({ cls := "UmbrellaBankModel", name := "goesBack", desc := "()V" }) prog_25_method_7_code (2 : Nat) (Option.none : Option FieldType) ∈ lw_all := am_wa 3983 rfl rfl
theorem w_3984 : Cond.methodLink "UmbrellaBankLaw" (349 : Nat) ({ cls := "UmbrellaBankModel", name := "errorPosition", desc := "()I" }) ∈ lw_all := am_wa 3984 rfl rfl
theorem w_3985 : Cond.instanceMethod ({ cls := "UmbrellaBankModel", name := "errorPosition", desc := "()I" }) ∈ lw_all := am_wa 3985 rfl rfl
theorem w_3986 : Cond.selects "UmbrellaBankModel" ({ cls := "UmbrellaBankModel", name := "errorPosition", desc := "()I" }) ({ cls := "UmbrellaBankModel", name := "errorPosition", desc := "()I" }) ∈ lw_all := am_wa 3986 rfl rfl
theorem w_3987 : Cond.code ({ cls := "UmbrellaBankModel", name := "errorPosition", desc := "()I" }) prog_25_method_122_code (1 : Nat) (Option.some FieldType.int) ∈ lw_all := am_wa 3987 rfl rfl
theorem w_3988 : Cond.methodLink "UmbrellaBankLaw" (352 : Nat) ({ cls := "UmbrellaBankModel", name := "failedCommand", desc := "()I" }) ∈ lw_all := am_wa 3988 rfl rfl
theorem w_3989 : Cond.instanceMethod ({ cls := "UmbrellaBankModel", name := "failedCommand", desc := "()I" }) ∈ lw_all := am_wa 3989 rfl rfl
theorem w_3990 : Cond.selects "UmbrellaBankModel" ({ cls := "UmbrellaBankModel", name := "failedCommand", desc := "()I" }) ({ cls := "UmbrellaBankModel", name := "failedCommand", desc := "()I" }) ∈ lw_all := am_wa 3990 rfl rfl
theorem w_3991 : Cond.code ({ cls := "UmbrellaBankModel", name := "failedCommand", desc := "()I" }) prog_25_method_123_code (1 : Nat) (Option.some FieldType.int) ∈ lw_all := am_wa 3991 rfl rfl
theorem w_3992 : Cond.methodLink "UmbrellaBankLaw" (355 : Nat) ({ cls := "UmbrellaBankModel", name := "undo", desc := "()I" }) ∈ lw_all := am_wa 3992 rfl rfl
theorem w_3993 : Cond.instanceMethod ({ cls := "UmbrellaBankModel", name := "undo", desc := "()I" }) ∈ lw_all := am_wa 3993 rfl rfl
theorem w_3994 : Cond.selects "UmbrellaBankModel" ({ cls := "UmbrellaBankModel", name := "undo", desc := "()I" }) ({ cls := "UmbrellaBankModel", name := "undo", desc := "()I" }) ∈ lw_all := am_wa 3994 rfl rfl
theorem w_3995 : Cond.code ({ cls := "UmbrellaBankModel", name := "undo", desc := "()I" }) prog_25_method_124_code (3 : Nat) (Option.some FieldType.int) ∈ lw_all := am_wa 3995 rfl rfl
theorem w_3996 : Cond.methodLink "UmbrellaBankLaw" (359 : Nat) ({ cls := "UmbrellaBankModel", name := "save", desc := "()I" }) ∈ lw_all := am_wa 3996 rfl rfl
theorem w_3997 : Cond.instanceMethod ({ cls := "UmbrellaBankModel", name := "save", desc := "()I" }) ∈ lw_all := am_wa 3997 rfl rfl
theorem w_3998 : Cond.selects "UmbrellaBankModel" ({ cls := "UmbrellaBankModel", name := "save", desc := "()I" }) ({ cls := "UmbrellaBankModel", name := "save", desc := "()I" }) ∈ lw_all := am_wa 3998 rfl rfl
theorem w_3999 : Cond.code ({ cls := "UmbrellaBankModel", name := "save", desc := "()I" }) prog_25_method_125_code (2 : Nat) (Option.some FieldType.int) ∈ lw_all := am_wa 3999 rfl rfl
theorem w_4000 : Cond.methodLink "UmbrellaBankLaw" (362 : Nat) ({ cls := "UmbrellaBankModel", name := "restore", desc := "()I" }) ∈ lw_all := am_wa 4000 rfl rfl
theorem w_4001 : Cond.instanceMethod ({ cls := "UmbrellaBankModel", name := "restore", desc := "()I" }) ∈ lw_all := am_wa 4001 rfl rfl
theorem w_4002 : Cond.selects "UmbrellaBankModel" ({ cls := "UmbrellaBankModel", name := "restore", desc := "()I" }) ({ cls := "UmbrellaBankModel", name := "restore", desc := "()I" }) ∈ lw_all := am_wa 4002 rfl rfl
theorem w_4003 : Cond.code ({ cls := "UmbrellaBankModel", name := "restore", desc := "()I" }) prog_25_method_126_code (2 : Nat) (Option.some FieldType.int) ∈ lw_all := am_wa 4003 rfl rfl
theorem w_4004 : Cond.arrayClass FieldType.long ∈ lw_all := am_wa 4004 rfl rfl
theorem w_4005 : Cond.arrayClass FieldType.double ∈ lw_all := am_wa 4005 rfl rfl
theorem w_4006 : Cond.sameMethod "java/lang/Throwable" "java/lang/Throwable" "fillInStackTrace" "(I)Ljava/lang/Throwable;" ∈ lw_all := am_wa 4006 rfl rfl
theorem w_4007 : Cond.sameMethod "java/lang/AbstractStringBuilder" "java/lang/AbstractStringBuilder" "append" "(I)Ljava/lang/AbstractStringBuilder;" ∈ lw_all := am_wa 4007 rfl rfl
theorem w_4008 : Cond.sameMethod "java/lang/AbstractStringBuilder" "java/lang/AbstractStringBuilder" "ensureCapacityInternal" "(I)V" ∈ lw_all := am_wa 4008 rfl rfl
theorem w_4009 : Cond.sameMethod "java/lang/AbstractStringBuilder" "java/lang/AbstractStringBuilder" "newCapacity" "(I)I" ∈ lw_all := am_wa 4009 rfl rfl
theorem w_4010 : Cond.sameMethod "java/lang/AbstractStringBuilder" "java/lang/AbstractStringBuilder" "append" "(Ljava/lang/String;)Ljava/lang/AbstractStringBuilder;" ∈ lw_all := am_wa 4010 rfl rfl
theorem w_4011 : Cond.sameMethod "java/lang/AbstractStringBuilder" "java/lang/AbstractStringBuilder" "appendNull" "()Ljava/lang/AbstractStringBuilder;" ∈ lw_all := am_wa 4011 rfl rfl
theorem w_4012 : Cond.sameMethod "java/lang/AbstractStringBuilder" "java/lang/AbstractStringBuilder" "putStringAt" "(ILjava/lang/String;)V" ∈ lw_all := am_wa 4012 rfl rfl
theorem w_4013 : Cond.sameMethod "java/lang/AbstractStringBuilder" "java/lang/AbstractStringBuilder" "inflateIfNeededFor" "(Ljava/lang/String;)V" ∈ lw_all := am_wa 4013 rfl rfl
theorem w_4014 : Cond.sameMethod "java/lang/AbstractStringBuilder" "java/lang/AbstractStringBuilder" "inflate" "()V" ∈ lw_all := am_wa 4014 rfl rfl
theorem w_4015 : Cond.selects "java/util/ArrayDeque" ({ cls := "java/util/ArrayDeque", name := "size", desc := "()I" }) ({ cls := "java/util/ArrayDeque", name := "size", desc := "()I" }) ∈ lw_all := am_wa 4015 rfl rfl
theorem w_4016 : Cond.selects "java/util/ArrayList" ({ cls := "java/util/ArrayList", name := "size", desc := "()I" }) ({ cls := "java/util/ArrayList", name := "size", desc := "()I" }) ∈ lw_all := am_wa 4016 rfl rfl
theorem w_4017 : Cond.sameMethod "java/lang/AbstractStringBuilder" "java/lang/AbstractStringBuilder" "compareTo" "(Ljava/lang/AbstractStringBuilder;)I" ∈ lw_all := am_wa 4017 rfl rfl
theorem w_4018 : Cond.selects "java/util/ArrayList" ({ cls := "java/util/ArrayList", name := "iterator", desc := "()Ljava/util/Iterator;" }) ({ cls := "java/util/ArrayList", name := "iterator", desc := "()Ljava/util/Iterator;" }) ∈ lw_all := am_wa 4018 rfl rfl
theorem w_4019 : Cond.selects "UmbrellaBank$Command" ({ cls := "UmbrellaBank$Command", name := "apply", desc := "(LUmbrellaBank$State;)I" }) ({ cls := "UmbrellaBank$Command", name := "apply", desc := "(LUmbrellaBank$State;)I" }) ∈ lw_all := am_wa 4019 rfl rfl
theorem w_4020 : Cond.selects "java/lang/StringBuilder" ({ cls := "java/lang/StringBuilder", name := "length", desc := "()I" }) ({ cls := "java/lang/StringBuilder", name := "length", desc := "()I" }) ∈ lw_all := am_wa 4020 rfl rfl
theorem w_4021 : Cond.sameMethod "java/lang/AbstractStringBuilder" "java/lang/AbstractStringBuilder" "append" "(C)Ljava/lang/AbstractStringBuilder;" ∈ lw_all := am_wa 4021 rfl rfl
theorem w_4022 : Cond.initialized "java/lang/Object" ∈ lw_all := am_wa 4022 rfl rfl
theorem v_4023 : Cond.castable "java/lang/ArrayIndexOutOfBoundsException" "java/lang/IndexOutOfBoundsException" ∈ lw_tbl := am_wv 4023 rfl
theorem v_4024 : Cond.castable "java/lang/String" "java/lang/Object" ∈ lw_tbl := am_wv 4024 rfl
theorem v_4025 : Cond.castable "UmbrellaBank" "java/lang/Object" ∈ lw_tbl := am_wv 4025 rfl
theorem v_4026 : Cond.castable "UmbrellaBank$State" "java/lang/Object" ∈ lw_tbl := am_wv 4026 rfl
theorem v_4027 : Cond.castable "java/util/ArrayList" "java/lang/Object" ∈ lw_tbl := am_wv 4027 rfl
theorem v_4028 : Cond.castable "java/util/ArrayDeque" "java/lang/Object" ∈ lw_tbl := am_wv 4028 rfl
theorem v_4029 : Cond.castable "UmbrellaBankModel" "java/lang/Object" ∈ lw_tbl := am_wv 4029 rfl
theorem v_4030 : Cond.castable "UmbrellaBank$Command" "java/lang/Object" ∈ lw_tbl := am_wv 4030 rfl
theorem v_4031 : Cond.castable "java/lang/IllegalArgumentException" "java/lang/Object" ∈ lw_tbl := am_wv 4031 rfl
theorem v_4032 : Cond.castable "java/lang/StringBuilder" "java/lang/Object" ∈ lw_tbl := am_wv 4032 rfl
theorem v_4033 : Cond.castable "java/lang/System$2" "java/lang/Object" ∈ lw_tbl := am_wv 4033 rfl
theorem v_4034 : Cond.castable "java/lang/IndexOutOfBoundsException" "java/lang/Object" ∈ lw_tbl := am_wv 4034 rfl
theorem v_4035 : Cond.castable "java/lang/IllegalStateException" "java/lang/Object" ∈ lw_tbl := am_wv 4035 rfl
theorem v_4036 : Cond.castable "java/lang/UnsupportedOperationException" "java/lang/Object" ∈ lw_tbl := am_wv 4036 rfl
theorem v_4037 : Cond.castable "UmbrellaBank$Loan" "java/lang/Object" ∈ lw_tbl := am_wv 4037 rfl
theorem v_4038 : Cond.castable "java/util/NoSuchElementException" "java/lang/Object" ∈ lw_tbl := am_wv 4038 rfl
theorem v_4039 : Cond.castable "UmbrellaBank$Calling" "java/lang/Object" ∈ lw_tbl := am_wv 4039 rfl
theorem v_4040 : Cond.castable "java/util/Optional" "java/lang/Object" ∈ lw_tbl := am_wv 4040 rfl
theorem v_4041 : Cond.castable "UmbrellaBank$LoanSet" "java/lang/Object" ∈ lw_tbl := am_wv 4041 rfl
theorem v_4042 : Cond.castable "UmbrellaBank$LoanSet$1" "java/lang/Object" ∈ lw_tbl := am_wv 4042 rfl
theorem v_4043 : Cond.castable "java/util/ArrayList$Itr" "java/lang/Object" ∈ lw_tbl := am_wv 4043 rfl
theorem v_4044 : Cond.castable "java/util/ConcurrentModificationException" "java/lang/Object" ∈ lw_tbl := am_wv 4044 rfl
theorem v_4045 : Cond.castable "UmbrellaBank$Claim" "java/lang/Object" ∈ lw_tbl := am_wv 4045 rfl
theorem v_4046 : Cond.castable "UmbrellaBank$Netting" "java/lang/Object" ∈ lw_tbl := am_wv 4046 rfl
theorem v_4047 : Cond.castable "java/util/PriorityQueue" "java/lang/Object" ∈ lw_tbl := am_wv 4047 rfl
theorem v_4048 : Cond.castable "UmbrellaBank$ByDrops" "java/lang/Object" ∈ lw_tbl := am_wv 4048 rfl
theorem v_4049 : Cond.castable "UmbrellaBank$Net" "java/lang/Object" ∈ lw_tbl := am_wv 4049 rfl
theorem v_4050 : Cond.castable "jdk/internal/misc/Unsafe" "java/lang/Object" ∈ lw_tbl := am_wv 4050 rfl
theorem v_4051 : Cond.castable "java/lang/ArrayIndexOutOfBoundsException" "java/lang/Object" ∈ lw_tbl := am_wv 4051 rfl
theorem v_4052 : Cond.castable "UmbrellaBank$OneDay" "java/lang/Object" ∈ lw_tbl := am_wv 4052 rfl
theorem v_4053 : Cond.castable "UmbrellaBank$TwoSpans" "java/lang/Object" ∈ lw_tbl := am_wv 4053 rfl
theorem v_4054 : Cond.castable "UmbrellaBank$1Window" "java/lang/Object" ∈ lw_tbl := am_wv 4054 rfl
theorem v_4055 : Cond.castable "UmbrellaBank$Urgency" "java/lang/Object" ∈ lw_tbl := am_wv 4055 rfl
theorem v_4056 : Cond.castable "java/util/TreeMap" "java/lang/Object" ∈ lw_tbl := am_wv 4056 rfl
theorem v_4057 : Cond.castable "java/lang/Integer" "java/lang/Object" ∈ lw_tbl := am_wv 4057 rfl
theorem v_4058 : Cond.castable "java/util/TreeMap$Entry" "java/lang/Object" ∈ lw_tbl := am_wv 4058 rfl
theorem v_4059 : Cond.castable "java/util/TreeMap$KeySet" "java/lang/Object" ∈ lw_tbl := am_wv 4059 rfl
theorem v_4060 : Cond.castable "java/util/TreeMap$KeyIterator" "java/lang/Object" ∈ lw_tbl := am_wv 4060 rfl
theorem v_4061 : Cond.castable "UmbrellaBank$Netting$1Look" "java/lang/Object" ∈ lw_tbl := am_wv 4061 rfl
theorem v_4062 : Cond.castable "java/lang/ArithmeticException" "java/lang/Object" ∈ lw_tbl := am_wv 4062 rfl
theorem v_4063 : Cond.castable "UmbrellaBank$1" "java/lang/Object" ∈ lw_tbl := am_wv 4063 rfl
theorem v_4064 : Cond.castable "UmbrellaBank$Script" "java/lang/Object" ∈ lw_tbl := am_wv 4064 rfl
theorem v_4065 : Cond.castable "UmbrellaBank$Parser" "java/lang/Object" ∈ lw_tbl := am_wv 4065 rfl
theorem v_4066 : Cond.castable "java/util/ImmutableCollections$ListN" "java/lang/Object" ∈ lw_tbl := am_wv 4066 rfl
theorem v_4067 : Cond.castable "java/util/ImmutableCollections$List12" "java/lang/Object" ∈ lw_tbl := am_wv 4067 rfl
theorem v_4068 : Cond.castable "java/util/ImmutableCollections$ListItr" "java/lang/Object" ∈ lw_tbl := am_wv 4068 rfl
theorem v_4069 : Cond.castable "UmbrellaBank$SyntaxError" "java/lang/Object" ∈ lw_tbl := am_wv 4069 rfl
theorem v_4070 : Cond.castable "java/util/ArrayDeque$DeqIterator" "java/lang/Object" ∈ lw_tbl := am_wv 4070 rfl
theorem v_4071 : Cond.castable "java/util/PriorityQueue$Itr" "java/lang/Object" ∈ lw_tbl := am_wv 4071 rfl
theorem v_4072 : Cond.castable "java/lang/Throwable" "java/lang/Object" ∈ lw_tbl := am_wv 4072 rfl
theorem w_4073 : Cond.sameMethod "[Ljava/lang/Object;" "java/lang/Object" "getClass" "()Ljava/lang/Class;" ∈ lw_all := am_wa 4073 rfl rfl
theorem w_4074 : Cond.selects "[Ljava/lang/Object;" ({ cls := "java/lang/Object", name := "getClass", desc := "()Ljava/lang/Class;" }) ({ cls := "java/lang/Object", name := "getClass", desc := "()Ljava/lang/Class;" }) ∈ lw_all := am_wa 4074 rfl rfl
theorem v_4075 : Cond.declares ({ cls := "java/lang/Object", name := "getClass", desc := "()Ljava/lang/Class;" }) ∈ lw_tbl := am_wv 4075 rfl
theorem v_4076 : Cond.castable "[[I" "java/lang/Object" ∈ lw_tbl := am_wv 4076 rfl
theorem v_4077 : Cond.castable "[I" "java/lang/Object" ∈ lw_tbl := am_wv 4077 rfl
theorem v_4078 : Cond.castable "[Ljava/lang/Object;" "java/lang/Object" ∈ lw_tbl := am_wv 4078 rfl
theorem v_4079 : Cond.castable "[B" "java/lang/Object" ∈ lw_tbl := am_wv 4079 rfl
theorem v_4080 : Cond.castable "[C" "java/lang/Object" ∈ lw_tbl := am_wv 4080 rfl
theorem v_4081 : Cond.castable "[Ljava/lang/String;" "java/lang/Object" ∈ lw_tbl := am_wv 4081 rfl
theorem v_4082 : Cond.castable "[J" "java/lang/Object" ∈ lw_tbl := am_wv 4082 rfl
theorem v_4083 : Cond.castable "[D" "java/lang/Object" ∈ lw_tbl := am_wv 4083 rfl
theorem w_4084 : Cond.arrayClass FieldType.short ∈ lw_all := am_wa 4084 rfl rfl
