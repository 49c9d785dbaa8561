section
-- ===== PART A: goes FIRST, ahead of the names: the tables' words, and 'selects' of the private methods out of them =====
def lw_okq (q : MethodName × Nat) : Prop := (q.1.cls ≠ "java/lang/invoke/MethodHandle" ∧ q.1.cls ≠ "java/lang/invoke/VarHandle") ∧ Cond.instantiable q.1.cls q.2 ∈ tables_1 ∧ Cond.privateMethod q.1 ∈ tables_1 ∧ Cond.instanceMethod q.1 ∈ tables_1
set_option maxRecDepth 100000
set_option maxRecDepth 100000 in
theorem lw_t1 {w : Cond} (h : w ∈ tables_1_1) : w ∈ tables_1 := by sorry
set_option maxRecDepth 100000 in
theorem lw_t2 {w : Cond} (h : w ∈ tables_1_2) : w ∈ tables_1 := by sorry
set_option maxRecDepth 100000 in
theorem lw_t3 {w : Cond} (h : w ∈ tables_1_3) : w ∈ tables_1 := by sorry
set_option maxRecDepth 100000 in
theorem lw_t4 {w : Cond} (h : w ∈ tables_1_4) : w ∈ tables_1 := by sorry
set_option maxRecDepth 100000 in
theorem lw_t5 {w : Cond} (h : w ∈ tables_1_5) : w ∈ tables_1 := by sorry
set_option maxRecDepth 100000 in
theorem lw_t6 {w : Cond} (h : w ∈ tables_1_6) : w ∈ tables_1 := by sorry
set_option maxRecDepth 100000 in
theorem lw_t7 {w : Cond} (h : w ∈ tables_1_7) : w ∈ tables_1 := by sorry
set_option maxRecDepth 100000 in
theorem lw_t8 {w : Cond} (h : w ∈ tables_1_8) : w ∈ tables_1 := by sorry
set_option maxRecDepth 100000 in
theorem lw_t9 {w : Cond} (h : w ∈ tables_1_9) : w ∈ tables_1 := by sorry
set_option maxRecDepth 100000 in
theorem lw_t10 {w : Cond} (h : w ∈ tables_1_10) : w ∈ tables_1 := by sorry
set_option maxRecDepth 100000 in
theorem lw_t11 {w : Cond} (h : w ∈ tables_1_11) : w ∈ tables_1 := by sorry
set_option maxRecDepth 100000 in
theorem lw_t12 {w : Cond} (h : w ∈ tables_1_12) : w ∈ tables_1 := by sorry
set_option maxRecDepth 100000 in
theorem lw_t13 {w : Cond} (h : w ∈ tables_1_13) : w ∈ tables_1 := by sorry
set_option maxRecDepth 100000 in
theorem lw_t14 {w : Cond} (h : w ∈ tables_1_14) : w ∈ tables_1 := by sorry
set_option maxRecDepth 100000 in
theorem lw_t15 {w : Cond} (h : w ∈ tables_1_15) : w ∈ tables_1 := by sorry
set_option maxRecDepth 100000 in
theorem lw_t16 {w : Cond} (h : w ∈ tables_1_16) : w ∈ tables_1 := by sorry
set_option maxRecDepth 100000 in
theorem lw_t17 {w : Cond} (h : w ∈ tables_1_17) : w ∈ tables_1 := by sorry
set_option maxRecDepth 100000 in
theorem lw_t18 {w : Cond} (h : w ∈ tables_1_18) : w ∈ tables_1 := by sorry
set_option maxRecDepth 100000 in
theorem lw_p0 : lw_okq (⟨"java/lang/Throwable", "fillInStackTrace", "(I)Ljava/lang/Throwable;"⟩, 6) := by sorry
set_option maxRecDepth 100000 in
theorem lw_p1 : lw_okq (⟨"java/util/BitSet", "initWords", "(I)V"⟩, 3) := by sorry
set_option maxRecDepth 100000 in
theorem lw_p2 : lw_okq (⟨"ProofLibrary", "put", "(I)V"⟩, 26) := by sorry
set_option maxRecDepth 100000 in
theorem lw_p3 : lw_okq (⟨"ProofLibrary$Tape", "isKey", "()Z"⟩, 5) := by sorry
set_option maxRecDepth 100000 in
theorem lw_p4 : lw_okq (⟨"ProofLibrary$Tape", "comment", "()V"⟩, 5) := by sorry
set_option maxRecDepth 100000 in
theorem lw_p5 : lw_okq (⟨"ProofLibrary$Tape", "has", "(CC)Z"⟩, 5) := by sorry
set_option maxRecDepth 100000 in
theorem lw_p6 : lw_okq (⟨"ProofLibrary$Reader", "statement", "()V"⟩, 13) := by sorry
set_option maxRecDepth 100000 in
theorem lw_p7 : lw_okq (⟨"ProofLibrary$Reader", "need", "(ZI)V"⟩, 13) := by sorry
set_option maxRecDepth 100000 in
theorem lw_p8 : lw_okq (⟨"ProofLibrary$Reader", "constants", "()V"⟩, 13) := by sorry
set_option maxRecDepth 100000 in
theorem lw_p9 : lw_okq (⟨"ProofLibrary$Reader", "isMore", "(IZ)Z"⟩, 13) := by sorry
set_option maxRecDepth 100000 in
theorem lw_p10 : lw_okq (⟨"ProofLibrary$Reader", "key", "()I"⟩, 13) := by sorry
set_option maxRecDepth 100000 in
theorem lw_p11 : lw_okq (⟨"ProofLibrary$Reader", "needName", "(Z)V"⟩, 13) := by sorry
set_option maxRecDepth 100000 in
theorem lw_p12 : lw_okq (⟨"java/util/ArrayList", "add", "(Ljava/lang/Object;[Ljava/lang/Object;I)V"⟩, 3) := by sorry
set_option maxRecDepth 100000 in
theorem lw_p13 : lw_okq (⟨"java/util/ArrayList", "grow", "()[Ljava/lang/Object;"⟩, 3) := by sorry
set_option maxRecDepth 100000 in
theorem lw_p14 : lw_okq (⟨"java/util/ArrayList", "grow", "(I)[Ljava/lang/Object;"⟩, 3) := by sorry
set_option maxRecDepth 100000 in
theorem lw_p15 : lw_okq (⟨"ProofLibrary$Reader", "variables", "()V"⟩, 13) := by sorry
def lw_privs_1 : List (MethodName × Nat) := [(⟨"java/lang/Throwable", "fillInStackTrace", "(I)Ljava/lang/Throwable;"⟩, 6), (⟨"java/util/BitSet", "initWords", "(I)V"⟩, 3), (⟨"ProofLibrary", "put", "(I)V"⟩, 26), (⟨"ProofLibrary$Tape", "isKey", "()Z"⟩, 5), (⟨"ProofLibrary$Tape", "comment", "()V"⟩, 5), (⟨"ProofLibrary$Tape", "has", "(CC)Z"⟩, 5), (⟨"ProofLibrary$Reader", "statement", "()V"⟩, 13), (⟨"ProofLibrary$Reader", "need", "(ZI)V"⟩, 13), (⟨"ProofLibrary$Reader", "constants", "()V"⟩, 13), (⟨"ProofLibrary$Reader", "isMore", "(IZ)Z"⟩, 13), (⟨"ProofLibrary$Reader", "key", "()I"⟩, 13), (⟨"ProofLibrary$Reader", "needName", "(Z)V"⟩, 13), (⟨"java/util/ArrayList", "add", "(Ljava/lang/Object;[Ljava/lang/Object;I)V"⟩, 3), (⟨"java/util/ArrayList", "grow", "()[Ljava/lang/Object;"⟩, 3), (⟨"java/util/ArrayList", "grow", "(I)[Ljava/lang/Object;"⟩, 3), (⟨"ProofLibrary$Reader", "variables", "()V"⟩, 13)]
set_option maxRecDepth 100000 in
theorem lw_r1 : ∀ q ∈ lw_privs_1, lw_okq q := by sorry
set_option maxRecDepth 100000 in
theorem lw_p16 : lw_okq (⟨"ProofLibrary$Reader", "symbol", "()I"⟩, 13) := by sorry
set_option maxRecDepth 100000 in
theorem lw_p17 : lw_okq (⟨"java/util/ArrayDeque", "grow", "(I)V"⟩, 3) := by sorry
set_option maxRecDepth 100000 in
theorem lw_p18 : lw_okq (⟨"java/util/ArrayDeque", "newCapacity", "(II)I"⟩, 3) := by sorry
set_option maxRecDepth 100000 in
theorem lw_p19 : lw_okq (⟨"ProofLibrary$Reader", "apart", "()V"⟩, 13) := by sorry
set_option maxRecDepth 100000 in
theorem lw_p20 : lw_okq (⟨"ProofLibrary$Reader", "isTold", "(II)Z"⟩, 13) := by sorry
set_option maxRecDepth 100000 in
theorem lw_p21 : lw_okq (⟨"ProofLibrary$Reader", "countNew", "(II)I"⟩, 13) := by sorry
set_option maxRecDepth 100000 in
theorem lw_p22 : lw_okq (⟨"ProofLibrary$Reader", "labelled", "()V"⟩, 13) := by sorry
set_option maxRecDepth 100000 in
theorem lw_p23 : lw_okq (⟨"ProofLibrary$Reader", "floating", "(I)V"⟩, 13) := by sorry
set_option maxRecDepth 100000 in
theorem lw_p24 : lw_okq (⟨"ProofLibrary$Reader", "constant", "(I)V"⟩, 13) := by sorry
set_option maxRecDepth 100000 in
theorem lw_p25 : lw_okq (⟨"ProofLibrary$Reader", "needRoom", "(I)V"⟩, 13) := by sorry
set_option maxRecDepth 100000 in
theorem lw_p26 : lw_okq (⟨"ProofLibrary$Reader", "put", "(II)V"⟩, 13) := by sorry
set_option maxRecDepth 100000 in
theorem lw_p27 : lw_okq (⟨"ProofLibrary$Reader", "row", "(II)V"⟩, 13) := by sorry
set_option maxRecDepth 100000 in
theorem lw_p28 : lw_okq (⟨"ProofLibrary$Reader", "floatingOnes", "(I)V"⟩, 13) := by sorry
set_option maxRecDepth 100000 in
theorem lw_p29 : lw_okq (⟨"ProofLibrary$Reader", "see", "(I)V"⟩, 13) := by sorry
set_option maxRecDepth 100000 in
theorem lw_p30 : lw_okq (⟨"java/util/BitSet", "expandTo", "(I)V"⟩, 3) := by sorry
set_option maxRecDepth 100000 in
theorem lw_p31 : lw_okq (⟨"java/util/BitSet", "ensureCapacity", "(I)V"⟩, 3) := by sorry
def lw_privs_2 : List (MethodName × Nat) := [(⟨"ProofLibrary$Reader", "symbol", "()I"⟩, 13), (⟨"java/util/ArrayDeque", "grow", "(I)V"⟩, 3), (⟨"java/util/ArrayDeque", "newCapacity", "(II)I"⟩, 3), (⟨"ProofLibrary$Reader", "apart", "()V"⟩, 13), (⟨"ProofLibrary$Reader", "isTold", "(II)Z"⟩, 13), (⟨"ProofLibrary$Reader", "countNew", "(II)I"⟩, 13), (⟨"ProofLibrary$Reader", "labelled", "()V"⟩, 13), (⟨"ProofLibrary$Reader", "floating", "(I)V"⟩, 13), (⟨"ProofLibrary$Reader", "constant", "(I)V"⟩, 13), (⟨"ProofLibrary$Reader", "needRoom", "(I)V"⟩, 13), (⟨"ProofLibrary$Reader", "put", "(II)V"⟩, 13), (⟨"ProofLibrary$Reader", "row", "(II)V"⟩, 13), (⟨"ProofLibrary$Reader", "floatingOnes", "(I)V"⟩, 13), (⟨"ProofLibrary$Reader", "see", "(I)V"⟩, 13), (⟨"java/util/BitSet", "expandTo", "(I)V"⟩, 3), (⟨"java/util/BitSet", "ensureCapacity", "(I)V"⟩, 3)]
set_option maxRecDepth 100000 in
theorem lw_r2 : ∀ q ∈ lw_privs_2, lw_okq q := by sorry
set_option maxRecDepth 100000 in
theorem lw_p32 : lw_okq (⟨"java/util/BitSet", "checkInvariants", "()V"⟩, 3) := by sorry
set_option maxRecDepth 100000 in
theorem lw_p33 : lw_okq (⟨"ProofLibrary$Reader", "frame", "(I)V"⟩, 13) := by sorry
set_option maxRecDepth 100000 in
theorem lw_p34 : lw_okq (⟨"ProofLibrary$Reader", "proof", "(I)V"⟩, 13) := by sorry
set_option maxRecDepth 100000 in
theorem lw_p35 : lw_okq (⟨"ProofLibrary$Reader", "packed", "(I)V"⟩, 13) := by sorry
set_option maxRecDepth 100000 in
theorem lw_p36 : lw_okq (⟨"ProofLibrary$Reader", "stepAt", "(I)I"⟩, 13) := by sorry
set_option maxRecDepth 100000 in
theorem lw_p37 : lw_okq (⟨"ProofLibrary$Reader", "isMandatory", "(II)Z"⟩, 13) := by sorry
set_option maxRecDepth 100000 in
theorem lw_p38 : lw_okq (⟨"ProofLibrary$Reader", "needStepRoom", "(I)V"⟩, 13) := by sorry
set_option maxRecDepth 100000 in
theorem lw_p39 : lw_okq (⟨"ProofLibrary$Reader$Letters", "end", "()V"⟩, 6) := by sorry
set_option maxRecDepth 100000 in
theorem lw_p40 : lw_okq (⟨"ProofLibrary$Reader", "addStep", "(II)V"⟩, 13) := by sorry
set_option maxRecDepth 100000 in
theorem lw_p41 : lw_okq (⟨"ProofLibrary$Reader", "plain", "(II)V"⟩, 13) := by sorry
set_option maxRecDepth 100000 in
theorem lw_p42 : lw_okq (⟨"ProofLibrary$Reader", "goThrough", "(I)V"⟩, 13) := by sorry
set_option maxRecDepth 100000 in
theorem lw_p43 : lw_okq (⟨"ProofLibrary$Pile", "push", "([III)V"⟩, 13) := by sorry
set_option maxRecDepth 100000 in
theorem lw_p44 : lw_okq (⟨"ProofLibrary$Pile", "isTooMuch", "()Z"⟩, 13) := by sorry
set_option maxRecDepth 100000 in
theorem lw_p45 : lw_okq (⟨"ProofLibrary$Pile", "apply", "(ILProofLibrary$Apart;)I"⟩, 13) := by sorry
set_option maxRecDepth 100000 in
theorem lw_p46 : lw_okq (⟨"ProofLibrary$Pile", "fits", "(II)Z"⟩, 13) := by sorry
set_option maxRecDepth 100000 in
theorem lw_p47 : lw_okq (⟨"ProofLibrary$Pile", "areApart", "(IILProofLibrary$Apart;)Z"⟩, 13) := by sorry
def lw_privs_3 : List (MethodName × Nat) := [(⟨"java/util/BitSet", "checkInvariants", "()V"⟩, 3), (⟨"ProofLibrary$Reader", "frame", "(I)V"⟩, 13), (⟨"ProofLibrary$Reader", "proof", "(I)V"⟩, 13), (⟨"ProofLibrary$Reader", "packed", "(I)V"⟩, 13), (⟨"ProofLibrary$Reader", "stepAt", "(I)I"⟩, 13), (⟨"ProofLibrary$Reader", "isMandatory", "(II)Z"⟩, 13), (⟨"ProofLibrary$Reader", "needStepRoom", "(I)V"⟩, 13), (⟨"ProofLibrary$Reader$Letters", "end", "()V"⟩, 6), (⟨"ProofLibrary$Reader", "addStep", "(II)V"⟩, 13), (⟨"ProofLibrary$Reader", "plain", "(II)V"⟩, 13), (⟨"ProofLibrary$Reader", "goThrough", "(I)V"⟩, 13), (⟨"ProofLibrary$Pile", "push", "([III)V"⟩, 13), (⟨"ProofLibrary$Pile", "isTooMuch", "()Z"⟩, 13), (⟨"ProofLibrary$Pile", "apply", "(ILProofLibrary$Apart;)I"⟩, 13), (⟨"ProofLibrary$Pile", "fits", "(II)Z"⟩, 13), (⟨"ProofLibrary$Pile", "areApart", "(IILProofLibrary$Apart;)Z"⟩, 13)]
set_option maxRecDepth 100000 in
theorem lw_r3 : ∀ q ∈ lw_privs_3, lw_okq q := by sorry
set_option maxRecDepth 100000 in
theorem lw_p48 : lw_okq (⟨"ProofLibrary$Pile", "gather", "(ILjava/util/BitSet;)V"⟩, 13) := by sorry
set_option maxRecDepth 100000 in
theorem lw_p49 : lw_okq (⟨"ProofLibrary$Pile", "add", "(I)Z"⟩, 13) := by sorry
set_option maxRecDepth 100000 in
theorem lw_p50 : lw_okq (⟨"ProofLibrary$Pile", "length", "(I)I"⟩, 13) := by sorry
set_option maxRecDepth 100000 in
theorem lw_p51 : lw_okq (⟨"ProofLibrary$Reader", "rest", "(I)V"⟩, 13) := by sorry
set_option maxRecDepth 100000 in
theorem lw_p52 : lw_okq (⟨"java/util/ArrayList", "fastRemove", "([Ljava/lang/Object;I)V"⟩, 3) := by sorry
set_option maxRecDepth 100000 in
theorem lw_p53 : lw_okq (⟨"ProofLibrary$Book", "endBeginning", "(I)V"⟩, 21) := by sorry
set_option maxRecDepth 100000 in
theorem lw_p54 : lw_okq (⟨"ProofLibrary", "forget", "()V"⟩, 26) := by sorry
set_option maxRecDepth 100000 in
theorem lw_p55 : lw_okq (⟨"ProofLibrary", "countFlags", "([ZI)I"⟩, 26) := by sorry
set_option maxRecDepth 100000 in
theorem lw_p56 : lw_okq (⟨"ProofLibrary", "countKind", "(I)I"⟩, 26) := by sorry
set_option maxRecDepth 100000 in
theorem lw_p57 : lw_okq (⟨"ProofLibrary", "isSymbol", "(I)Z"⟩, 26) := by sorry
set_option maxRecDepth 100000 in
theorem lw_p58 : lw_okq (⟨"ProofLibrary", "isAssertion", "(I)Z"⟩, 26) := by sorry
set_option maxRecDepth 100000 in
theorem lw_p59 : lw_okq (⟨"ProofLibrary", "isProved", "(I)Z"⟩, 26) := by sorry
set_option maxRecDepth 100000 in
theorem lw_p60 : lw_okq (⟨"ProofLibrary$Rows", "make", "(II)I"⟩, 8) := by sorry
set_option maxRecDepth 100000 in
theorem lw_p61 : lw_okq (⟨"ProofLibrary", "isRow", "(II)Z"⟩, 26) := by sorry
set_option maxRecDepth 100000 in
theorem lw_p62 : lw_okq (⟨"ProofLibrary", "sayToken", "(Ljava/lang/String;)Z"⟩, 26) := by sorry
set_option maxRecDepth 100000 in
theorem lw_p63 : lw_okq (⟨"ProofLibrary", "say", "(I)Z"⟩, 26) := by sorry
def lw_privs_4 : List (MethodName × Nat) := [(⟨"ProofLibrary$Pile", "gather", "(ILjava/util/BitSet;)V"⟩, 13), (⟨"ProofLibrary$Pile", "add", "(I)Z"⟩, 13), (⟨"ProofLibrary$Pile", "length", "(I)I"⟩, 13), (⟨"ProofLibrary$Reader", "rest", "(I)V"⟩, 13), (⟨"java/util/ArrayList", "fastRemove", "([Ljava/lang/Object;I)V"⟩, 3), (⟨"ProofLibrary$Book", "endBeginning", "(I)V"⟩, 21), (⟨"ProofLibrary", "forget", "()V"⟩, 26), (⟨"ProofLibrary", "countFlags", "([ZI)I"⟩, 26), (⟨"ProofLibrary", "countKind", "(I)I"⟩, 26), (⟨"ProofLibrary", "isSymbol", "(I)Z"⟩, 26), (⟨"ProofLibrary", "isAssertion", "(I)Z"⟩, 26), (⟨"ProofLibrary", "isProved", "(I)Z"⟩, 26), (⟨"ProofLibrary$Rows", "make", "(II)I"⟩, 8), (⟨"ProofLibrary", "isRow", "(II)Z"⟩, 26), (⟨"ProofLibrary", "sayToken", "(Ljava/lang/String;)Z"⟩, 26), (⟨"ProofLibrary", "say", "(I)Z"⟩, 26)]
set_option maxRecDepth 100000 in
theorem lw_r4 : ∀ q ∈ lw_privs_4, lw_okq q := by sorry
set_option maxRecDepth 100000 in
theorem lw_p64 : lw_okq (⟨"ProofLibrary", "give", "(Z)I"⟩, 26) := by sorry
set_option maxRecDepth 100000 in
theorem lw_p65 : lw_okq (⟨"ProofLibrary", "saySymbols", "([III)Z"⟩, 26) := by sorry
set_option maxRecDepth 100000 in
theorem lw_p66 : lw_okq (⟨"ProofLibrary", "sayRow", "(II)Z"⟩, 26) := by sorry
set_option maxRecDepth 100000 in
theorem lw_p67 : lw_okq (⟨"ProofLibrary", "printMore", "(II)I"⟩, 26) := by sorry
set_option maxRecDepth 100000 in
theorem lw_p68 : lw_okq (⟨"ProofLibrary", "printProof", "(II)I"⟩, 26) := by sorry
set_option maxRecDepth 100000 in
theorem lw_p69 : lw_okq (⟨"ProofLibrary", "sayPacked", "(I)Z"⟩, 26) := by sorry
set_option maxRecDepth 100000 in
theorem lw_p70 : lw_okq (⟨"ProofLibrary$Packer", "findKinds", "(LProofLibrary$Rows;)V"⟩, 19) := by sorry
set_option maxRecDepth 100000 in
theorem lw_p71 : lw_okq (⟨"ProofLibrary$Packer", "find", "()I"⟩, 19) := by sorry
set_option maxRecDepth 100000 in
theorem lw_p72 : lw_okq (⟨"ProofLibrary$Packer", "isSame", "(I)Z"⟩, 19) := by sorry
set_option maxRecDepth 100000 in
theorem lw_p73 : lw_okq (⟨"ProofLibrary$Packer", "walk", "(Z)V"⟩, 19) := by sorry
set_option maxRecDepth 100000 in
theorem lw_p74 : lw_okq (⟨"ProofLibrary$Packer", "add", "(ZI)V"⟩, 19) := by sorry
set_option maxRecDepth 100000 in
theorem lw_p75 : lw_okq (⟨"ProofLibrary$Packer", "findLabels", "()V"⟩, 19) := by sorry
set_option maxRecDepth 100000 in
theorem lw_p76 : lw_okq (⟨"ProofLibrary", "sayNumber", "(I)Z"⟩, 26) := by sorry
set_option maxRecDepth 100000 in
theorem lw_p77 : lw_okq (⟨"ProofLibrary", "sizeOf", "(I)J"⟩, 26) := by sorry
set_option maxRecDepth 100000 in
theorem lw_p78 : lw_okq (⟨"ProofLibrary", "sayInFull", "(I)Z"⟩, 26) := by sorry
set_option maxRecDepth 100000 in
theorem lw_p79 : lw_okq (⟨"ProofLibrary$Grammar", "symbolOf", "(Ljava/lang/String;)I"⟩, 27) := by sorry
def lw_privs_5 : List (MethodName × Nat) := [(⟨"ProofLibrary", "give", "(Z)I"⟩, 26), (⟨"ProofLibrary", "saySymbols", "([III)Z"⟩, 26), (⟨"ProofLibrary", "sayRow", "(II)Z"⟩, 26), (⟨"ProofLibrary", "printMore", "(II)I"⟩, 26), (⟨"ProofLibrary", "printProof", "(II)I"⟩, 26), (⟨"ProofLibrary", "sayPacked", "(I)Z"⟩, 26), (⟨"ProofLibrary$Packer", "findKinds", "(LProofLibrary$Rows;)V"⟩, 19), (⟨"ProofLibrary$Packer", "find", "()I"⟩, 19), (⟨"ProofLibrary$Packer", "isSame", "(I)Z"⟩, 19), (⟨"ProofLibrary$Packer", "walk", "(Z)V"⟩, 19), (⟨"ProofLibrary$Packer", "add", "(ZI)V"⟩, 19), (⟨"ProofLibrary$Packer", "findLabels", "()V"⟩, 19), (⟨"ProofLibrary", "sayNumber", "(I)Z"⟩, 26), (⟨"ProofLibrary", "sizeOf", "(I)J"⟩, 26), (⟨"ProofLibrary", "sayInFull", "(I)Z"⟩, 26), (⟨"ProofLibrary$Grammar", "symbolOf", "(Ljava/lang/String;)I"⟩, 27)]
set_option maxRecDepth 100000 in
theorem lw_r5 : ∀ q ∈ lw_privs_5, lw_okq q := by sorry
set_option maxRecDepth 100000 in
theorem lw_p80 : lw_okq (⟨"ProofLibrary$Grammar", "isRule", "(II)Z"⟩, 27) := by sorry
set_option maxRecDepth 100000 in
theorem lw_p81 : lw_okq (⟨"ProofLibrary$Grammar", "addRule", "(I)V"⟩, 27) := by sorry
set_option maxRecDepth 100000 in
theorem lw_p82 : lw_okq (⟨"ProofLibrary$Grammar", "sortOf", "(I)I"⟩, 27) := by sorry
set_option maxRecDepth 100000 in
theorem lw_p83 : lw_okq (⟨"ProofLibrary$Grammar", "placeOf", "(II)I"⟩, 27) := by sorry
set_option maxRecDepth 100000 in
theorem lw_p84 : lw_okq (⟨"ProofLibrary$Grammar", "grow", "(I)V"⟩, 27) := by sorry
set_option maxRecDepth 100000 in
theorem lw_p85 : lw_okq (⟨"ProofLibrary$Grammar", "typeOf", "(II)I"⟩, 27) := by sorry
set_option maxRecDepth 100000 in
theorem lw_p86 : lw_okq (⟨"ProofLibrary$Grammar", "sortBy", "(I)I"⟩, 27) := by sorry
set_option maxRecDepth 100000 in
theorem lw_p87 : lw_okq (⟨"ProofLibrary$Grammar", "goFrom", "(I)V"⟩, 27) := by sorry
set_option maxRecDepth 100000 in
theorem lw_p88 : lw_okq (⟨"ProofLibrary$Grammar", "goOn", "(III)V"⟩, 27) := by sorry
set_option maxRecDepth 100000 in
theorem lw_p89 : lw_okq (⟨"ProofLibrary$Grammar", "add", "(III)V"⟩, 27) := by sorry
set_option maxRecDepth 100000 in
theorem lw_p90 : lw_okq (⟨"ProofLibrary$Grammar", "finish", "(II)V"⟩, 27) := by sorry
set_option maxRecDepth 100000 in
theorem lw_p91 : lw_okq (⟨"ProofLibrary$Grammar", "variableSort", "(II)I"⟩, 27) := by sorry
set_option maxRecDepth 100000 in
theorem lw_p92 : lw_okq (⟨"ProofLibrary$Grammar", "waysTo", "(II)I"⟩, 27) := by sorry
set_option maxRecDepth 100000 in
theorem lw_p93 : lw_okq (⟨"ProofLibrary$Grammar", "byOne", "(III)I"⟩, 27) := by sorry
set_option maxRecDepth 100000 in
theorem lw_p94 : lw_okq (⟨"ProofLibrary$Grammar", "expand", "(LProofLibrary$Forest;I)V"⟩, 27) := by sorry
set_option maxRecDepth 100000 in
theorem lw_p95 : lw_okq (⟨"ProofLibrary$Grammar", "makes", "(III)Z"⟩, 27) := by sorry
def lw_privs_6 : List (MethodName × Nat) := [(⟨"ProofLibrary$Grammar", "isRule", "(II)Z"⟩, 27), (⟨"ProofLibrary$Grammar", "addRule", "(I)V"⟩, 27), (⟨"ProofLibrary$Grammar", "sortOf", "(I)I"⟩, 27), (⟨"ProofLibrary$Grammar", "placeOf", "(II)I"⟩, 27), (⟨"ProofLibrary$Grammar", "grow", "(I)V"⟩, 27), (⟨"ProofLibrary$Grammar", "typeOf", "(II)I"⟩, 27), (⟨"ProofLibrary$Grammar", "sortBy", "(I)I"⟩, 27), (⟨"ProofLibrary$Grammar", "goFrom", "(I)V"⟩, 27), (⟨"ProofLibrary$Grammar", "goOn", "(III)V"⟩, 27), (⟨"ProofLibrary$Grammar", "add", "(III)V"⟩, 27), (⟨"ProofLibrary$Grammar", "finish", "(II)V"⟩, 27), (⟨"ProofLibrary$Grammar", "variableSort", "(II)I"⟩, 27), (⟨"ProofLibrary$Grammar", "waysTo", "(II)I"⟩, 27), (⟨"ProofLibrary$Grammar", "byOne", "(III)I"⟩, 27), (⟨"ProofLibrary$Grammar", "expand", "(LProofLibrary$Forest;I)V"⟩, 27), (⟨"ProofLibrary$Grammar", "makes", "(III)Z"⟩, 27)]
set_option maxRecDepth 100000 in
theorem lw_r6 : ∀ q ∈ lw_privs_6, lw_okq q := by sorry
set_option maxRecDepth 100000 in
theorem lw_p96 : lw_okq (⟨"ProofLibrary$Grammar", "mayBe", "(II)Z"⟩, 27) := by sorry
set_option maxRecDepth 100000 in
theorem lw_p97 : lw_okq (⟨"ProofLibrary$Grammar", "step", "(IIII)V"⟩, 27) := by sorry
set_option maxRecDepth 100000 in
theorem lw_p98 : lw_okq (⟨"ProofLibrary$Grammar", "cut", "(II)V"⟩, 27) := by sorry
set_option maxRecDepth 100000 in
theorem lw_p99 : lw_okq (⟨"ProofLibrary", "sayTree", "(I)Z"⟩, 26) := by sorry
set_option maxRecDepth 100000 in
theorem lw_p100 : lw_okq (⟨"ProofLibrary", "floatingOf", "(II)I"⟩, 26) := by sorry
set_option maxRecDepth 100000 in
theorem lw_p101 : lw_okq (⟨"ProofLibrary", "sayUnfolded", "(I)Z"⟩, 26) := by sorry
set_option maxRecDepth 100000 in
theorem lw_p102 : lw_okq (⟨"ProofLibrary$Definitions", "tellsProved", "(I)Z"⟩, 21) := by sorry
set_option maxRecDepth 100000 in
theorem lw_p103 : lw_okq (⟨"ProofLibrary$Definitions", "look", "(I)V"⟩, 21) := by sorry
set_option maxRecDepth 100000 in
theorem lw_p104 : lw_okq (⟨"ProofLibrary$Definitions", "areDifferent", "(I)Z"⟩, 21) := by sorry
set_option maxRecDepth 100000 in
theorem lw_p105 : lw_okq (⟨"ProofLibrary$Definitions", "isMade", "(I)Z"⟩, 21) := by sorry
set_option maxRecDepth 100000 in
theorem lw_p106 : lw_okq (⟨"ProofLibrary$Definitions", "keep", "(I)V"⟩, 21) := by sorry
set_option maxRecDepth 100000 in
theorem lw_p107 : lw_okq (⟨"ProofLibrary$Definitions", "definedAt", "(II)I"⟩, 21) := by sorry
set_option maxRecDepth 100000 in
theorem lw_p108 : lw_okq (⟨"ProofLibrary", "tapeSymbols", "()I"⟩, 26) := by sorry
set_option maxRecDepth 100000 in
theorem lw_p109 : lw_okq (⟨"ProofLibrary", "applyTo", "(II)I"⟩, 26) := by sorry
set_option maxRecDepth 100000 in
theorem lw_p110 : lw_okq (⟨"ProofLibrary", "match", "()Z"⟩, 26) := by sorry
set_option maxRecDepth 100000 in
theorem lw_p111 : lw_okq (⟨"ProofLibrary", "stands", "(III)Z"⟩, 26) := by sorry
def lw_privs_7 : List (MethodName × Nat) := [(⟨"ProofLibrary$Grammar", "mayBe", "(II)Z"⟩, 27), (⟨"ProofLibrary$Grammar", "step", "(IIII)V"⟩, 27), (⟨"ProofLibrary$Grammar", "cut", "(II)V"⟩, 27), (⟨"ProofLibrary", "sayTree", "(I)Z"⟩, 26), (⟨"ProofLibrary", "floatingOf", "(II)I"⟩, 26), (⟨"ProofLibrary", "sayUnfolded", "(I)Z"⟩, 26), (⟨"ProofLibrary$Definitions", "tellsProved", "(I)Z"⟩, 21), (⟨"ProofLibrary$Definitions", "look", "(I)V"⟩, 21), (⟨"ProofLibrary$Definitions", "areDifferent", "(I)Z"⟩, 21), (⟨"ProofLibrary$Definitions", "isMade", "(I)Z"⟩, 21), (⟨"ProofLibrary$Definitions", "keep", "(I)V"⟩, 21), (⟨"ProofLibrary$Definitions", "definedAt", "(II)I"⟩, 21), (⟨"ProofLibrary", "tapeSymbols", "()I"⟩, 26), (⟨"ProofLibrary", "applyTo", "(II)I"⟩, 26), (⟨"ProofLibrary", "match", "()Z"⟩, 26), (⟨"ProofLibrary", "stands", "(III)Z"⟩, 26)]
set_option maxRecDepth 100000 in
theorem lw_r7 : ∀ q ∈ lw_privs_7, lw_okq q := by sorry
set_option maxRecDepth 100000 in
theorem lw_p112 : lw_okq (⟨"ProofLibrary", "areBound", "(I)Z"⟩, 26) := by sorry
set_option maxRecDepth 100000 in
theorem lw_p113 : lw_okq (⟨"ProofLibrary", "isBound", "(I)Z"⟩, 26) := by sorry
set_option maxRecDepth 100000 in
theorem lw_p114 : lw_okq (⟨"ProofLibrary", "sayBecome", "(I)Z"⟩, 26) := by sorry
set_option maxRecDepth 100000 in
theorem lw_p115 : lw_okq (⟨"ProofLibrary", "isAllProved", "()Z"⟩, 26) := by sorry
set_option maxRecDepth 100000 in
theorem lw_p116 : lw_okq (⟨"ProofLibrary", "isProvedWell", "(I)Z"⟩, 26) := by sorry
set_option maxRecDepth 100000 in
theorem lw_p117 : lw_okq (⟨"ProofLibrary", "isWell", "()Z"⟩, 26) := by sorry
set_option maxRecDepth 100000 in
theorem lw_p118 : lw_okq (⟨"ProofLibrary", "isPackedWell", "(I)Z"⟩, 26) := by sorry
set_option maxRecDepth 100000 in
theorem lw_p119 : lw_okq (⟨"ProofLibrary$Packer", "known", "()I"⟩, 19) := by sorry
set_option maxRecDepth 100000 in
theorem lw_p120 : lw_okq (⟨"ProofLibrary", "isTreeWell", "(I)Z"⟩, 26) := by sorry
set_option maxRecDepth 100000 in
theorem lw_p121 : lw_okq (⟨"ProofLibrary", "isNodeWell", "(I)Z"⟩, 26) := by sorry
set_option maxRecDepth 100000 in
theorem lw_p122 : lw_okq (⟨"ProofLibraryModel", "clearTables", "()V"⟩, 170) := by sorry
set_option maxRecDepth 100000 in
theorem lw_p123 : lw_okq (⟨"ProofLibraryModel", "noteAll", "()V"⟩, 170) := by sorry
set_option maxRecDepth 100000 in
theorem lw_p124 : lw_okq (⟨"ProofLibraryModel", "next", "()V"⟩, 170) := by sorry
set_option maxRecDepth 100000 in
theorem lw_p125 : lw_okq (⟨"ProofLibraryModel", "nextRow", "()Z"⟩, 170) := by sorry
set_option maxRecDepth 100000 in
theorem lw_p126 : lw_okq (⟨"ProofLibraryModel", "fail", "(II)V"⟩, 170) := by sorry
set_option maxRecDepth 100000 in
theorem lw_p127 : lw_okq (⟨"ProofLibraryModel", "isToken", "(I)Z"⟩, 170) := by sorry
def lw_privs_8 : List (MethodName × Nat) := [(⟨"ProofLibrary", "areBound", "(I)Z"⟩, 26), (⟨"ProofLibrary", "isBound", "(I)Z"⟩, 26), (⟨"ProofLibrary", "sayBecome", "(I)Z"⟩, 26), (⟨"ProofLibrary", "isAllProved", "()Z"⟩, 26), (⟨"ProofLibrary", "isProvedWell", "(I)Z"⟩, 26), (⟨"ProofLibrary", "isWell", "()Z"⟩, 26), (⟨"ProofLibrary", "isPackedWell", "(I)Z"⟩, 26), (⟨"ProofLibrary$Packer", "known", "()I"⟩, 19), (⟨"ProofLibrary", "isTreeWell", "(I)Z"⟩, 26), (⟨"ProofLibrary", "isNodeWell", "(I)Z"⟩, 26), (⟨"ProofLibraryModel", "clearTables", "()V"⟩, 170), (⟨"ProofLibraryModel", "noteAll", "()V"⟩, 170), (⟨"ProofLibraryModel", "next", "()V"⟩, 170), (⟨"ProofLibraryModel", "nextRow", "()Z"⟩, 170), (⟨"ProofLibraryModel", "fail", "(II)V"⟩, 170), (⟨"ProofLibraryModel", "isToken", "(I)Z"⟩, 170)]
set_option maxRecDepth 100000 in
theorem lw_r8 : ∀ q ∈ lw_privs_8, lw_okq q := by sorry
set_option maxRecDepth 100000 in
theorem lw_p128 : lw_okq (⟨"ProofLibraryModel", "skipComment", "()V"⟩, 170) := by sorry
set_option maxRecDepth 100000 in
theorem lw_p129 : lw_okq (⟨"ProofLibraryModel", "hasDollar", "(II)Z"⟩, 170) := by sorry
set_option maxRecDepth 100000 in
theorem lw_p130 : lw_okq (⟨"ProofLibraryModel", "hasSign", "(I)Z"⟩, 170) := by sorry
set_option maxRecDepth 100000 in
theorem lw_p131 : lw_okq (⟨"ProofLibraryModel", "readStatement", "()V"⟩, 170) := by sorry
set_option maxRecDepth 100000 in
theorem lw_p132 : lw_okq (⟨"ProofLibraryModel", "readLabelled", "()V"⟩, 170) := by sorry
set_option maxRecDepth 100000 in
theorem lw_p133 : lw_okq (⟨"ProofLibraryModel", "readLabel", "()V"⟩, 170) := by sorry
set_option maxRecDepth 100000 in
theorem lw_p134 : lw_okq (⟨"ProofLibraryModel", "failHere", "(I)V"⟩, 170) := by sorry
set_option maxRecDepth 100000 in
theorem lw_p135 : lw_okq (⟨"ProofLibraryModel", "findLabel", "([III)I"⟩, 170) := by sorry
set_option maxRecDepth 100000 in
theorem lw_p136 : lw_okq (⟨"ProofLibraryModel", "isName", "(II[III)Z"⟩, 170) := by sorry
set_option maxRecDepth 100000 in
theorem lw_p137 : lw_okq (⟨"ProofLibraryModel", "symbolHere", "()I"⟩, 170) := by sorry
set_option maxRecDepth 100000 in
theorem lw_p138 : lw_okq (⟨"ProofLibraryModel", "findSymbol", "([III)I"⟩, 170) := by sorry
set_option maxRecDepth 100000 in
theorem lw_p139 : lw_okq (⟨"ProofLibraryModel", "keepChars", "(II)V"⟩, 170) := by sorry
set_option maxRecDepth 100000 in
theorem lw_p140 : lw_okq (⟨"ProofLibraryModel", "keepLabel", "(I)V"⟩, 170) := by sorry
set_option maxRecDepth 100000 in
theorem lw_p141 : lw_okq (⟨"ProofLibraryModel", "readFloating", "()V"⟩, 170) := by sorry
set_option maxRecDepth 100000 in
theorem lw_p142 : lw_okq (⟨"ProofLibraryModel", "readFirst", "()V"⟩, 170) := by sorry
set_option maxRecDepth 100000 in
theorem lw_p143 : lw_okq (⟨"ProofLibraryModel", "addSymbol", "(II)V"⟩, 170) := by sorry
def lw_privs_9 : List (MethodName × Nat) := [(⟨"ProofLibraryModel", "skipComment", "()V"⟩, 170), (⟨"ProofLibraryModel", "hasDollar", "(II)Z"⟩, 170), (⟨"ProofLibraryModel", "hasSign", "(I)Z"⟩, 170), (⟨"ProofLibraryModel", "readStatement", "()V"⟩, 170), (⟨"ProofLibraryModel", "readLabelled", "()V"⟩, 170), (⟨"ProofLibraryModel", "readLabel", "()V"⟩, 170), (⟨"ProofLibraryModel", "failHere", "(I)V"⟩, 170), (⟨"ProofLibraryModel", "findLabel", "([III)I"⟩, 170), (⟨"ProofLibraryModel", "isName", "(II[III)Z"⟩, 170), (⟨"ProofLibraryModel", "symbolHere", "()I"⟩, 170), (⟨"ProofLibraryModel", "findSymbol", "([III)I"⟩, 170), (⟨"ProofLibraryModel", "keepChars", "(II)V"⟩, 170), (⟨"ProofLibraryModel", "keepLabel", "(I)V"⟩, 170), (⟨"ProofLibraryModel", "readFloating", "()V"⟩, 170), (⟨"ProofLibraryModel", "readFirst", "()V"⟩, 170), (⟨"ProofLibraryModel", "addSymbol", "(II)V"⟩, 170)]
set_option maxRecDepth 100000 in
theorem lw_r9 : ∀ q ∈ lw_privs_9, lw_okq q := by sorry
set_option maxRecDepth 100000 in
theorem lw_p144 : lw_okq (⟨"ProofLibraryModel", "finish", "(I)V"⟩, 170) := by sorry
set_option maxRecDepth 100000 in
theorem lw_p145 : lw_okq (⟨"ProofLibraryModel", "activate", "()V"⟩, 170) := by sorry
set_option maxRecDepth 100000 in
theorem lw_p146 : lw_okq (⟨"ProofLibraryModel", "readSymbols", "(I)V"⟩, 170) := by sorry
set_option maxRecDepth 100000 in
theorem lw_p147 : lw_okq (⟨"ProofLibraryModel", "readAssertion", "(Z)V"⟩, 170) := by sorry
set_option maxRecDepth 100000 in
theorem lw_p148 : lw_okq (⟨"ProofLibraryModel", "readTheorem", "()V"⟩, 170) := by sorry
set_option maxRecDepth 100000 in
theorem lw_p149 : lw_okq (⟨"ProofLibraryModel", "makeFrame", "()V"⟩, 170) := by sorry
set_option maxRecDepth 100000 in
theorem lw_p150 : lw_okq (⟨"ProofLibraryModel", "markOf", "(I)V"⟩, 170) := by sorry
set_option maxRecDepth 100000 in
theorem lw_p151 : lw_okq (⟨"ProofLibraryModel", "readPacked", "()V"⟩, 170) := by sorry
set_option maxRecDepth 100000 in
theorem lw_p152 : lw_okq (⟨"ProofLibraryModel", "readPackedLabels", "()V"⟩, 170) := by sorry
set_option maxRecDepth 100000 in
theorem lw_p153 : lw_okq (⟨"ProofLibraryModel", "stepHere", "()I"⟩, 170) := by sorry
set_option maxRecDepth 100000 in
theorem lw_p154 : lw_okq (⟨"ProofLibraryModel", "isMandatory", "(II)Z"⟩, 170) := by sorry
set_option maxRecDepth 100000 in
theorem lw_p155 : lw_okq (⟨"ProofLibraryModel", "readLetter", "(II)V"⟩, 170) := by sorry
set_option maxRecDepth 100000 in
theorem lw_p156 : lw_okq (⟨"ProofLibraryModel", "endNumber", "(II)V"⟩, 170) := by sorry
set_option maxRecDepth 100000 in
theorem lw_p157 : lw_okq (⟨"ProofLibraryModel", "addStep", "(II)V"⟩, 170) := by sorry
set_option maxRecDepth 100000 in
theorem lw_p158 : lw_okq (⟨"ProofLibraryModel", "readPlain", "()V"⟩, 170) := by sorry
set_option maxRecDepth 100000 in
theorem lw_p159 : lw_okq (⟨"ProofLibraryModel", "verify", "()V"⟩, 170) := by sorry
def lw_privs_10 : List (MethodName × Nat) := [(⟨"ProofLibraryModel", "finish", "(I)V"⟩, 170), (⟨"ProofLibraryModel", "activate", "()V"⟩, 170), (⟨"ProofLibraryModel", "readSymbols", "(I)V"⟩, 170), (⟨"ProofLibraryModel", "readAssertion", "(Z)V"⟩, 170), (⟨"ProofLibraryModel", "readTheorem", "()V"⟩, 170), (⟨"ProofLibraryModel", "makeFrame", "()V"⟩, 170), (⟨"ProofLibraryModel", "markOf", "(I)V"⟩, 170), (⟨"ProofLibraryModel", "readPacked", "()V"⟩, 170), (⟨"ProofLibraryModel", "readPackedLabels", "()V"⟩, 170), (⟨"ProofLibraryModel", "stepHere", "()I"⟩, 170), (⟨"ProofLibraryModel", "isMandatory", "(II)Z"⟩, 170), (⟨"ProofLibraryModel", "readLetter", "(II)V"⟩, 170), (⟨"ProofLibraryModel", "endNumber", "(II)V"⟩, 170), (⟨"ProofLibraryModel", "addStep", "(II)V"⟩, 170), (⟨"ProofLibraryModel", "readPlain", "()V"⟩, 170), (⟨"ProofLibraryModel", "verify", "()V"⟩, 170)]
set_option maxRecDepth 100000 in
theorem lw_r10 : ∀ q ∈ lw_privs_10, lw_okq q := by sorry
set_option maxRecDepth 100000 in
theorem lw_p160 : lw_okq (⟨"ProofLibraryModel", "beginSteps", "()V"⟩, 170) := by sorry
set_option maxRecDepth 100000 in
theorem lw_p161 : lw_okq (⟨"ProofLibraryModel", "doStep", "(IIZ)V"⟩, 170) := by sorry
set_option maxRecDepth 100000 in
theorem lw_p162 : lw_okq (⟨"ProofLibraryModel", "pushRow", "([IIII)V"⟩, 170) := by sorry
set_option maxRecDepth 100000 in
theorem lw_p163 : lw_okq (⟨"ProofLibraryModel", "wrong", "(I)V"⟩, 170) := by sorry
set_option maxRecDepth 100000 in
theorem lw_p164 : lw_okq (⟨"ProofLibraryModel", "applyStep", "(IIZ)V"⟩, 170) := by sorry
set_option maxRecDepth 100000 in
theorem lw_p165 : lw_okq (⟨"ProofLibraryModel", "replace", "(I)V"⟩, 170) := by sorry
set_option maxRecDepth 100000 in
theorem lw_p166 : lw_okq (⟨"ProofLibraryModel", "isMade", "(II)Z"⟩, 170) := by sorry
set_option maxRecDepth 100000 in
theorem lw_p167 : lw_okq (⟨"ProofLibraryModel", "areKept", "(II)Z"⟩, 170) := by sorry
set_option maxRecDepth 100000 in
theorem lw_p168 : lw_okq (⟨"ProofLibraryModel", "areApart", "(II)Z"⟩, 170) := by sorry
set_option maxRecDepth 100000 in
theorem lw_p169 : lw_okq (⟨"ProofLibraryModel", "saveTop", "()V"⟩, 170) := by sorry
set_option maxRecDepth 100000 in
theorem lw_p170 : lw_okq (⟨"ProofLibraryModel", "restOf", "()V"⟩, 170) := by sorry
set_option maxRecDepth 100000 in
theorem lw_p171 : lw_okq (⟨"ProofLibraryModel", "readDeclared", "(Z)V"⟩, 170) := by sorry
set_option maxRecDepth 100000 in
theorem lw_p172 : lw_okq (⟨"ProofLibraryModel", "declare", "(Z)V"⟩, 170) := by sorry
set_option maxRecDepth 100000 in
theorem lw_p173 : lw_okq (⟨"ProofLibraryModel", "keepSymbol", "(I)V"⟩, 170) := by sorry
set_option maxRecDepth 100000 in
theorem lw_p174 : lw_okq (⟨"ProofLibraryModel", "markNamed", "(I)V"⟩, 170) := by sorry
set_option maxRecDepth 100000 in
theorem lw_p175 : lw_okq (⟨"ProofLibraryModel", "readApart", "()V"⟩, 170) := by sorry
def lw_privs_11 : List (MethodName × Nat) := [(⟨"ProofLibraryModel", "beginSteps", "()V"⟩, 170), (⟨"ProofLibraryModel", "doStep", "(IIZ)V"⟩, 170), (⟨"ProofLibraryModel", "pushRow", "([IIII)V"⟩, 170), (⟨"ProofLibraryModel", "wrong", "(I)V"⟩, 170), (⟨"ProofLibraryModel", "applyStep", "(IIZ)V"⟩, 170), (⟨"ProofLibraryModel", "replace", "(I)V"⟩, 170), (⟨"ProofLibraryModel", "isMade", "(II)Z"⟩, 170), (⟨"ProofLibraryModel", "areKept", "(II)Z"⟩, 170), (⟨"ProofLibraryModel", "areApart", "(II)Z"⟩, 170), (⟨"ProofLibraryModel", "saveTop", "()V"⟩, 170), (⟨"ProofLibraryModel", "restOf", "()V"⟩, 170), (⟨"ProofLibraryModel", "readDeclared", "(Z)V"⟩, 170), (⟨"ProofLibraryModel", "declare", "(Z)V"⟩, 170), (⟨"ProofLibraryModel", "keepSymbol", "(I)V"⟩, 170), (⟨"ProofLibraryModel", "markNamed", "(I)V"⟩, 170), (⟨"ProofLibraryModel", "readApart", "()V"⟩, 170)]
set_option maxRecDepth 100000 in
theorem lw_r11 : ∀ q ∈ lw_privs_11, lw_okq q := by sorry
set_option maxRecDepth 100000 in
theorem lw_p176 : lw_okq (⟨"ProofLibraryModel", "setApart", "(IIZ)V"⟩, 170) := by sorry
set_option maxRecDepth 100000 in
theorem lw_p177 : lw_okq (⟨"ProofLibraryModel", "readScope", "(Z)V"⟩, 170) := by sorry
set_option maxRecDepth 100000 in
theorem lw_p178 : lw_okq (⟨"ProofLibraryModel", "dropTo", "(III)V"⟩, 170) := by sorry
set_option maxRecDepth 100000 in
theorem lw_p179 : lw_okq (⟨"ProofLibraryModel", "forgetText", "(IIIIII)V"⟩, 170) := by sorry
set_option maxRecDepth 100000 in
theorem lw_p180 : lw_okq (⟨"ProofLibraryModel", "forgetTrees", "(I)V"⟩, 170) := by sorry
set_option maxRecDepth 100000 in
theorem lw_p181 : lw_okq (⟨"ProofLibraryModel", "isStatement", "(I)Z"⟩, 170) := by sorry
set_option maxRecDepth 100000 in
theorem lw_p182 : lw_okq (⟨"ProofLibraryModel", "rowFrom", "(I)I"⟩, 170) := by sorry
set_option maxRecDepth 100000 in
theorem lw_p183 : lw_okq (⟨"ProofLibraryModel", "useTape", "()V"⟩, 170) := by sorry
set_option maxRecDepth 100000 in
theorem lw_p184 : lw_okq (⟨"ProofLibraryModel", "isAssertion", "(I)Z"⟩, 170) := by sorry
set_option maxRecDepth 100000 in
theorem lw_p185 : lw_okq (⟨"ProofLibraryModel", "resting", "(I)I"⟩, 170) := by sorry
set_option maxRecDepth 100000 in
theorem lw_p186 : lw_okq (⟨"ProofLibraryModel", "isProved", "(I)Z"⟩, 170) := by sorry
set_option maxRecDepth 100000 in
theorem lw_p187 : lw_okq (⟨"ProofLibraryModel", "makeRows", "(I)V"⟩, 170) := by sorry
set_option maxRecDepth 100000 in
theorem lw_p188 : lw_okq (⟨"ProofLibraryModel", "isRow", "(II)Z"⟩, 170) := by sorry
set_option maxRecDepth 100000 in
theorem lw_p189 : lw_okq (⟨"ProofLibraryModel", "rowWidth", "(I)I"⟩, 170) := by sorry
set_option maxRecDepth 100000 in
theorem lw_p190 : lw_okq (⟨"ProofLibraryModel", "makeSizes", "(I)V"⟩, 170) := by sorry
set_option maxRecDepth 100000 in
theorem lw_p191 : lw_okq (⟨"ProofLibraryModel", "countTrees", "(I)I"⟩, 170) := by sorry
def lw_privs_12 : List (MethodName × Nat) := [(⟨"ProofLibraryModel", "setApart", "(IIZ)V"⟩, 170), (⟨"ProofLibraryModel", "readScope", "(Z)V"⟩, 170), (⟨"ProofLibraryModel", "dropTo", "(III)V"⟩, 170), (⟨"ProofLibraryModel", "forgetText", "(IIIIII)V"⟩, 170), (⟨"ProofLibraryModel", "forgetTrees", "(I)V"⟩, 170), (⟨"ProofLibraryModel", "isStatement", "(I)Z"⟩, 170), (⟨"ProofLibraryModel", "rowFrom", "(I)I"⟩, 170), (⟨"ProofLibraryModel", "useTape", "()V"⟩, 170), (⟨"ProofLibraryModel", "isAssertion", "(I)Z"⟩, 170), (⟨"ProofLibraryModel", "resting", "(I)I"⟩, 170), (⟨"ProofLibraryModel", "isProved", "(I)Z"⟩, 170), (⟨"ProofLibraryModel", "makeRows", "(I)V"⟩, 170), (⟨"ProofLibraryModel", "isRow", "(II)Z"⟩, 170), (⟨"ProofLibraryModel", "rowWidth", "(I)I"⟩, 170), (⟨"ProofLibraryModel", "makeSizes", "(I)V"⟩, 170), (⟨"ProofLibraryModel", "countTrees", "(I)I"⟩, 170)]
set_option maxRecDepth 100000 in
theorem lw_r12 : ∀ q ∈ lw_privs_12, lw_okq q := by sorry
set_option maxRecDepth 100000 in
theorem lw_p192 : lw_okq (⟨"ProofLibraryModel", "treeOf", "(I)I"⟩, 170) := by sorry
set_option maxRecDepth 100000 in
theorem lw_p193 : lw_okq (⟨"ProofLibraryModel", "takeStatement", "(I)V"⟩, 170) := by sorry
set_option maxRecDepth 100000 in
theorem lw_p194 : lw_okq (⟨"ProofLibraryModel", "findSorts", "()V"⟩, 170) := by sorry
set_option maxRecDepth 100000 in
theorem lw_p195 : lw_okq (⟨"ProofLibraryModel", "isSort", "(I)Z"⟩, 170) := by sorry
set_option maxRecDepth 100000 in
theorem lw_p196 : lw_okq (⟨"ProofLibraryModel", "treeSort", "(I)I"⟩, 170) := by sorry
set_option maxRecDepth 100000 in
theorem lw_p197 : lw_okq (⟨"ProofLibraryModel", "countWays", "(II)I"⟩, 170) := by sorry
set_option maxRecDepth 100000 in
theorem lw_p198 : lw_okq (⟨"ProofLibraryModel", "treeRules", "()V"⟩, 170) := by sorry
set_option maxRecDepth 100000 in
theorem lw_p199 : lw_okq (⟨"ProofLibraryModel", "newRuleNode", "(II)I"⟩, 170) := by sorry
set_option maxRecDepth 100000 in
theorem lw_p200 : lw_okq (⟨"ProofLibraryModel", "isRule", "(I)Z"⟩, 170) := by sorry
set_option maxRecDepth 100000 in
theorem lw_p201 : lw_okq (⟨"ProofLibraryModel", "isUnit", "(I)Z"⟩, 170) := by sorry
set_option maxRecDepth 100000 in
theorem lw_p202 : lw_okq (⟨"ProofLibraryModel", "treeRule", "(I)V"⟩, 170) := by sorry
set_option maxRecDepth 100000 in
theorem lw_p203 : lw_okq (⟨"ProofLibraryModel", "stepBelow", "(II)I"⟩, 170) := by sorry
set_option maxRecDepth 100000 in
theorem lw_p204 : lw_okq (⟨"ProofLibraryModel", "wayAt", "(III)I"⟩, 170) := by sorry
set_option maxRecDepth 100000 in
theorem lw_p205 : lw_okq (⟨"ProofLibraryModel", "isSortNode", "(I)Z"⟩, 170) := by sorry
set_option maxRecDepth 100000 in
theorem lw_p206 : lw_okq (⟨"ProofLibraryModel", "countStretch", "(III)V"⟩, 170) := by sorry
set_option maxRecDepth 100000 in
theorem lw_p207 : lw_okq (⟨"ProofLibraryModel", "isFirstVariable", "(I)Z"⟩, 170) := by sorry
def lw_privs_13 : List (MethodName × Nat) := [(⟨"ProofLibraryModel", "treeOf", "(I)I"⟩, 170), (⟨"ProofLibraryModel", "takeStatement", "(I)V"⟩, 170), (⟨"ProofLibraryModel", "findSorts", "()V"⟩, 170), (⟨"ProofLibraryModel", "isSort", "(I)Z"⟩, 170), (⟨"ProofLibraryModel", "treeSort", "(I)I"⟩, 170), (⟨"ProofLibraryModel", "countWays", "(II)I"⟩, 170), (⟨"ProofLibraryModel", "treeRules", "()V"⟩, 170), (⟨"ProofLibraryModel", "newRuleNode", "(II)I"⟩, 170), (⟨"ProofLibraryModel", "isRule", "(I)Z"⟩, 170), (⟨"ProofLibraryModel", "isUnit", "(I)Z"⟩, 170), (⟨"ProofLibraryModel", "treeRule", "(I)V"⟩, 170), (⟨"ProofLibraryModel", "stepBelow", "(II)I"⟩, 170), (⟨"ProofLibraryModel", "wayAt", "(III)I"⟩, 170), (⟨"ProofLibraryModel", "isSortNode", "(I)Z"⟩, 170), (⟨"ProofLibraryModel", "countStretch", "(III)V"⟩, 170), (⟨"ProofLibraryModel", "isFirstVariable", "(I)Z"⟩, 170)]
set_option maxRecDepth 100000 in
theorem lw_r13 : ∀ q ∈ lw_privs_13, lw_okq q := by sorry
set_option maxRecDepth 100000 in
theorem lw_p208 : lw_okq (⟨"ProofLibraryModel", "goTo", "(II)V"⟩, 170) := by sorry
set_option maxRecDepth 100000 in
theorem lw_p209 : lw_okq (⟨"ProofLibraryModel", "closeUnits", "(III)V"⟩, 170) := by sorry
set_option maxRecDepth 100000 in
theorem lw_p210 : lw_okq (⟨"ProofLibraryModel", "makeTree", "(I)I"⟩, 170) := by sorry
set_option maxRecDepth 100000 in
theorem lw_p211 : lw_okq (⟨"ProofLibraryModel", "newNode", "(III)I"⟩, 170) := by sorry
set_option maxRecDepth 100000 in
theorem lw_p212 : lw_okq (⟨"ProofLibraryModel", "lookAt", "(I)V"⟩, 170) := by sorry
set_option maxRecDepth 100000 in
theorem lw_p213 : lw_okq (⟨"ProofLibraryModel", "part", "(II)V"⟩, 170) := by sorry
set_option maxRecDepth 100000 in
theorem lw_p214 : lw_okq (⟨"ProofLibraryModel", "match", "(III)I"⟩, 170) := by sorry
set_option maxRecDepth 100000 in
theorem lw_p215 : lw_okq (⟨"ProofLibraryModel", "hypOf", "(II)I"⟩, 170) := by sorry
set_option maxRecDepth 100000 in
theorem lw_p216 : lw_okq (⟨"ProofLibraryModel", "variablesOf", "(I)I"⟩, 170) := by sorry
set_option maxRecDepth 100000 in
theorem lw_p217 : lw_okq (⟨"ProofLibraryModel", "definitionOf", "(I)I"⟩, 170) := by sorry
set_option maxRecDepth 100000 in
theorem lw_p218 : lw_okq (⟨"ProofLibraryModel", "findDefinition", "(I)I"⟩, 170) := by sorry
set_option maxRecDepth 100000 in
theorem lw_p219 : lw_okq (⟨"ProofLibraryModel", "firstSide", "(I)I"⟩, 170) := by sorry
set_option maxRecDepth 100000 in
theorem lw_p220 : lw_okq (⟨"ProofLibraryModel", "isFlat", "(I)Z"⟩, 170) := by sorry
set_option maxRecDepth 100000 in
theorem lw_p221 : lw_okq (⟨"ProofLibraryModel", "isPlain", "(III)Z"⟩, 170) := by sorry
set_option maxRecDepth 100000 in
theorem lw_p222 : lw_okq (⟨"ProofLibraryModel", "enter", "(I)V"⟩, 170) := by sorry
set_option maxRecDepth 100000 in
theorem lw_p223 : lw_okq (⟨"ProofLibraryModel", "hasLeaf", "(II)Z"⟩, 170) := by sorry
def lw_privs_14 : List (MethodName × Nat) := [(⟨"ProofLibraryModel", "goTo", "(II)V"⟩, 170), (⟨"ProofLibraryModel", "closeUnits", "(III)V"⟩, 170), (⟨"ProofLibraryModel", "makeTree", "(I)I"⟩, 170), (⟨"ProofLibraryModel", "newNode", "(III)I"⟩, 170), (⟨"ProofLibraryModel", "lookAt", "(I)V"⟩, 170), (⟨"ProofLibraryModel", "part", "(II)V"⟩, 170), (⟨"ProofLibraryModel", "match", "(III)I"⟩, 170), (⟨"ProofLibraryModel", "hypOf", "(II)I"⟩, 170), (⟨"ProofLibraryModel", "variablesOf", "(I)I"⟩, 170), (⟨"ProofLibraryModel", "definitionOf", "(I)I"⟩, 170), (⟨"ProofLibraryModel", "findDefinition", "(I)I"⟩, 170), (⟨"ProofLibraryModel", "firstSide", "(I)I"⟩, 170), (⟨"ProofLibraryModel", "isFlat", "(I)Z"⟩, 170), (⟨"ProofLibraryModel", "isPlain", "(III)Z"⟩, 170), (⟨"ProofLibraryModel", "enter", "(I)V"⟩, 170), (⟨"ProofLibraryModel", "hasLeaf", "(II)Z"⟩, 170)]
set_option maxRecDepth 100000 in
theorem lw_r14 : ∀ q ∈ lw_privs_14, lw_okq q := by sorry
set_option maxRecDepth 100000 in
theorem lw_p224 : lw_okq (⟨"ProofLibraryModel", "isUsedBefore", "(II)Z"⟩, 170) := by sorry
set_option maxRecDepth 100000 in
theorem lw_p225 : lw_okq (⟨"ProofLibraryModel", "beginTrees", "()V"⟩, 170) := by sorry
set_option maxRecDepth 100000 in
theorem lw_p226 : lw_okq (⟨"ProofLibraryModel", "putLabel", "(I)V"⟩, 170) := by sorry
set_option maxRecDepth 100000 in
theorem lw_p227 : lw_okq (⟨"ProofLibraryModel", "putBlank", "()V"⟩, 170) := by sorry
set_option maxRecDepth 100000 in
theorem lw_p228 : lw_okq (⟨"ProofLibraryModel", "put", "(I)V"⟩, 170) := by sorry
set_option maxRecDepth 100000 in
theorem lw_p229 : lw_okq (⟨"ProofLibraryModel", "putName", "(II)V"⟩, 170) := by sorry
set_option maxRecDepth 100000 in
theorem lw_p230 : lw_okq (⟨"ProofLibraryModel", "keepDraft", "()I"⟩, 170) := by sorry
set_option maxRecDepth 100000 in
theorem lw_p231 : lw_okq (⟨"ProofLibraryModel", "putSymbol", "(I)V"⟩, 170) := by sorry
set_option maxRecDepth 100000 in
theorem lw_p232 : lw_okq (⟨"ProofLibraryModel", "printTexts", "(I)I"⟩, 170) := by sorry
set_option maxRecDepth 100000 in
theorem lw_p233 : lw_okq (⟨"ProofLibraryModel", "printRow", "(II)I"⟩, 170) := by sorry
set_option maxRecDepth 100000 in
theorem lw_p234 : lw_okq (⟨"ProofLibraryModel", "printPacked", "(I)I"⟩, 170) := by sorry
set_option maxRecDepth 100000 in
theorem lw_p235 : lw_okq (⟨"ProofLibraryModel", "findSame", "()V"⟩, 170) := by sorry
set_option maxRecDepth 100000 in
theorem lw_p236 : lw_okq (⟨"ProofLibraryModel", "areSame", "(II)Z"⟩, 170) := by sorry
set_option maxRecDepth 100000 in
theorem lw_p237 : lw_okq (⟨"ProofLibraryModel", "tellSteps", "()V"⟩, 170) := by sorry
set_option maxRecDepth 100000 in
theorem lw_p238 : lw_okq (⟨"ProofLibraryModel", "putNumber", "(I)V"⟩, 170) := by sorry
set_option maxRecDepth 100000 in
theorem lw_p239 : lw_okq (⟨"ProofLibraryModel", "printPlain", "(I)I"⟩, 170) := by sorry
def lw_privs_15 : List (MethodName × Nat) := [(⟨"ProofLibraryModel", "isUsedBefore", "(II)Z"⟩, 170), (⟨"ProofLibraryModel", "beginTrees", "()V"⟩, 170), (⟨"ProofLibraryModel", "putLabel", "(I)V"⟩, 170), (⟨"ProofLibraryModel", "putBlank", "()V"⟩, 170), (⟨"ProofLibraryModel", "put", "(I)V"⟩, 170), (⟨"ProofLibraryModel", "putName", "(II)V"⟩, 170), (⟨"ProofLibraryModel", "keepDraft", "()I"⟩, 170), (⟨"ProofLibraryModel", "putSymbol", "(I)V"⟩, 170), (⟨"ProofLibraryModel", "printTexts", "(I)I"⟩, 170), (⟨"ProofLibraryModel", "printRow", "(II)I"⟩, 170), (⟨"ProofLibraryModel", "printPacked", "(I)I"⟩, 170), (⟨"ProofLibraryModel", "findSame", "()V"⟩, 170), (⟨"ProofLibraryModel", "areSame", "(II)Z"⟩, 170), (⟨"ProofLibraryModel", "tellSteps", "()V"⟩, 170), (⟨"ProofLibraryModel", "putNumber", "(I)V"⟩, 170), (⟨"ProofLibraryModel", "printPlain", "(I)I"⟩, 170)]
set_option maxRecDepth 100000 in
theorem lw_r15 : ∀ q ∈ lw_privs_15, lw_okq q := by sorry
set_option maxRecDepth 100000 in
theorem lw_p240 : lw_okq (⟨"ProofLibraryModel", "printTree", "(II)I"⟩, 170) := by sorry
set_option maxRecDepth 100000 in
theorem lw_p241 : lw_okq (⟨"ProofLibraryModel", "printBare", "(I)I"⟩, 170) := by sorry
set_option maxRecDepth 100000 in
theorem lw_p242 : lw_okq (⟨"ProofLibraryModel", "findDefiners", "(I)V"⟩, 170) := by sorry
set_option maxRecDepth 100000 in
theorem lw_p243 : lw_okq (⟨"ProofLibraryModel", "ruleOf", "(I)I"⟩, 170) := by sorry
set_option maxRecDepth 100000 in
theorem lw_p244 : lw_okq (⟨"ProofLibraryModel", "needRules", "(II)V"⟩, 170) := by sorry
set_option maxRecDepth 100000 in
theorem lw_p245 : lw_okq (⟨"ProofLibraryModel", "tellBare", "(II)I"⟩, 170) := by sorry
set_option maxRecDepth 100000 in
theorem lw_p246 : lw_okq (⟨"ProofLibraryModel", "addTask", "(I)V"⟩, 170) := by sorry
set_option maxRecDepth 100000 in
theorem lw_p247 : lw_okq (⟨"ProofLibraryModel", "leafOf", "(II)I"⟩, 170) := by sorry
set_option maxRecDepth 100000 in
theorem lw_p248 : lw_okq (⟨"ProofLibraryModel", "spread", "(I)Z"⟩, 170) := by sorry
set_option maxRecDepth 100000 in
theorem lw_p249 : lw_okq (⟨"ProofLibraryModel", "putTree", "(I)V"⟩, 170) := by sorry
set_option maxRecDepth 100000 in
theorem lw_p250 : lw_okq (⟨"ProofLibraryModel", "takeRow", "()I"⟩, 170) := by sorry
set_option maxRecDepth 100000 in
theorem lw_p251 : lw_okq (⟨"ProofLibraryModel", "rowTree", "(I)I"⟩, 170) := by sorry
set_option maxRecDepth 100000 in
theorem lw_p252 : lw_okq (⟨"ProofLibraryModel", "fits", "(II)Z"⟩, 170) := by sorry
set_option maxRecDepth 100000 in
theorem lw_p253 : lw_okq (⟨"ProofLibraryModel", "isSameStretch", "(IIII)Z"⟩, 170) := by sorry
set_option maxRecDepth 100000 in
theorem lw_p254 : lw_okq (⟨"ProofLibraryModel", "tellHyps", "(I)I"⟩, 170) := by sorry
def lw_privs_16 : List (MethodName × Nat) := [(⟨"ProofLibraryModel", "printTree", "(II)I"⟩, 170), (⟨"ProofLibraryModel", "printBare", "(I)I"⟩, 170), (⟨"ProofLibraryModel", "findDefiners", "(I)V"⟩, 170), (⟨"ProofLibraryModel", "ruleOf", "(I)I"⟩, 170), (⟨"ProofLibraryModel", "needRules", "(II)V"⟩, 170), (⟨"ProofLibraryModel", "tellBare", "(II)I"⟩, 170), (⟨"ProofLibraryModel", "addTask", "(I)V"⟩, 170), (⟨"ProofLibraryModel", "leafOf", "(II)I"⟩, 170), (⟨"ProofLibraryModel", "spread", "(I)Z"⟩, 170), (⟨"ProofLibraryModel", "putTree", "(I)V"⟩, 170), (⟨"ProofLibraryModel", "takeRow", "()I"⟩, 170), (⟨"ProofLibraryModel", "rowTree", "(I)I"⟩, 170), (⟨"ProofLibraryModel", "fits", "(II)Z"⟩, 170), (⟨"ProofLibraryModel", "isSameStretch", "(IIII)Z"⟩, 170), (⟨"ProofLibraryModel", "tellHyps", "(I)I"⟩, 170)]
set_option maxRecDepth 100000 in
theorem lw_r16 : ∀ q ∈ lw_privs_16, lw_okq q := by sorry
def lw_privs : List (MethodName × Nat) := lw_privs_1 ++ (lw_privs_2 ++ (lw_privs_3 ++ (lw_privs_4 ++ (lw_privs_5 ++ (lw_privs_6 ++ (lw_privs_7 ++ (lw_privs_8 ++ (lw_privs_9 ++ (lw_privs_10 ++ (lw_privs_11 ++ (lw_privs_12 ++ (lw_privs_13 ++ (lw_privs_14 ++ (lw_privs_15 ++ (lw_privs_16)))))))))))))))
def lw_tbl : List Cond := k2_sels lw_privs ++ tables_1
set_option maxRecDepth 100000 in
theorem lw_privs_ok : ∀ q ∈ lw_privs, lw_okq q := by sorry
def lw_all : List Cond := lw_tbl.filter goodWord
set_option maxRecDepth 100000 in
theorem lw_w {w : Cond} (i : Nat) (h : lw_tbl[i]? = some w) (g : goodWord w = true) : w ∈ lw_all := by sorry
set_option maxRecDepth 100000 in
theorem lw_all_tbl {w : Cond} (h : w ∈ lw_all) : w ∈ lw_tbl := by sorry
set_option maxRecDepth 100000 in
theorem lw_self : GoodIn lw_all lw_all := by sorry
set_option maxRecDepth 100000 in
theorem lw_in (ws : List Cond) (ps : List Nat) (hp : ws = ps.filterMap (fun i => lw_tbl[i]?)) (hg : ws.all goodWord = true) : ∀ w ∈ ws, w ∈ lw_all := by sorry
abbrev ws_ (y : MethodName) (b : ByteArray) (L : Nat) (r : Option FieldType) : List Cond := Cond.code y b L r :: lw_all
set_option maxRecDepth 100000 in
theorem lw_meth {y : MethodName} {b : ByteArray} {L : Nat} {r : Option FieldType} (h : Cond.code y b L r ∈ lw_all) : GoodIn lw_all (ws_ y b L r) := by sorry
set_option maxRecDepth 100000 in
theorem lw_app {a c : List Cond} (ha : ∀ w ∈ a, w ∈ lw_all) (hc : GoodIn lw_all c) : GoodIn lw_all (a ++ c) := by sorry
set_option maxRecDepth 100000 in
theorem lw_V {own : String} {idx : Nat} {C : String} {y : MethodName} {b : ByteArray} {L : Nat} {r : Option FieldType} (h1 : Cond.methodLink own idx y ∈ lw_all) (h2 : Cond.instanceMethod y ∈ lw_all) (h3 : Cond.selects C y y ∈ lw_all) (h4 : Cond.initialized C ∈ lw_all) (h5 : Cond.code y b L r ∈ lw_all) : GoodIn lw_all (wsV own idx C y (ws_ y b L r)) := by sorry
set_option maxRecDepth 100000 in
theorem lw_S {own : String} {idx : Nat} {y : MethodName} {b : ByteArray} {L : Nat} {r : Option FieldType} (h1 : Cond.methodLink own idx y ∈ lw_all) (h2 : Cond.static y ∈ lw_all) (h3 : Cond.initialized y.cls ∈ lw_all) (h4 : Cond.code y b L r ∈ lw_all) : GoodIn lw_all (va_wsS own idx y (ws_ y b L r)) := by sorry
abbrev wsW_ (y : MethodName) (b : ByteArray) (L : Nat) (r : Option FieldType) (hh : List (Nat × Nat × Nat × Nat)) : List Cond := Cond.codeWith y b L r hh :: lw_all
set_option maxRecDepth 100000 in
theorem lw_methW {y : MethodName} {b : ByteArray} {L : Nat} {r : Option FieldType} {hh : List (Nat × Nat × Nat × Nat)} (h : Cond.codeWith y b L r hh ∈ lw_all) : GoodIn lw_all (wsW_ y b L r hh) := by sorry
set_option maxRecDepth 100000 in
theorem lw_good {ws : List Cond} (h : ∀ w ∈ ws, w ∈ lw_all) : GoodIn lw_all ws := by sorry
set_option maxRecDepth 100000 in
theorem lw_VW {own : String} {idx : Nat} {C : String} {y : MethodName} {b : ByteArray} {L : Nat} {r : Option FieldType} {hh : List (Nat × Nat × Nat × Nat)} (h1 : Cond.methodLink own idx y ∈ lw_all) (h2 : Cond.instanceMethod y ∈ lw_all) (h3 : Cond.selects C y y ∈ lw_all) (h4 : Cond.initialized C ∈ lw_all) (h5 : Cond.codeWith y b L r hh ∈ lw_all) : GoodIn lw_all (wsV own idx C y (wsW_ y b L r hh)) := by sorry
set_option maxRecDepth 100000 in
theorem lw_SW {own : String} {idx : Nat} {y : MethodName} {b : ByteArray} {L : Nat} {r : Option FieldType} {hh : List (Nat × Nat × Nat × Nat)} (h1 : Cond.methodLink own idx y ∈ lw_all) (h2 : Cond.static y ∈ lw_all) (h3 : Cond.initialized y.cls ∈ lw_all) (h4 : Cond.codeWith y b L r hh ∈ lw_all) : GoodIn lw_all (va_wsS own idx y (wsW_ y b L r hh)) := by sorry
set_option maxRecDepth 100000 in
theorem lw_at {r : List Cond} (hr : ∀ w ∈ r, w ∈ lw_tbl) {w : Cond} (i : Nat) (h : r[i]? = some w) : w ∈ lw_tbl := by sorry
set_option maxRecDepth 100000 in
theorem lw_g {w : Cond} (h : w ∈ lw_tbl) (g : goodWord w = true) : w ∈ lw_all := by sorry
set_option maxRecDepth 100000 in
theorem lw_ms : ∀ w ∈ k2_sels lw_privs, w ∈ lw_tbl := by sorry
set_option maxRecDepth 100000 in
theorem lw_m1 : ∀ w ∈ tables_1_1, w ∈ lw_tbl := by sorry
set_option maxRecDepth 100000 in
theorem lw_m2 : ∀ w ∈ tables_1_2, w ∈ lw_tbl := by sorry
set_option maxRecDepth 100000 in
theorem lw_m3 : ∀ w ∈ tables_1_3, w ∈ lw_tbl := by sorry
set_option maxRecDepth 100000 in
theorem lw_m4 : ∀ w ∈ tables_1_4, w ∈ lw_tbl := by sorry
set_option maxRecDepth 100000 in
theorem lw_m5 : ∀ w ∈ tables_1_5, w ∈ lw_tbl := by sorry
set_option maxRecDepth 100000 in
theorem lw_m6 : ∀ w ∈ tables_1_6, w ∈ lw_tbl := by sorry
set_option maxRecDepth 100000 in
theorem lw_m7 : ∀ w ∈ tables_1_7, w ∈ lw_tbl := by sorry
set_option maxRecDepth 100000 in
theorem lw_m8 : ∀ w ∈ tables_1_8, w ∈ lw_tbl := by sorry
set_option maxRecDepth 100000 in
theorem lw_m9 : ∀ w ∈ tables_1_9, w ∈ lw_tbl := by sorry
set_option maxRecDepth 100000 in
theorem lw_m10 : ∀ w ∈ tables_1_10, w ∈ lw_tbl := by sorry
set_option maxRecDepth 100000 in
theorem lw_m11 : ∀ w ∈ tables_1_11, w ∈ lw_tbl := by sorry
set_option maxRecDepth 100000 in
theorem lw_m12 : ∀ w ∈ tables_1_12, w ∈ lw_tbl := by sorry
set_option maxRecDepth 100000 in
theorem lw_m13 : ∀ w ∈ tables_1_13, w ∈ lw_tbl := by sorry
set_option maxRecDepth 100000 in
theorem lw_m14 : ∀ w ∈ tables_1_14, w ∈ lw_tbl := by sorry
set_option maxRecDepth 100000 in
theorem lw_m15 : ∀ w ∈ tables_1_15, w ∈ lw_tbl := by sorry
set_option maxRecDepth 100000 in
theorem lw_m16 : ∀ w ∈ tables_1_16, w ∈ lw_tbl := by sorry
set_option maxRecDepth 100000 in
theorem lw_m17 : ∀ w ∈ tables_1_17, w ∈ lw_tbl := by sorry
set_option maxRecDepth 100000 in
theorem lw_m18 : ∀ w ∈ tables_1_18, w ∈ lw_tbl := by sorry
set_option maxRecDepth 100000 in
theorem qs0 : (Cond.selects "java/lang/Throwable" ⟨"java/lang/Throwable", "fillInStackTrace", "(I)Ljava/lang/Throwable;"⟩ ⟨"java/lang/Throwable", "fillInStackTrace", "(I)Ljava/lang/Throwable;"⟩) ∈ lw_all := by sorry
set_option maxRecDepth 100000 in
theorem qs1 : (Cond.selects "java/util/BitSet" ⟨"java/util/BitSet", "initWords", "(I)V"⟩ ⟨"java/util/BitSet", "initWords", "(I)V"⟩) ∈ lw_all := by sorry
set_option maxRecDepth 100000 in
theorem qs2 : (Cond.selects "ProofLibrary" ⟨"ProofLibrary", "put", "(I)V"⟩ ⟨"ProofLibrary", "put", "(I)V"⟩) ∈ lw_all := by sorry
set_option maxRecDepth 100000 in
theorem qs3 : (Cond.selects "ProofLibrary$Tape" ⟨"ProofLibrary$Tape", "isKey", "()Z"⟩ ⟨"ProofLibrary$Tape", "isKey", "()Z"⟩) ∈ lw_all := by sorry
set_option maxRecDepth 100000 in
theorem qs4 : (Cond.selects "ProofLibrary$Tape" ⟨"ProofLibrary$Tape", "comment", "()V"⟩ ⟨"ProofLibrary$Tape", "comment", "()V"⟩) ∈ lw_all := by sorry
set_option maxRecDepth 100000 in
theorem qs5 : (Cond.selects "ProofLibrary$Tape" ⟨"ProofLibrary$Tape", "has", "(CC)Z"⟩ ⟨"ProofLibrary$Tape", "has", "(CC)Z"⟩) ∈ lw_all := by sorry
set_option maxRecDepth 100000 in
theorem qs6 : (Cond.selects "ProofLibrary$Reader" ⟨"ProofLibrary$Reader", "statement", "()V"⟩ ⟨"ProofLibrary$Reader", "statement", "()V"⟩) ∈ lw_all := by sorry
set_option maxRecDepth 100000 in
theorem qs7 : (Cond.selects "ProofLibrary$Reader" ⟨"ProofLibrary$Reader", "need", "(ZI)V"⟩ ⟨"ProofLibrary$Reader", "need", "(ZI)V"⟩) ∈ lw_all := by sorry
set_option maxRecDepth 100000 in
theorem qs8 : (Cond.selects "ProofLibrary$Reader" ⟨"ProofLibrary$Reader", "constants", "()V"⟩ ⟨"ProofLibrary$Reader", "constants", "()V"⟩) ∈ lw_all := by sorry
set_option maxRecDepth 100000 in
theorem qs9 : (Cond.selects "ProofLibrary$Reader" ⟨"ProofLibrary$Reader", "isMore", "(IZ)Z"⟩ ⟨"ProofLibrary$Reader", "isMore", "(IZ)Z"⟩) ∈ lw_all := by sorry
set_option maxRecDepth 100000 in
theorem qs10 : (Cond.selects "ProofLibrary$Reader" ⟨"ProofLibrary$Reader", "key", "()I"⟩ ⟨"ProofLibrary$Reader", "key", "()I"⟩) ∈ lw_all := by sorry
set_option maxRecDepth 100000 in
theorem qs11 : (Cond.selects "ProofLibrary$Reader" ⟨"ProofLibrary$Reader", "needName", "(Z)V"⟩ ⟨"ProofLibrary$Reader", "needName", "(Z)V"⟩) ∈ lw_all := by sorry
set_option maxRecDepth 100000 in
theorem qs12 : (Cond.selects "java/util/ArrayList" ⟨"java/util/ArrayList", "add", "(Ljava/lang/Object;[Ljava/lang/Object;I)V"⟩ ⟨"java/util/ArrayList", "add", "(Ljava/lang/Object;[Ljava/lang/Object;I)V"⟩) ∈ lw_all := by sorry
set_option maxRecDepth 100000 in
theorem qs13 : (Cond.selects "java/util/ArrayList" ⟨"java/util/ArrayList", "grow", "()[Ljava/lang/Object;"⟩ ⟨"java/util/ArrayList", "grow", "()[Ljava/lang/Object;"⟩) ∈ lw_all := by sorry
set_option maxRecDepth 100000 in
theorem qs14 : (Cond.selects "java/util/ArrayList" ⟨"java/util/ArrayList", "grow", "(I)[Ljava/lang/Object;"⟩ ⟨"java/util/ArrayList", "grow", "(I)[Ljava/lang/Object;"⟩) ∈ lw_all := by sorry
set_option maxRecDepth 100000 in
theorem qs15 : (Cond.selects "ProofLibrary$Reader" ⟨"ProofLibrary$Reader", "variables", "()V"⟩ ⟨"ProofLibrary$Reader", "variables", "()V"⟩) ∈ lw_all := by sorry
set_option maxRecDepth 100000 in
theorem qs16 : (Cond.selects "ProofLibrary$Reader" ⟨"ProofLibrary$Reader", "symbol", "()I"⟩ ⟨"ProofLibrary$Reader", "symbol", "()I"⟩) ∈ lw_all := by sorry
set_option maxRecDepth 100000 in
theorem qs17 : (Cond.selects "java/util/ArrayDeque" ⟨"java/util/ArrayDeque", "grow", "(I)V"⟩ ⟨"java/util/ArrayDeque", "grow", "(I)V"⟩) ∈ lw_all := by sorry
set_option maxRecDepth 100000 in
theorem qs18 : (Cond.selects "java/util/ArrayDeque" ⟨"java/util/ArrayDeque", "newCapacity", "(II)I"⟩ ⟨"java/util/ArrayDeque", "newCapacity", "(II)I"⟩) ∈ lw_all := by sorry
set_option maxRecDepth 100000 in
theorem qs19 : (Cond.selects "ProofLibrary$Reader" ⟨"ProofLibrary$Reader", "apart", "()V"⟩ ⟨"ProofLibrary$Reader", "apart", "()V"⟩) ∈ lw_all := by sorry
set_option maxRecDepth 100000 in
theorem qs20 : (Cond.selects "ProofLibrary$Reader" ⟨"ProofLibrary$Reader", "isTold", "(II)Z"⟩ ⟨"ProofLibrary$Reader", "isTold", "(II)Z"⟩) ∈ lw_all := by sorry
set_option maxRecDepth 100000 in
theorem qs21 : (Cond.selects "ProofLibrary$Reader" ⟨"ProofLibrary$Reader", "countNew", "(II)I"⟩ ⟨"ProofLibrary$Reader", "countNew", "(II)I"⟩) ∈ lw_all := by sorry
set_option maxRecDepth 100000 in
theorem qs22 : (Cond.selects "ProofLibrary$Reader" ⟨"ProofLibrary$Reader", "labelled", "()V"⟩ ⟨"ProofLibrary$Reader", "labelled", "()V"⟩) ∈ lw_all := by sorry
set_option maxRecDepth 100000 in
theorem qs23 : (Cond.selects "ProofLibrary$Reader" ⟨"ProofLibrary$Reader", "floating", "(I)V"⟩ ⟨"ProofLibrary$Reader", "floating", "(I)V"⟩) ∈ lw_all := by sorry
set_option maxRecDepth 100000 in
theorem qs24 : (Cond.selects "ProofLibrary$Reader" ⟨"ProofLibrary$Reader", "constant", "(I)V"⟩ ⟨"ProofLibrary$Reader", "constant", "(I)V"⟩) ∈ lw_all := by sorry
set_option maxRecDepth 100000 in
theorem qs25 : (Cond.selects "ProofLibrary$Reader" ⟨"ProofLibrary$Reader", "needRoom", "(I)V"⟩ ⟨"ProofLibrary$Reader", "needRoom", "(I)V"⟩) ∈ lw_all := by sorry
set_option maxRecDepth 100000 in
theorem qs26 : (Cond.selects "ProofLibrary$Reader" ⟨"ProofLibrary$Reader", "put", "(II)V"⟩ ⟨"ProofLibrary$Reader", "put", "(II)V"⟩) ∈ lw_all := by sorry
set_option maxRecDepth 100000 in
theorem qs27 : (Cond.selects "ProofLibrary$Reader" ⟨"ProofLibrary$Reader", "row", "(II)V"⟩ ⟨"ProofLibrary$Reader", "row", "(II)V"⟩) ∈ lw_all := by sorry
set_option maxRecDepth 100000 in
theorem qs28 : (Cond.selects "ProofLibrary$Reader" ⟨"ProofLibrary$Reader", "floatingOnes", "(I)V"⟩ ⟨"ProofLibrary$Reader", "floatingOnes", "(I)V"⟩) ∈ lw_all := by sorry
set_option maxRecDepth 100000 in
theorem qs29 : (Cond.selects "ProofLibrary$Reader" ⟨"ProofLibrary$Reader", "see", "(I)V"⟩ ⟨"ProofLibrary$Reader", "see", "(I)V"⟩) ∈ lw_all := by sorry
set_option maxRecDepth 100000 in
theorem qs30 : (Cond.selects "java/util/BitSet" ⟨"java/util/BitSet", "expandTo", "(I)V"⟩ ⟨"java/util/BitSet", "expandTo", "(I)V"⟩) ∈ lw_all := by sorry
set_option maxRecDepth 100000 in
theorem qs31 : (Cond.selects "java/util/BitSet" ⟨"java/util/BitSet", "ensureCapacity", "(I)V"⟩ ⟨"java/util/BitSet", "ensureCapacity", "(I)V"⟩) ∈ lw_all := by sorry
set_option maxRecDepth 100000 in
theorem qs32 : (Cond.selects "java/util/BitSet" ⟨"java/util/BitSet", "checkInvariants", "()V"⟩ ⟨"java/util/BitSet", "checkInvariants", "()V"⟩) ∈ lw_all := by sorry
set_option maxRecDepth 100000 in
theorem qs33 : (Cond.selects "ProofLibrary$Reader" ⟨"ProofLibrary$Reader", "frame", "(I)V"⟩ ⟨"ProofLibrary$Reader", "frame", "(I)V"⟩) ∈ lw_all := by sorry
set_option maxRecDepth 100000 in
theorem qs34 : (Cond.selects "ProofLibrary$Reader" ⟨"ProofLibrary$Reader", "proof", "(I)V"⟩ ⟨"ProofLibrary$Reader", "proof", "(I)V"⟩) ∈ lw_all := by sorry
set_option maxRecDepth 100000 in
theorem qs35 : (Cond.selects "ProofLibrary$Reader" ⟨"ProofLibrary$Reader", "packed", "(I)V"⟩ ⟨"ProofLibrary$Reader", "packed", "(I)V"⟩) ∈ lw_all := by sorry
set_option maxRecDepth 100000 in
theorem qs36 : (Cond.selects "ProofLibrary$Reader" ⟨"ProofLibrary$Reader", "stepAt", "(I)I"⟩ ⟨"ProofLibrary$Reader", "stepAt", "(I)I"⟩) ∈ lw_all := by sorry
set_option maxRecDepth 100000 in
theorem qs37 : (Cond.selects "ProofLibrary$Reader" ⟨"ProofLibrary$Reader", "isMandatory", "(II)Z"⟩ ⟨"ProofLibrary$Reader", "isMandatory", "(II)Z"⟩) ∈ lw_all := by sorry
set_option maxRecDepth 100000 in
theorem qs38 : (Cond.selects "ProofLibrary$Reader" ⟨"ProofLibrary$Reader", "needStepRoom", "(I)V"⟩ ⟨"ProofLibrary$Reader", "needStepRoom", "(I)V"⟩) ∈ lw_all := by sorry
set_option maxRecDepth 100000 in
theorem qs39 : (Cond.selects "ProofLibrary$Reader$Letters" ⟨"ProofLibrary$Reader$Letters", "end", "()V"⟩ ⟨"ProofLibrary$Reader$Letters", "end", "()V"⟩) ∈ lw_all := by sorry
set_option maxRecDepth 100000 in
theorem qs40 : (Cond.selects "ProofLibrary$Reader" ⟨"ProofLibrary$Reader", "addStep", "(II)V"⟩ ⟨"ProofLibrary$Reader", "addStep", "(II)V"⟩) ∈ lw_all := by sorry
set_option maxRecDepth 100000 in
theorem qs41 : (Cond.selects "ProofLibrary$Reader" ⟨"ProofLibrary$Reader", "plain", "(II)V"⟩ ⟨"ProofLibrary$Reader", "plain", "(II)V"⟩) ∈ lw_all := by sorry
set_option maxRecDepth 100000 in
theorem qs42 : (Cond.selects "ProofLibrary$Reader" ⟨"ProofLibrary$Reader", "goThrough", "(I)V"⟩ ⟨"ProofLibrary$Reader", "goThrough", "(I)V"⟩) ∈ lw_all := by sorry
set_option maxRecDepth 100000 in
theorem qs43 : (Cond.selects "ProofLibrary$Pile" ⟨"ProofLibrary$Pile", "push", "([III)V"⟩ ⟨"ProofLibrary$Pile", "push", "([III)V"⟩) ∈ lw_all := by sorry
set_option maxRecDepth 100000 in
theorem qs44 : (Cond.selects "ProofLibrary$Pile" ⟨"ProofLibrary$Pile", "isTooMuch", "()Z"⟩ ⟨"ProofLibrary$Pile", "isTooMuch", "()Z"⟩) ∈ lw_all := by sorry
set_option maxRecDepth 100000 in
theorem qs45 : (Cond.selects "ProofLibrary$Pile" ⟨"ProofLibrary$Pile", "apply", "(ILProofLibrary$Apart;)I"⟩ ⟨"ProofLibrary$Pile", "apply", "(ILProofLibrary$Apart;)I"⟩) ∈ lw_all := by sorry
set_option maxRecDepth 100000 in
theorem qs46 : (Cond.selects "ProofLibrary$Pile" ⟨"ProofLibrary$Pile", "fits", "(II)Z"⟩ ⟨"ProofLibrary$Pile", "fits", "(II)Z"⟩) ∈ lw_all := by sorry
set_option maxRecDepth 100000 in
theorem qs47 : (Cond.selects "ProofLibrary$Pile" ⟨"ProofLibrary$Pile", "areApart", "(IILProofLibrary$Apart;)Z"⟩ ⟨"ProofLibrary$Pile", "areApart", "(IILProofLibrary$Apart;)Z"⟩) ∈ lw_all := by sorry
set_option maxRecDepth 100000 in
theorem qs48 : (Cond.selects "ProofLibrary$Pile" ⟨"ProofLibrary$Pile", "gather", "(ILjava/util/BitSet;)V"⟩ ⟨"ProofLibrary$Pile", "gather", "(ILjava/util/BitSet;)V"⟩) ∈ lw_all := by sorry
set_option maxRecDepth 100000 in
theorem qs49 : (Cond.selects "ProofLibrary$Pile" ⟨"ProofLibrary$Pile", "add", "(I)Z"⟩ ⟨"ProofLibrary$Pile", "add", "(I)Z"⟩) ∈ lw_all := by sorry
set_option maxRecDepth 100000 in
theorem qs50 : (Cond.selects "ProofLibrary$Pile" ⟨"ProofLibrary$Pile", "length", "(I)I"⟩ ⟨"ProofLibrary$Pile", "length", "(I)I"⟩) ∈ lw_all := by sorry
set_option maxRecDepth 100000 in
theorem qs51 : (Cond.selects "ProofLibrary$Reader" ⟨"ProofLibrary$Reader", "rest", "(I)V"⟩ ⟨"ProofLibrary$Reader", "rest", "(I)V"⟩) ∈ lw_all := by sorry
set_option maxRecDepth 100000 in
theorem qs52 : (Cond.selects "java/util/ArrayList" ⟨"java/util/ArrayList", "fastRemove", "([Ljava/lang/Object;I)V"⟩ ⟨"java/util/ArrayList", "fastRemove", "([Ljava/lang/Object;I)V"⟩) ∈ lw_all := by sorry
set_option maxRecDepth 100000 in
theorem qs53 : (Cond.selects "ProofLibrary$Book" ⟨"ProofLibrary$Book", "endBeginning", "(I)V"⟩ ⟨"ProofLibrary$Book", "endBeginning", "(I)V"⟩) ∈ lw_all := by sorry
set_option maxRecDepth 100000 in
theorem qs54 : (Cond.selects "ProofLibrary" ⟨"ProofLibrary", "forget", "()V"⟩ ⟨"ProofLibrary", "forget", "()V"⟩) ∈ lw_all := by sorry
set_option maxRecDepth 100000 in
theorem qs55 : (Cond.selects "ProofLibrary" ⟨"ProofLibrary", "countFlags", "([ZI)I"⟩ ⟨"ProofLibrary", "countFlags", "([ZI)I"⟩) ∈ lw_all := by sorry
set_option maxRecDepth 100000 in
theorem qs56 : (Cond.selects "ProofLibrary" ⟨"ProofLibrary", "countKind", "(I)I"⟩ ⟨"ProofLibrary", "countKind", "(I)I"⟩) ∈ lw_all := by sorry
set_option maxRecDepth 100000 in
theorem qs57 : (Cond.selects "ProofLibrary" ⟨"ProofLibrary", "isSymbol", "(I)Z"⟩ ⟨"ProofLibrary", "isSymbol", "(I)Z"⟩) ∈ lw_all := by sorry
set_option maxRecDepth 100000 in
theorem qs58 : (Cond.selects "ProofLibrary" ⟨"ProofLibrary", "isAssertion", "(I)Z"⟩ ⟨"ProofLibrary", "isAssertion", "(I)Z"⟩) ∈ lw_all := by sorry
set_option maxRecDepth 100000 in
theorem qs59 : (Cond.selects "ProofLibrary" ⟨"ProofLibrary", "isProved", "(I)Z"⟩ ⟨"ProofLibrary", "isProved", "(I)Z"⟩) ∈ lw_all := by sorry
set_option maxRecDepth 100000 in
theorem qs60 : (Cond.selects "ProofLibrary$Rows" ⟨"ProofLibrary$Rows", "make", "(II)I"⟩ ⟨"ProofLibrary$Rows", "make", "(II)I"⟩) ∈ lw_all := by sorry
set_option maxRecDepth 100000 in
theorem qs61 : (Cond.selects "ProofLibrary" ⟨"ProofLibrary", "isRow", "(II)Z"⟩ ⟨"ProofLibrary", "isRow", "(II)Z"⟩) ∈ lw_all := by sorry
set_option maxRecDepth 100000 in
theorem qs62 : (Cond.selects "ProofLibrary" ⟨"ProofLibrary", "sayToken", "(Ljava/lang/String;)Z"⟩ ⟨"ProofLibrary", "sayToken", "(Ljava/lang/String;)Z"⟩) ∈ lw_all := by sorry
set_option maxRecDepth 100000 in
theorem qs63 : (Cond.selects "ProofLibrary" ⟨"ProofLibrary", "say", "(I)Z"⟩ ⟨"ProofLibrary", "say", "(I)Z"⟩) ∈ lw_all := by sorry
set_option maxRecDepth 100000 in
theorem qs64 : (Cond.selects "ProofLibrary" ⟨"ProofLibrary", "give", "(Z)I"⟩ ⟨"ProofLibrary", "give", "(Z)I"⟩) ∈ lw_all := by sorry
set_option maxRecDepth 100000 in
theorem qs65 : (Cond.selects "ProofLibrary" ⟨"ProofLibrary", "saySymbols", "([III)Z"⟩ ⟨"ProofLibrary", "saySymbols", "([III)Z"⟩) ∈ lw_all := by sorry
set_option maxRecDepth 100000 in
theorem qs66 : (Cond.selects "ProofLibrary" ⟨"ProofLibrary", "sayRow", "(II)Z"⟩ ⟨"ProofLibrary", "sayRow", "(II)Z"⟩) ∈ lw_all := by sorry
set_option maxRecDepth 100000 in
theorem qs67 : (Cond.selects "ProofLibrary" ⟨"ProofLibrary", "printMore", "(II)I"⟩ ⟨"ProofLibrary", "printMore", "(II)I"⟩) ∈ lw_all := by sorry
set_option maxRecDepth 100000 in
theorem qs68 : (Cond.selects "ProofLibrary" ⟨"ProofLibrary", "printProof", "(II)I"⟩ ⟨"ProofLibrary", "printProof", "(II)I"⟩) ∈ lw_all := by sorry
set_option maxRecDepth 100000 in
theorem qs69 : (Cond.selects "ProofLibrary" ⟨"ProofLibrary", "sayPacked", "(I)Z"⟩ ⟨"ProofLibrary", "sayPacked", "(I)Z"⟩) ∈ lw_all := by sorry
set_option maxRecDepth 100000 in
theorem qs70 : (Cond.selects "ProofLibrary$Packer" ⟨"ProofLibrary$Packer", "findKinds", "(LProofLibrary$Rows;)V"⟩ ⟨"ProofLibrary$Packer", "findKinds", "(LProofLibrary$Rows;)V"⟩) ∈ lw_all := by sorry
set_option maxRecDepth 100000 in
theorem qs71 : (Cond.selects "ProofLibrary$Packer" ⟨"ProofLibrary$Packer", "find", "()I"⟩ ⟨"ProofLibrary$Packer", "find", "()I"⟩) ∈ lw_all := by sorry
set_option maxRecDepth 100000 in
theorem qs72 : (Cond.selects "ProofLibrary$Packer" ⟨"ProofLibrary$Packer", "isSame", "(I)Z"⟩ ⟨"ProofLibrary$Packer", "isSame", "(I)Z"⟩) ∈ lw_all := by sorry
set_option maxRecDepth 100000 in
theorem qs73 : (Cond.selects "ProofLibrary$Packer" ⟨"ProofLibrary$Packer", "walk", "(Z)V"⟩ ⟨"ProofLibrary$Packer", "walk", "(Z)V"⟩) ∈ lw_all := by sorry
set_option maxRecDepth 100000 in
theorem qs74 : (Cond.selects "ProofLibrary$Packer" ⟨"ProofLibrary$Packer", "add", "(ZI)V"⟩ ⟨"ProofLibrary$Packer", "add", "(ZI)V"⟩) ∈ lw_all := by sorry
set_option maxRecDepth 100000 in
theorem qs75 : (Cond.selects "ProofLibrary$Packer" ⟨"ProofLibrary$Packer", "findLabels", "()V"⟩ ⟨"ProofLibrary$Packer", "findLabels", "()V"⟩) ∈ lw_all := by sorry
set_option maxRecDepth 100000 in
theorem qs76 : (Cond.selects "ProofLibrary" ⟨"ProofLibrary", "sayNumber", "(I)Z"⟩ ⟨"ProofLibrary", "sayNumber", "(I)Z"⟩) ∈ lw_all := by sorry
set_option maxRecDepth 100000 in
theorem qs77 : (Cond.selects "ProofLibrary" ⟨"ProofLibrary", "sizeOf", "(I)J"⟩ ⟨"ProofLibrary", "sizeOf", "(I)J"⟩) ∈ lw_all := by sorry
set_option maxRecDepth 100000 in
theorem qs78 : (Cond.selects "ProofLibrary" ⟨"ProofLibrary", "sayInFull", "(I)Z"⟩ ⟨"ProofLibrary", "sayInFull", "(I)Z"⟩) ∈ lw_all := by sorry
set_option maxRecDepth 100000 in
theorem qs79 : (Cond.selects "ProofLibrary$Grammar" ⟨"ProofLibrary$Grammar", "symbolOf", "(Ljava/lang/String;)I"⟩ ⟨"ProofLibrary$Grammar", "symbolOf", "(Ljava/lang/String;)I"⟩) ∈ lw_all := by sorry
set_option maxRecDepth 100000 in
theorem qs80 : (Cond.selects "ProofLibrary$Grammar" ⟨"ProofLibrary$Grammar", "isRule", "(II)Z"⟩ ⟨"ProofLibrary$Grammar", "isRule", "(II)Z"⟩) ∈ lw_all := by sorry
set_option maxRecDepth 100000 in
theorem qs81 : (Cond.selects "ProofLibrary$Grammar" ⟨"ProofLibrary$Grammar", "addRule", "(I)V"⟩ ⟨"ProofLibrary$Grammar", "addRule", "(I)V"⟩) ∈ lw_all := by sorry
set_option maxRecDepth 100000 in
theorem qs82 : (Cond.selects "ProofLibrary$Grammar" ⟨"ProofLibrary$Grammar", "sortOf", "(I)I"⟩ ⟨"ProofLibrary$Grammar", "sortOf", "(I)I"⟩) ∈ lw_all := by sorry
set_option maxRecDepth 100000 in
theorem qs83 : (Cond.selects "ProofLibrary$Grammar" ⟨"ProofLibrary$Grammar", "placeOf", "(II)I"⟩ ⟨"ProofLibrary$Grammar", "placeOf", "(II)I"⟩) ∈ lw_all := by sorry
set_option maxRecDepth 100000 in
theorem qs84 : (Cond.selects "ProofLibrary$Grammar" ⟨"ProofLibrary$Grammar", "grow", "(I)V"⟩ ⟨"ProofLibrary$Grammar", "grow", "(I)V"⟩) ∈ lw_all := by sorry
set_option maxRecDepth 100000 in
theorem qs85 : (Cond.selects "ProofLibrary$Grammar" ⟨"ProofLibrary$Grammar", "typeOf", "(II)I"⟩ ⟨"ProofLibrary$Grammar", "typeOf", "(II)I"⟩) ∈ lw_all := by sorry
set_option maxRecDepth 100000 in
theorem qs86 : (Cond.selects "ProofLibrary$Grammar" ⟨"ProofLibrary$Grammar", "sortBy", "(I)I"⟩ ⟨"ProofLibrary$Grammar", "sortBy", "(I)I"⟩) ∈ lw_all := by sorry
set_option maxRecDepth 100000 in
theorem qs87 : (Cond.selects "ProofLibrary$Grammar" ⟨"ProofLibrary$Grammar", "goFrom", "(I)V"⟩ ⟨"ProofLibrary$Grammar", "goFrom", "(I)V"⟩) ∈ lw_all := by sorry
set_option maxRecDepth 100000 in
theorem qs88 : (Cond.selects "ProofLibrary$Grammar" ⟨"ProofLibrary$Grammar", "goOn", "(III)V"⟩ ⟨"ProofLibrary$Grammar", "goOn", "(III)V"⟩) ∈ lw_all := by sorry
set_option maxRecDepth 100000 in
theorem qs89 : (Cond.selects "ProofLibrary$Grammar" ⟨"ProofLibrary$Grammar", "add", "(III)V"⟩ ⟨"ProofLibrary$Grammar", "add", "(III)V"⟩) ∈ lw_all := by sorry
set_option maxRecDepth 100000 in
theorem qs90 : (Cond.selects "ProofLibrary$Grammar" ⟨"ProofLibrary$Grammar", "finish", "(II)V"⟩ ⟨"ProofLibrary$Grammar", "finish", "(II)V"⟩) ∈ lw_all := by sorry
set_option maxRecDepth 100000 in
theorem qs91 : (Cond.selects "ProofLibrary$Grammar" ⟨"ProofLibrary$Grammar", "variableSort", "(II)I"⟩ ⟨"ProofLibrary$Grammar", "variableSort", "(II)I"⟩) ∈ lw_all := by sorry
set_option maxRecDepth 100000 in
theorem qs92 : (Cond.selects "ProofLibrary$Grammar" ⟨"ProofLibrary$Grammar", "waysTo", "(II)I"⟩ ⟨"ProofLibrary$Grammar", "waysTo", "(II)I"⟩) ∈ lw_all := by sorry
set_option maxRecDepth 100000 in
theorem qs93 : (Cond.selects "ProofLibrary$Grammar" ⟨"ProofLibrary$Grammar", "byOne", "(III)I"⟩ ⟨"ProofLibrary$Grammar", "byOne", "(III)I"⟩) ∈ lw_all := by sorry
set_option maxRecDepth 100000 in
theorem qs94 : (Cond.selects "ProofLibrary$Grammar" ⟨"ProofLibrary$Grammar", "expand", "(LProofLibrary$Forest;I)V"⟩ ⟨"ProofLibrary$Grammar", "expand", "(LProofLibrary$Forest;I)V"⟩) ∈ lw_all := by sorry
set_option maxRecDepth 100000 in
theorem qs95 : (Cond.selects "ProofLibrary$Grammar" ⟨"ProofLibrary$Grammar", "makes", "(III)Z"⟩ ⟨"ProofLibrary$Grammar", "makes", "(III)Z"⟩) ∈ lw_all := by sorry
set_option maxRecDepth 100000 in
theorem qs96 : (Cond.selects "ProofLibrary$Grammar" ⟨"ProofLibrary$Grammar", "mayBe", "(II)Z"⟩ ⟨"ProofLibrary$Grammar", "mayBe", "(II)Z"⟩) ∈ lw_all := by sorry
set_option maxRecDepth 100000 in
theorem qs97 : (Cond.selects "ProofLibrary$Grammar" ⟨"ProofLibrary$Grammar", "step", "(IIII)V"⟩ ⟨"ProofLibrary$Grammar", "step", "(IIII)V"⟩) ∈ lw_all := by sorry
set_option maxRecDepth 100000 in
theorem qs98 : (Cond.selects "ProofLibrary$Grammar" ⟨"ProofLibrary$Grammar", "cut", "(II)V"⟩ ⟨"ProofLibrary$Grammar", "cut", "(II)V"⟩) ∈ lw_all := by sorry
set_option maxRecDepth 100000 in
theorem qs99 : (Cond.selects "ProofLibrary" ⟨"ProofLibrary", "sayTree", "(I)Z"⟩ ⟨"ProofLibrary", "sayTree", "(I)Z"⟩) ∈ lw_all := by sorry
set_option maxRecDepth 100000 in
theorem qs100 : (Cond.selects "ProofLibrary" ⟨"ProofLibrary", "floatingOf", "(II)I"⟩ ⟨"ProofLibrary", "floatingOf", "(II)I"⟩) ∈ lw_all := by sorry
set_option maxRecDepth 100000 in
theorem qs101 : (Cond.selects "ProofLibrary" ⟨"ProofLibrary", "sayUnfolded", "(I)Z"⟩ ⟨"ProofLibrary", "sayUnfolded", "(I)Z"⟩) ∈ lw_all := by sorry
set_option maxRecDepth 100000 in
theorem qs102 : (Cond.selects "ProofLibrary$Definitions" ⟨"ProofLibrary$Definitions", "tellsProved", "(I)Z"⟩ ⟨"ProofLibrary$Definitions", "tellsProved", "(I)Z"⟩) ∈ lw_all := by sorry
set_option maxRecDepth 100000 in
theorem qs103 : (Cond.selects "ProofLibrary$Definitions" ⟨"ProofLibrary$Definitions", "look", "(I)V"⟩ ⟨"ProofLibrary$Definitions", "look", "(I)V"⟩) ∈ lw_all := by sorry
set_option maxRecDepth 100000 in
theorem qs104 : (Cond.selects "ProofLibrary$Definitions" ⟨"ProofLibrary$Definitions", "areDifferent", "(I)Z"⟩ ⟨"ProofLibrary$Definitions", "areDifferent", "(I)Z"⟩) ∈ lw_all := by sorry
set_option maxRecDepth 100000 in
theorem qs105 : (Cond.selects "ProofLibrary$Definitions" ⟨"ProofLibrary$Definitions", "isMade", "(I)Z"⟩ ⟨"ProofLibrary$Definitions", "isMade", "(I)Z"⟩) ∈ lw_all := by sorry
set_option maxRecDepth 100000 in
theorem qs106 : (Cond.selects "ProofLibrary$Definitions" ⟨"ProofLibrary$Definitions", "keep", "(I)V"⟩ ⟨"ProofLibrary$Definitions", "keep", "(I)V"⟩) ∈ lw_all := by sorry
set_option maxRecDepth 100000 in
theorem qs107 : (Cond.selects "ProofLibrary$Definitions" ⟨"ProofLibrary$Definitions", "definedAt", "(II)I"⟩ ⟨"ProofLibrary$Definitions", "definedAt", "(II)I"⟩) ∈ lw_all := by sorry
set_option maxRecDepth 100000 in
theorem qs108 : (Cond.selects "ProofLibrary" ⟨"ProofLibrary", "tapeSymbols", "()I"⟩ ⟨"ProofLibrary", "tapeSymbols", "()I"⟩) ∈ lw_all := by sorry
set_option maxRecDepth 100000 in
theorem qs109 : (Cond.selects "ProofLibrary" ⟨"ProofLibrary", "applyTo", "(II)I"⟩ ⟨"ProofLibrary", "applyTo", "(II)I"⟩) ∈ lw_all := by sorry
set_option maxRecDepth 100000 in
theorem qs110 : (Cond.selects "ProofLibrary" ⟨"ProofLibrary", "match", "()Z"⟩ ⟨"ProofLibrary", "match", "()Z"⟩) ∈ lw_all := by sorry
set_option maxRecDepth 100000 in
theorem qs111 : (Cond.selects "ProofLibrary" ⟨"ProofLibrary", "stands", "(III)Z"⟩ ⟨"ProofLibrary", "stands", "(III)Z"⟩) ∈ lw_all := by sorry
set_option maxRecDepth 100000 in
theorem qs112 : (Cond.selects "ProofLibrary" ⟨"ProofLibrary", "areBound", "(I)Z"⟩ ⟨"ProofLibrary", "areBound", "(I)Z"⟩) ∈ lw_all := by sorry
set_option maxRecDepth 100000 in
theorem qs113 : (Cond.selects "ProofLibrary" ⟨"ProofLibrary", "isBound", "(I)Z"⟩ ⟨"ProofLibrary", "isBound", "(I)Z"⟩) ∈ lw_all := by sorry
set_option maxRecDepth 100000 in
theorem qs114 : (Cond.selects "ProofLibrary" ⟨"ProofLibrary", "sayBecome", "(I)Z"⟩ ⟨"ProofLibrary", "sayBecome", "(I)Z"⟩) ∈ lw_all := by sorry
set_option maxRecDepth 100000 in
theorem qs115 : (Cond.selects "ProofLibrary" ⟨"ProofLibrary", "isAllProved", "()Z"⟩ ⟨"ProofLibrary", "isAllProved", "()Z"⟩) ∈ lw_all := by sorry
set_option maxRecDepth 100000 in
theorem qs116 : (Cond.selects "ProofLibrary" ⟨"ProofLibrary", "isProvedWell", "(I)Z"⟩ ⟨"ProofLibrary", "isProvedWell", "(I)Z"⟩) ∈ lw_all := by sorry
set_option maxRecDepth 100000 in
theorem qs117 : (Cond.selects "ProofLibrary" ⟨"ProofLibrary", "isWell", "()Z"⟩ ⟨"ProofLibrary", "isWell", "()Z"⟩) ∈ lw_all := by sorry
set_option maxRecDepth 100000 in
theorem qs118 : (Cond.selects "ProofLibrary" ⟨"ProofLibrary", "isPackedWell", "(I)Z"⟩ ⟨"ProofLibrary", "isPackedWell", "(I)Z"⟩) ∈ lw_all := by sorry
set_option maxRecDepth 100000 in
theorem qs119 : (Cond.selects "ProofLibrary$Packer" ⟨"ProofLibrary$Packer", "known", "()I"⟩ ⟨"ProofLibrary$Packer", "known", "()I"⟩) ∈ lw_all := by sorry
set_option maxRecDepth 100000 in
theorem qs120 : (Cond.selects "ProofLibrary" ⟨"ProofLibrary", "isTreeWell", "(I)Z"⟩ ⟨"ProofLibrary", "isTreeWell", "(I)Z"⟩) ∈ lw_all := by sorry
set_option maxRecDepth 100000 in
theorem qs121 : (Cond.selects "ProofLibrary" ⟨"ProofLibrary", "isNodeWell", "(I)Z"⟩ ⟨"ProofLibrary", "isNodeWell", "(I)Z"⟩) ∈ lw_all := by sorry
set_option maxRecDepth 100000 in
theorem qs122 : (Cond.selects "ProofLibraryModel" ⟨"ProofLibraryModel", "clearTables", "()V"⟩ ⟨"ProofLibraryModel", "clearTables", "()V"⟩) ∈ lw_all := by sorry
set_option maxRecDepth 100000 in
theorem qs123 : (Cond.selects "ProofLibraryModel" ⟨"ProofLibraryModel", "noteAll", "()V"⟩ ⟨"ProofLibraryModel", "noteAll", "()V"⟩) ∈ lw_all := by sorry
set_option maxRecDepth 100000 in
theorem qs124 : (Cond.selects "ProofLibraryModel" ⟨"ProofLibraryModel", "next", "()V"⟩ ⟨"ProofLibraryModel", "next", "()V"⟩) ∈ lw_all := by sorry
set_option maxRecDepth 100000 in
theorem qs125 : (Cond.selects "ProofLibraryModel" ⟨"ProofLibraryModel", "nextRow", "()Z"⟩ ⟨"ProofLibraryModel", "nextRow", "()Z"⟩) ∈ lw_all := by sorry
set_option maxRecDepth 100000 in
theorem qs126 : (Cond.selects "ProofLibraryModel" ⟨"ProofLibraryModel", "fail", "(II)V"⟩ ⟨"ProofLibraryModel", "fail", "(II)V"⟩) ∈ lw_all := by sorry
set_option maxRecDepth 100000 in
theorem qs127 : (Cond.selects "ProofLibraryModel" ⟨"ProofLibraryModel", "isToken", "(I)Z"⟩ ⟨"ProofLibraryModel", "isToken", "(I)Z"⟩) ∈ lw_all := by sorry
set_option maxRecDepth 100000 in
theorem qs128 : (Cond.selects "ProofLibraryModel" ⟨"ProofLibraryModel", "skipComment", "()V"⟩ ⟨"ProofLibraryModel", "skipComment", "()V"⟩) ∈ lw_all := by sorry
set_option maxRecDepth 100000 in
theorem qs129 : (Cond.selects "ProofLibraryModel" ⟨"ProofLibraryModel", "hasDollar", "(II)Z"⟩ ⟨"ProofLibraryModel", "hasDollar", "(II)Z"⟩) ∈ lw_all := by sorry
set_option maxRecDepth 100000 in
theorem qs130 : (Cond.selects "ProofLibraryModel" ⟨"ProofLibraryModel", "hasSign", "(I)Z"⟩ ⟨"ProofLibraryModel", "hasSign", "(I)Z"⟩) ∈ lw_all := by sorry
set_option maxRecDepth 100000 in
theorem qs131 : (Cond.selects "ProofLibraryModel" ⟨"ProofLibraryModel", "readStatement", "()V"⟩ ⟨"ProofLibraryModel", "readStatement", "()V"⟩) ∈ lw_all := by sorry
set_option maxRecDepth 100000 in
theorem qs132 : (Cond.selects "ProofLibraryModel" ⟨"ProofLibraryModel", "readLabelled", "()V"⟩ ⟨"ProofLibraryModel", "readLabelled", "()V"⟩) ∈ lw_all := by sorry
set_option maxRecDepth 100000 in
theorem qs133 : (Cond.selects "ProofLibraryModel" ⟨"ProofLibraryModel", "readLabel", "()V"⟩ ⟨"ProofLibraryModel", "readLabel", "()V"⟩) ∈ lw_all := by sorry
set_option maxRecDepth 100000 in
theorem qs134 : (Cond.selects "ProofLibraryModel" ⟨"ProofLibraryModel", "failHere", "(I)V"⟩ ⟨"ProofLibraryModel", "failHere", "(I)V"⟩) ∈ lw_all := by sorry
set_option maxRecDepth 100000 in
theorem qs135 : (Cond.selects "ProofLibraryModel" ⟨"ProofLibraryModel", "findLabel", "([III)I"⟩ ⟨"ProofLibraryModel", "findLabel", "([III)I"⟩) ∈ lw_all := by sorry
set_option maxRecDepth 100000 in
theorem qs136 : (Cond.selects "ProofLibraryModel" ⟨"ProofLibraryModel", "isName", "(II[III)Z"⟩ ⟨"ProofLibraryModel", "isName", "(II[III)Z"⟩) ∈ lw_all := by sorry
set_option maxRecDepth 100000 in
theorem qs137 : (Cond.selects "ProofLibraryModel" ⟨"ProofLibraryModel", "symbolHere", "()I"⟩ ⟨"ProofLibraryModel", "symbolHere", "()I"⟩) ∈ lw_all := by sorry
set_option maxRecDepth 100000 in
theorem qs138 : (Cond.selects "ProofLibraryModel" ⟨"ProofLibraryModel", "findSymbol", "([III)I"⟩ ⟨"ProofLibraryModel", "findSymbol", "([III)I"⟩) ∈ lw_all := by sorry
set_option maxRecDepth 100000 in
theorem qs139 : (Cond.selects "ProofLibraryModel" ⟨"ProofLibraryModel", "keepChars", "(II)V"⟩ ⟨"ProofLibraryModel", "keepChars", "(II)V"⟩) ∈ lw_all := by sorry
set_option maxRecDepth 100000 in
theorem qs140 : (Cond.selects "ProofLibraryModel" ⟨"ProofLibraryModel", "keepLabel", "(I)V"⟩ ⟨"ProofLibraryModel", "keepLabel", "(I)V"⟩) ∈ lw_all := by sorry
set_option maxRecDepth 100000 in
theorem qs141 : (Cond.selects "ProofLibraryModel" ⟨"ProofLibraryModel", "readFloating", "()V"⟩ ⟨"ProofLibraryModel", "readFloating", "()V"⟩) ∈ lw_all := by sorry
set_option maxRecDepth 100000 in
theorem qs142 : (Cond.selects "ProofLibraryModel" ⟨"ProofLibraryModel", "readFirst", "()V"⟩ ⟨"ProofLibraryModel", "readFirst", "()V"⟩) ∈ lw_all := by sorry
set_option maxRecDepth 100000 in
theorem qs143 : (Cond.selects "ProofLibraryModel" ⟨"ProofLibraryModel", "addSymbol", "(II)V"⟩ ⟨"ProofLibraryModel", "addSymbol", "(II)V"⟩) ∈ lw_all := by sorry
set_option maxRecDepth 100000 in
theorem qs144 : (Cond.selects "ProofLibraryModel" ⟨"ProofLibraryModel", "finish", "(I)V"⟩ ⟨"ProofLibraryModel", "finish", "(I)V"⟩) ∈ lw_all := by sorry
set_option maxRecDepth 100000 in
theorem qs145 : (Cond.selects "ProofLibraryModel" ⟨"ProofLibraryModel", "activate", "()V"⟩ ⟨"ProofLibraryModel", "activate", "()V"⟩) ∈ lw_all := by sorry
set_option maxRecDepth 100000 in
theorem qs146 : (Cond.selects "ProofLibraryModel" ⟨"ProofLibraryModel", "readSymbols", "(I)V"⟩ ⟨"ProofLibraryModel", "readSymbols", "(I)V"⟩) ∈ lw_all := by sorry
set_option maxRecDepth 100000 in
theorem qs147 : (Cond.selects "ProofLibraryModel" ⟨"ProofLibraryModel", "readAssertion", "(Z)V"⟩ ⟨"ProofLibraryModel", "readAssertion", "(Z)V"⟩) ∈ lw_all := by sorry
set_option maxRecDepth 100000 in
theorem qs148 : (Cond.selects "ProofLibraryModel" ⟨"ProofLibraryModel", "readTheorem", "()V"⟩ ⟨"ProofLibraryModel", "readTheorem", "()V"⟩) ∈ lw_all := by sorry
set_option maxRecDepth 100000 in
theorem qs149 : (Cond.selects "ProofLibraryModel" ⟨"ProofLibraryModel", "makeFrame", "()V"⟩ ⟨"ProofLibraryModel", "makeFrame", "()V"⟩) ∈ lw_all := by sorry
set_option maxRecDepth 100000 in
theorem qs150 : (Cond.selects "ProofLibraryModel" ⟨"ProofLibraryModel", "markOf", "(I)V"⟩ ⟨"ProofLibraryModel", "markOf", "(I)V"⟩) ∈ lw_all := by sorry
set_option maxRecDepth 100000 in
theorem qs151 : (Cond.selects "ProofLibraryModel" ⟨"ProofLibraryModel", "readPacked", "()V"⟩ ⟨"ProofLibraryModel", "readPacked", "()V"⟩) ∈ lw_all := by sorry
set_option maxRecDepth 100000 in
theorem qs152 : (Cond.selects "ProofLibraryModel" ⟨"ProofLibraryModel", "readPackedLabels", "()V"⟩ ⟨"ProofLibraryModel", "readPackedLabels", "()V"⟩) ∈ lw_all := by sorry
set_option maxRecDepth 100000 in
theorem qs153 : (Cond.selects "ProofLibraryModel" ⟨"ProofLibraryModel", "stepHere", "()I"⟩ ⟨"ProofLibraryModel", "stepHere", "()I"⟩) ∈ lw_all := by sorry
set_option maxRecDepth 100000 in
theorem qs154 : (Cond.selects "ProofLibraryModel" ⟨"ProofLibraryModel", "isMandatory", "(II)Z"⟩ ⟨"ProofLibraryModel", "isMandatory", "(II)Z"⟩) ∈ lw_all := by sorry
set_option maxRecDepth 100000 in
theorem qs155 : (Cond.selects "ProofLibraryModel" ⟨"ProofLibraryModel", "readLetter", "(II)V"⟩ ⟨"ProofLibraryModel", "readLetter", "(II)V"⟩) ∈ lw_all := by sorry
set_option maxRecDepth 100000 in
theorem qs156 : (Cond.selects "ProofLibraryModel" ⟨"ProofLibraryModel", "endNumber", "(II)V"⟩ ⟨"ProofLibraryModel", "endNumber", "(II)V"⟩) ∈ lw_all := by sorry
set_option maxRecDepth 100000 in
theorem qs157 : (Cond.selects "ProofLibraryModel" ⟨"ProofLibraryModel", "addStep", "(II)V"⟩ ⟨"ProofLibraryModel", "addStep", "(II)V"⟩) ∈ lw_all := by sorry
set_option maxRecDepth 100000 in
theorem qs158 : (Cond.selects "ProofLibraryModel" ⟨"ProofLibraryModel", "readPlain", "()V"⟩ ⟨"ProofLibraryModel", "readPlain", "()V"⟩) ∈ lw_all := by sorry
set_option maxRecDepth 100000 in
theorem qs159 : (Cond.selects "ProofLibraryModel" ⟨"ProofLibraryModel", "verify", "()V"⟩ ⟨"ProofLibraryModel", "verify", "()V"⟩) ∈ lw_all := by sorry
set_option maxRecDepth 100000 in
theorem qs160 : (Cond.selects "ProofLibraryModel" ⟨"ProofLibraryModel", "beginSteps", "()V"⟩ ⟨"ProofLibraryModel", "beginSteps", "()V"⟩) ∈ lw_all := by sorry
set_option maxRecDepth 100000 in
theorem qs161 : (Cond.selects "ProofLibraryModel" ⟨"ProofLibraryModel", "doStep", "(IIZ)V"⟩ ⟨"ProofLibraryModel", "doStep", "(IIZ)V"⟩) ∈ lw_all := by sorry
set_option maxRecDepth 100000 in
theorem qs162 : (Cond.selects "ProofLibraryModel" ⟨"ProofLibraryModel", "pushRow", "([IIII)V"⟩ ⟨"ProofLibraryModel", "pushRow", "([IIII)V"⟩) ∈ lw_all := by sorry
set_option maxRecDepth 100000 in
theorem qs163 : (Cond.selects "ProofLibraryModel" ⟨"ProofLibraryModel", "wrong", "(I)V"⟩ ⟨"ProofLibraryModel", "wrong", "(I)V"⟩) ∈ lw_all := by sorry
set_option maxRecDepth 100000 in
theorem qs164 : (Cond.selects "ProofLibraryModel" ⟨"ProofLibraryModel", "applyStep", "(IIZ)V"⟩ ⟨"ProofLibraryModel", "applyStep", "(IIZ)V"⟩) ∈ lw_all := by sorry
set_option maxRecDepth 100000 in
theorem qs165 : (Cond.selects "ProofLibraryModel" ⟨"ProofLibraryModel", "replace", "(I)V"⟩ ⟨"ProofLibraryModel", "replace", "(I)V"⟩) ∈ lw_all := by sorry
set_option maxRecDepth 100000 in
theorem qs166 : (Cond.selects "ProofLibraryModel" ⟨"ProofLibraryModel", "isMade", "(II)Z"⟩ ⟨"ProofLibraryModel", "isMade", "(II)Z"⟩) ∈ lw_all := by sorry
set_option maxRecDepth 100000 in
theorem qs167 : (Cond.selects "ProofLibraryModel" ⟨"ProofLibraryModel", "areKept", "(II)Z"⟩ ⟨"ProofLibraryModel", "areKept", "(II)Z"⟩) ∈ lw_all := by sorry
set_option maxRecDepth 100000 in
theorem qs168 : (Cond.selects "ProofLibraryModel" ⟨"ProofLibraryModel", "areApart", "(II)Z"⟩ ⟨"ProofLibraryModel", "areApart", "(II)Z"⟩) ∈ lw_all := by sorry
set_option maxRecDepth 100000 in
theorem qs169 : (Cond.selects "ProofLibraryModel" ⟨"ProofLibraryModel", "saveTop", "()V"⟩ ⟨"ProofLibraryModel", "saveTop", "()V"⟩) ∈ lw_all := by sorry
set_option maxRecDepth 100000 in
theorem qs170 : (Cond.selects "ProofLibraryModel" ⟨"ProofLibraryModel", "restOf", "()V"⟩ ⟨"ProofLibraryModel", "restOf", "()V"⟩) ∈ lw_all := by sorry
set_option maxRecDepth 100000 in
theorem qs171 : (Cond.selects "ProofLibraryModel" ⟨"ProofLibraryModel", "readDeclared", "(Z)V"⟩ ⟨"ProofLibraryModel", "readDeclared", "(Z)V"⟩) ∈ lw_all := by sorry
set_option maxRecDepth 100000 in
theorem qs172 : (Cond.selects "ProofLibraryModel" ⟨"ProofLibraryModel", "declare", "(Z)V"⟩ ⟨"ProofLibraryModel", "declare", "(Z)V"⟩) ∈ lw_all := by sorry
set_option maxRecDepth 100000 in
theorem qs173 : (Cond.selects "ProofLibraryModel" ⟨"ProofLibraryModel", "keepSymbol", "(I)V"⟩ ⟨"ProofLibraryModel", "keepSymbol", "(I)V"⟩) ∈ lw_all := by sorry
set_option maxRecDepth 100000 in
theorem qs174 : (Cond.selects "ProofLibraryModel" ⟨"ProofLibraryModel", "markNamed", "(I)V"⟩ ⟨"ProofLibraryModel", "markNamed", "(I)V"⟩) ∈ lw_all := by sorry
set_option maxRecDepth 100000 in
theorem qs175 : (Cond.selects "ProofLibraryModel" ⟨"ProofLibraryModel", "readApart", "()V"⟩ ⟨"ProofLibraryModel", "readApart", "()V"⟩) ∈ lw_all := by sorry
set_option maxRecDepth 100000 in
theorem qs176 : (Cond.selects "ProofLibraryModel" ⟨"ProofLibraryModel", "setApart", "(IIZ)V"⟩ ⟨"ProofLibraryModel", "setApart", "(IIZ)V"⟩) ∈ lw_all := by sorry
set_option maxRecDepth 100000 in
theorem qs177 : (Cond.selects "ProofLibraryModel" ⟨"ProofLibraryModel", "readScope", "(Z)V"⟩ ⟨"ProofLibraryModel", "readScope", "(Z)V"⟩) ∈ lw_all := by sorry
set_option maxRecDepth 100000 in
theorem qs178 : (Cond.selects "ProofLibraryModel" ⟨"ProofLibraryModel", "dropTo", "(III)V"⟩ ⟨"ProofLibraryModel", "dropTo", "(III)V"⟩) ∈ lw_all := by sorry
set_option maxRecDepth 100000 in
theorem qs179 : (Cond.selects "ProofLibraryModel" ⟨"ProofLibraryModel", "forgetText", "(IIIIII)V"⟩ ⟨"ProofLibraryModel", "forgetText", "(IIIIII)V"⟩) ∈ lw_all := by sorry
set_option maxRecDepth 100000 in
theorem qs180 : (Cond.selects "ProofLibraryModel" ⟨"ProofLibraryModel", "forgetTrees", "(I)V"⟩ ⟨"ProofLibraryModel", "forgetTrees", "(I)V"⟩) ∈ lw_all := by sorry
set_option maxRecDepth 100000 in
theorem qs181 : (Cond.selects "ProofLibraryModel" ⟨"ProofLibraryModel", "isStatement", "(I)Z"⟩ ⟨"ProofLibraryModel", "isStatement", "(I)Z"⟩) ∈ lw_all := by sorry
set_option maxRecDepth 100000 in
theorem qs182 : (Cond.selects "ProofLibraryModel" ⟨"ProofLibraryModel", "rowFrom", "(I)I"⟩ ⟨"ProofLibraryModel", "rowFrom", "(I)I"⟩) ∈ lw_all := by sorry
set_option maxRecDepth 100000 in
theorem qs183 : (Cond.selects "ProofLibraryModel" ⟨"ProofLibraryModel", "useTape", "()V"⟩ ⟨"ProofLibraryModel", "useTape", "()V"⟩) ∈ lw_all := by sorry
set_option maxRecDepth 100000 in
theorem qs184 : (Cond.selects "ProofLibraryModel" ⟨"ProofLibraryModel", "isAssertion", "(I)Z"⟩ ⟨"ProofLibraryModel", "isAssertion", "(I)Z"⟩) ∈ lw_all := by sorry
set_option maxRecDepth 100000 in
theorem qs185 : (Cond.selects "ProofLibraryModel" ⟨"ProofLibraryModel", "resting", "(I)I"⟩ ⟨"ProofLibraryModel", "resting", "(I)I"⟩) ∈ lw_all := by sorry
set_option maxRecDepth 100000 in
theorem qs186 : (Cond.selects "ProofLibraryModel" ⟨"ProofLibraryModel", "isProved", "(I)Z"⟩ ⟨"ProofLibraryModel", "isProved", "(I)Z"⟩) ∈ lw_all := by sorry
set_option maxRecDepth 100000 in
theorem qs187 : (Cond.selects "ProofLibraryModel" ⟨"ProofLibraryModel", "makeRows", "(I)V"⟩ ⟨"ProofLibraryModel", "makeRows", "(I)V"⟩) ∈ lw_all := by sorry
set_option maxRecDepth 100000 in
theorem qs188 : (Cond.selects "ProofLibraryModel" ⟨"ProofLibraryModel", "isRow", "(II)Z"⟩ ⟨"ProofLibraryModel", "isRow", "(II)Z"⟩) ∈ lw_all := by sorry
set_option maxRecDepth 100000 in
theorem qs189 : (Cond.selects "ProofLibraryModel" ⟨"ProofLibraryModel", "rowWidth", "(I)I"⟩ ⟨"ProofLibraryModel", "rowWidth", "(I)I"⟩) ∈ lw_all := by sorry
set_option maxRecDepth 100000 in
theorem qs190 : (Cond.selects "ProofLibraryModel" ⟨"ProofLibraryModel", "makeSizes", "(I)V"⟩ ⟨"ProofLibraryModel", "makeSizes", "(I)V"⟩) ∈ lw_all := by sorry
set_option maxRecDepth 100000 in
theorem qs191 : (Cond.selects "ProofLibraryModel" ⟨"ProofLibraryModel", "countTrees", "(I)I"⟩ ⟨"ProofLibraryModel", "countTrees", "(I)I"⟩) ∈ lw_all := by sorry
set_option maxRecDepth 100000 in
theorem qs192 : (Cond.selects "ProofLibraryModel" ⟨"ProofLibraryModel", "treeOf", "(I)I"⟩ ⟨"ProofLibraryModel", "treeOf", "(I)I"⟩) ∈ lw_all := by sorry
set_option maxRecDepth 100000 in
theorem qs193 : (Cond.selects "ProofLibraryModel" ⟨"ProofLibraryModel", "takeStatement", "(I)V"⟩ ⟨"ProofLibraryModel", "takeStatement", "(I)V"⟩) ∈ lw_all := by sorry
set_option maxRecDepth 100000 in
theorem qs194 : (Cond.selects "ProofLibraryModel" ⟨"ProofLibraryModel", "findSorts", "()V"⟩ ⟨"ProofLibraryModel", "findSorts", "()V"⟩) ∈ lw_all := by sorry
set_option maxRecDepth 100000 in
theorem qs195 : (Cond.selects "ProofLibraryModel" ⟨"ProofLibraryModel", "isSort", "(I)Z"⟩ ⟨"ProofLibraryModel", "isSort", "(I)Z"⟩) ∈ lw_all := by sorry
set_option maxRecDepth 100000 in
theorem qs196 : (Cond.selects "ProofLibraryModel" ⟨"ProofLibraryModel", "treeSort", "(I)I"⟩ ⟨"ProofLibraryModel", "treeSort", "(I)I"⟩) ∈ lw_all := by sorry
set_option maxRecDepth 100000 in
theorem qs197 : (Cond.selects "ProofLibraryModel" ⟨"ProofLibraryModel", "countWays", "(II)I"⟩ ⟨"ProofLibraryModel", "countWays", "(II)I"⟩) ∈ lw_all := by sorry
set_option maxRecDepth 100000 in
theorem qs198 : (Cond.selects "ProofLibraryModel" ⟨"ProofLibraryModel", "treeRules", "()V"⟩ ⟨"ProofLibraryModel", "treeRules", "()V"⟩) ∈ lw_all := by sorry
set_option maxRecDepth 100000 in
theorem qs199 : (Cond.selects "ProofLibraryModel" ⟨"ProofLibraryModel", "newRuleNode", "(II)I"⟩ ⟨"ProofLibraryModel", "newRuleNode", "(II)I"⟩) ∈ lw_all := by sorry
set_option maxRecDepth 100000 in
theorem qs200 : (Cond.selects "ProofLibraryModel" ⟨"ProofLibraryModel", "isRule", "(I)Z"⟩ ⟨"ProofLibraryModel", "isRule", "(I)Z"⟩) ∈ lw_all := by sorry
set_option maxRecDepth 100000 in
theorem qs201 : (Cond.selects "ProofLibraryModel" ⟨"ProofLibraryModel", "isUnit", "(I)Z"⟩ ⟨"ProofLibraryModel", "isUnit", "(I)Z"⟩) ∈ lw_all := by sorry
set_option maxRecDepth 100000 in
theorem qs202 : (Cond.selects "ProofLibraryModel" ⟨"ProofLibraryModel", "treeRule", "(I)V"⟩ ⟨"ProofLibraryModel", "treeRule", "(I)V"⟩) ∈ lw_all := by sorry
set_option maxRecDepth 100000 in
theorem qs203 : (Cond.selects "ProofLibraryModel" ⟨"ProofLibraryModel", "stepBelow", "(II)I"⟩ ⟨"ProofLibraryModel", "stepBelow", "(II)I"⟩) ∈ lw_all := by sorry
set_option maxRecDepth 100000 in
theorem qs204 : (Cond.selects "ProofLibraryModel" ⟨"ProofLibraryModel", "wayAt", "(III)I"⟩ ⟨"ProofLibraryModel", "wayAt", "(III)I"⟩) ∈ lw_all := by sorry
set_option maxRecDepth 100000 in
theorem qs205 : (Cond.selects "ProofLibraryModel" ⟨"ProofLibraryModel", "isSortNode", "(I)Z"⟩ ⟨"ProofLibraryModel", "isSortNode", "(I)Z"⟩) ∈ lw_all := by sorry
set_option maxRecDepth 100000 in
theorem qs206 : (Cond.selects "ProofLibraryModel" ⟨"ProofLibraryModel", "countStretch", "(III)V"⟩ ⟨"ProofLibraryModel", "countStretch", "(III)V"⟩) ∈ lw_all := by sorry
set_option maxRecDepth 100000 in
theorem qs207 : (Cond.selects "ProofLibraryModel" ⟨"ProofLibraryModel", "isFirstVariable", "(I)Z"⟩ ⟨"ProofLibraryModel", "isFirstVariable", "(I)Z"⟩) ∈ lw_all := by sorry
set_option maxRecDepth 100000 in
theorem qs208 : (Cond.selects "ProofLibraryModel" ⟨"ProofLibraryModel", "goTo", "(II)V"⟩ ⟨"ProofLibraryModel", "goTo", "(II)V"⟩) ∈ lw_all := by sorry
set_option maxRecDepth 100000 in
theorem qs209 : (Cond.selects "ProofLibraryModel" ⟨"ProofLibraryModel", "closeUnits", "(III)V"⟩ ⟨"ProofLibraryModel", "closeUnits", "(III)V"⟩) ∈ lw_all := by sorry
set_option maxRecDepth 100000 in
theorem qs210 : (Cond.selects "ProofLibraryModel" ⟨"ProofLibraryModel", "makeTree", "(I)I"⟩ ⟨"ProofLibraryModel", "makeTree", "(I)I"⟩) ∈ lw_all := by sorry
set_option maxRecDepth 100000 in
theorem qs211 : (Cond.selects "ProofLibraryModel" ⟨"ProofLibraryModel", "newNode", "(III)I"⟩ ⟨"ProofLibraryModel", "newNode", "(III)I"⟩) ∈ lw_all := by sorry
set_option maxRecDepth 100000 in
theorem qs212 : (Cond.selects "ProofLibraryModel" ⟨"ProofLibraryModel", "lookAt", "(I)V"⟩ ⟨"ProofLibraryModel", "lookAt", "(I)V"⟩) ∈ lw_all := by sorry
set_option maxRecDepth 100000 in
theorem qs213 : (Cond.selects "ProofLibraryModel" ⟨"ProofLibraryModel", "part", "(II)V"⟩ ⟨"ProofLibraryModel", "part", "(II)V"⟩) ∈ lw_all := by sorry
set_option maxRecDepth 100000 in
theorem qs214 : (Cond.selects "ProofLibraryModel" ⟨"ProofLibraryModel", "match", "(III)I"⟩ ⟨"ProofLibraryModel", "match", "(III)I"⟩) ∈ lw_all := by sorry
set_option maxRecDepth 100000 in
theorem qs215 : (Cond.selects "ProofLibraryModel" ⟨"ProofLibraryModel", "hypOf", "(II)I"⟩ ⟨"ProofLibraryModel", "hypOf", "(II)I"⟩) ∈ lw_all := by sorry
set_option maxRecDepth 100000 in
theorem qs216 : (Cond.selects "ProofLibraryModel" ⟨"ProofLibraryModel", "variablesOf", "(I)I"⟩ ⟨"ProofLibraryModel", "variablesOf", "(I)I"⟩) ∈ lw_all := by sorry
set_option maxRecDepth 100000 in
theorem qs217 : (Cond.selects "ProofLibraryModel" ⟨"ProofLibraryModel", "definitionOf", "(I)I"⟩ ⟨"ProofLibraryModel", "definitionOf", "(I)I"⟩) ∈ lw_all := by sorry
set_option maxRecDepth 100000 in
theorem qs218 : (Cond.selects "ProofLibraryModel" ⟨"ProofLibraryModel", "findDefinition", "(I)I"⟩ ⟨"ProofLibraryModel", "findDefinition", "(I)I"⟩) ∈ lw_all := by sorry
set_option maxRecDepth 100000 in
theorem qs219 : (Cond.selects "ProofLibraryModel" ⟨"ProofLibraryModel", "firstSide", "(I)I"⟩ ⟨"ProofLibraryModel", "firstSide", "(I)I"⟩) ∈ lw_all := by sorry
set_option maxRecDepth 100000 in
theorem qs220 : (Cond.selects "ProofLibraryModel" ⟨"ProofLibraryModel", "isFlat", "(I)Z"⟩ ⟨"ProofLibraryModel", "isFlat", "(I)Z"⟩) ∈ lw_all := by sorry
set_option maxRecDepth 100000 in
theorem qs221 : (Cond.selects "ProofLibraryModel" ⟨"ProofLibraryModel", "isPlain", "(III)Z"⟩ ⟨"ProofLibraryModel", "isPlain", "(III)Z"⟩) ∈ lw_all := by sorry
set_option maxRecDepth 100000 in
theorem qs222 : (Cond.selects "ProofLibraryModel" ⟨"ProofLibraryModel", "enter", "(I)V"⟩ ⟨"ProofLibraryModel", "enter", "(I)V"⟩) ∈ lw_all := by sorry
set_option maxRecDepth 100000 in
theorem qs223 : (Cond.selects "ProofLibraryModel" ⟨"ProofLibraryModel", "hasLeaf", "(II)Z"⟩ ⟨"ProofLibraryModel", "hasLeaf", "(II)Z"⟩) ∈ lw_all := by sorry
set_option maxRecDepth 100000 in
theorem qs224 : (Cond.selects "ProofLibraryModel" ⟨"ProofLibraryModel", "isUsedBefore", "(II)Z"⟩ ⟨"ProofLibraryModel", "isUsedBefore", "(II)Z"⟩) ∈ lw_all := by sorry
set_option maxRecDepth 100000 in
theorem qs225 : (Cond.selects "ProofLibraryModel" ⟨"ProofLibraryModel", "beginTrees", "()V"⟩ ⟨"ProofLibraryModel", "beginTrees", "()V"⟩) ∈ lw_all := by sorry
set_option maxRecDepth 100000 in
theorem qs226 : (Cond.selects "ProofLibraryModel" ⟨"ProofLibraryModel", "putLabel", "(I)V"⟩ ⟨"ProofLibraryModel", "putLabel", "(I)V"⟩) ∈ lw_all := by sorry
set_option maxRecDepth 100000 in
theorem qs227 : (Cond.selects "ProofLibraryModel" ⟨"ProofLibraryModel", "putBlank", "()V"⟩ ⟨"ProofLibraryModel", "putBlank", "()V"⟩) ∈ lw_all := by sorry
set_option maxRecDepth 100000 in
theorem qs228 : (Cond.selects "ProofLibraryModel" ⟨"ProofLibraryModel", "put", "(I)V"⟩ ⟨"ProofLibraryModel", "put", "(I)V"⟩) ∈ lw_all := by sorry
set_option maxRecDepth 100000 in
theorem qs229 : (Cond.selects "ProofLibraryModel" ⟨"ProofLibraryModel", "putName", "(II)V"⟩ ⟨"ProofLibraryModel", "putName", "(II)V"⟩) ∈ lw_all := by sorry
set_option maxRecDepth 100000 in
theorem qs230 : (Cond.selects "ProofLibraryModel" ⟨"ProofLibraryModel", "keepDraft", "()I"⟩ ⟨"ProofLibraryModel", "keepDraft", "()I"⟩) ∈ lw_all := by sorry
set_option maxRecDepth 100000 in
theorem qs231 : (Cond.selects "ProofLibraryModel" ⟨"ProofLibraryModel", "putSymbol", "(I)V"⟩ ⟨"ProofLibraryModel", "putSymbol", "(I)V"⟩) ∈ lw_all := by sorry
set_option maxRecDepth 100000 in
theorem qs232 : (Cond.selects "ProofLibraryModel" ⟨"ProofLibraryModel", "printTexts", "(I)I"⟩ ⟨"ProofLibraryModel", "printTexts", "(I)I"⟩) ∈ lw_all := by sorry
set_option maxRecDepth 100000 in
theorem qs233 : (Cond.selects "ProofLibraryModel" ⟨"ProofLibraryModel", "printRow", "(II)I"⟩ ⟨"ProofLibraryModel", "printRow", "(II)I"⟩) ∈ lw_all := by sorry
set_option maxRecDepth 100000 in
theorem qs234 : (Cond.selects "ProofLibraryModel" ⟨"ProofLibraryModel", "printPacked", "(I)I"⟩ ⟨"ProofLibraryModel", "printPacked", "(I)I"⟩) ∈ lw_all := by sorry
set_option maxRecDepth 100000 in
theorem qs235 : (Cond.selects "ProofLibraryModel" ⟨"ProofLibraryModel", "findSame", "()V"⟩ ⟨"ProofLibraryModel", "findSame", "()V"⟩) ∈ lw_all := by sorry
set_option maxRecDepth 100000 in
theorem qs236 : (Cond.selects "ProofLibraryModel" ⟨"ProofLibraryModel", "areSame", "(II)Z"⟩ ⟨"ProofLibraryModel", "areSame", "(II)Z"⟩) ∈ lw_all := by sorry
set_option maxRecDepth 100000 in
theorem qs237 : (Cond.selects "ProofLibraryModel" ⟨"ProofLibraryModel", "tellSteps", "()V"⟩ ⟨"ProofLibraryModel", "tellSteps", "()V"⟩) ∈ lw_all := by sorry
set_option maxRecDepth 100000 in
theorem qs238 : (Cond.selects "ProofLibraryModel" ⟨"ProofLibraryModel", "putNumber", "(I)V"⟩ ⟨"ProofLibraryModel", "putNumber", "(I)V"⟩) ∈ lw_all := by sorry
set_option maxRecDepth 100000 in
theorem qs239 : (Cond.selects "ProofLibraryModel" ⟨"ProofLibraryModel", "printPlain", "(I)I"⟩ ⟨"ProofLibraryModel", "printPlain", "(I)I"⟩) ∈ lw_all := by sorry
set_option maxRecDepth 100000 in
theorem qs240 : (Cond.selects "ProofLibraryModel" ⟨"ProofLibraryModel", "printTree", "(II)I"⟩ ⟨"ProofLibraryModel", "printTree", "(II)I"⟩) ∈ lw_all := by sorry
set_option maxRecDepth 100000 in
theorem qs241 : (Cond.selects "ProofLibraryModel" ⟨"ProofLibraryModel", "printBare", "(I)I"⟩ ⟨"ProofLibraryModel", "printBare", "(I)I"⟩) ∈ lw_all := by sorry
set_option maxRecDepth 100000 in
theorem qs242 : (Cond.selects "ProofLibraryModel" ⟨"ProofLibraryModel", "findDefiners", "(I)V"⟩ ⟨"ProofLibraryModel", "findDefiners", "(I)V"⟩) ∈ lw_all := by sorry
set_option maxRecDepth 100000 in
theorem qs243 : (Cond.selects "ProofLibraryModel" ⟨"ProofLibraryModel", "ruleOf", "(I)I"⟩ ⟨"ProofLibraryModel", "ruleOf", "(I)I"⟩) ∈ lw_all := by sorry
set_option maxRecDepth 100000 in
theorem qs244 : (Cond.selects "ProofLibraryModel" ⟨"ProofLibraryModel", "needRules", "(II)V"⟩ ⟨"ProofLibraryModel", "needRules", "(II)V"⟩) ∈ lw_all := by sorry
set_option maxRecDepth 100000 in
theorem qs245 : (Cond.selects "ProofLibraryModel" ⟨"ProofLibraryModel", "tellBare", "(II)I"⟩ ⟨"ProofLibraryModel", "tellBare", "(II)I"⟩) ∈ lw_all := by sorry
set_option maxRecDepth 100000 in
theorem qs246 : (Cond.selects "ProofLibraryModel" ⟨"ProofLibraryModel", "addTask", "(I)V"⟩ ⟨"ProofLibraryModel", "addTask", "(I)V"⟩) ∈ lw_all := by sorry
set_option maxRecDepth 100000 in
theorem qs247 : (Cond.selects "ProofLibraryModel" ⟨"ProofLibraryModel", "leafOf", "(II)I"⟩ ⟨"ProofLibraryModel", "leafOf", "(II)I"⟩) ∈ lw_all := by sorry
set_option maxRecDepth 100000 in
theorem qs248 : (Cond.selects "ProofLibraryModel" ⟨"ProofLibraryModel", "spread", "(I)Z"⟩ ⟨"ProofLibraryModel", "spread", "(I)Z"⟩) ∈ lw_all := by sorry
set_option maxRecDepth 100000 in
theorem qs249 : (Cond.selects "ProofLibraryModel" ⟨"ProofLibraryModel", "putTree", "(I)V"⟩ ⟨"ProofLibraryModel", "putTree", "(I)V"⟩) ∈ lw_all := by sorry
set_option maxRecDepth 100000 in
theorem qs250 : (Cond.selects "ProofLibraryModel" ⟨"ProofLibraryModel", "takeRow", "()I"⟩ ⟨"ProofLibraryModel", "takeRow", "()I"⟩) ∈ lw_all := by sorry
set_option maxRecDepth 100000 in
theorem qs251 : (Cond.selects "ProofLibraryModel" ⟨"ProofLibraryModel", "rowTree", "(I)I"⟩ ⟨"ProofLibraryModel", "rowTree", "(I)I"⟩) ∈ lw_all := by sorry
set_option maxRecDepth 100000 in
theorem qs252 : (Cond.selects "ProofLibraryModel" ⟨"ProofLibraryModel", "fits", "(II)Z"⟩ ⟨"ProofLibraryModel", "fits", "(II)Z"⟩) ∈ lw_all := by sorry
set_option maxRecDepth 100000 in
theorem qs253 : (Cond.selects "ProofLibraryModel" ⟨"ProofLibraryModel", "isSameStretch", "(IIII)Z"⟩ ⟨"ProofLibraryModel", "isSameStretch", "(IIII)Z"⟩) ∈ lw_all := by sorry
set_option maxRecDepth 100000 in
theorem qs254 : (Cond.selects "ProofLibraryModel" ⟨"ProofLibraryModel", "tellHyps", "(I)I"⟩ ⟨"ProofLibraryModel", "tellHyps", "(I)I"⟩) ∈ lw_all := by sorry
end

section
set_option maxRecDepth 100000
def RJ0 : String := "java/lang/Throwable"
def TJ0 : u_T := fun k => match k with
  | 0 => ("java/lang/Throwable", "cause", "Ljava/lang/Throwable;", false)
  | 1 => ("java/lang/Throwable", "stackTrace", "[Ljava/lang/StackTraceElement;", false)
  | 2 => ("java/lang/Throwable", "suppressedExceptions", "Ljava/util/List;", false)
  | 3 => ("java/lang/Throwable", "detailMessage", "Ljava/lang/String;", false)
  | _ => ("java/lang/Throwable", "backtrace", "Ljava/lang/Object;", false)
def tyJ0 : Nat → FieldType := fun k => match k with
  | 0 => .object "java/lang/Throwable"
  | 1 => .array (.object "java/lang/StackTraceElement")
  | 2 => .object "java/util/List"
  | 3 => .object "java/lang/String"
  | _ => .object "java/lang/Object"
abbrev wsJ00 : List Cond := u_ws RJ0 TJ0 5
set_option maxRecDepth 100000 in
theorem nmJ0 : ∀ a, a < 5 → ∀ b, b < 5 → a ≠ b → (TJ0 a).2.1 ≠ (TJ0 b).2.1 := by sorry
set_option maxRecDepth 100000 in
theorem tyJ0_ok : ∀ k, k < 5 → parseFieldDescriptor (TJ0 k).2.2.1 = some (tyJ0 k) := by sorry
set_option maxRecDepth 100000 in
theorem in_J0 : ∀ w ∈ wsJ00, w ∈ lw_all := by sorry
def RJ1 : String := "java/lang/Exception"
def RJ2 : String := "java/lang/RuntimeException"
def RJ3 : String := "java/util/AbstractMap"
def RJ4 : String := "java/util/HashMap"
def TJ4 : u_T := fun k => match k with
  | 0 => ("java/util/AbstractMap", "keySet", "Ljava/util/Set;", false)
  | 1 => ("java/util/AbstractMap", "values", "Ljava/util/Collection;", false)
  | 2 => ("java/util/HashMap", "table", "[Ljava/util/HashMap$Node;", false)
  | 3 => ("java/util/HashMap", "entrySet", "Ljava/util/Set;", false)
  | 4 => ("java/util/HashMap", "size", "I", false)
  | 5 => ("java/util/HashMap", "modCount", "I", false)
  | 6 => ("java/util/HashMap", "threshold", "I", false)
  | _ => ("java/util/HashMap", "loadFactor", "F", true)
def tyJ4 : Nat → FieldType := fun k => match k with
  | 0 => .object "java/util/Set"
  | 1 => .object "java/util/Collection"
  | 2 => .array (.object "java/util/HashMap$Node")
  | 3 => .object "java/util/Set"
  | 4 => .int
  | 5 => .int
  | 6 => .int
  | _ => .float
abbrev wsJ40 : List Cond := u_ws RJ4 TJ4 8
set_option maxRecDepth 100000 in
theorem nmJ4 : ∀ a, a < 8 → ∀ b, b < 8 → a ≠ b → (TJ4 a).2.1 ≠ (TJ4 b).2.1 := by sorry
set_option maxRecDepth 100000 in
theorem tyJ4_ok : ∀ k, k < 8 → parseFieldDescriptor (TJ4 k).2.2.1 = some (tyJ4 k) := by sorry
set_option maxRecDepth 100000 in
theorem in_J4 : ∀ w ∈ wsJ40, w ∈ lw_all := by sorry
def RJ5 : String := "java/util/AbstractCollection"
def RJ6 : String := "java/util/AbstractList"
def RJ7 : String := "java/util/ArrayList"
def TJ7 : u_T := fun k => match k with
  | 0 => ("java/util/AbstractList", "modCount", "I", false)
  | 1 => ("java/util/ArrayList", "elementData", "[Ljava/lang/Object;", false)
  | _ => ("java/util/ArrayList", "size", "I", false)
def tyJ7 : Nat → FieldType := fun k => match k with
  | 0 => .int
  | 1 => .array (.object "java/lang/Object")
  | _ => .int
abbrev wsJ70 : List Cond := u_ws RJ7 TJ7 3
set_option maxRecDepth 100000 in
theorem nmJ7 : ∀ a, a < 3 → ∀ b, b < 3 → a ≠ b → (TJ7 a).2.1 ≠ (TJ7 b).2.1 := by sorry
set_option maxRecDepth 100000 in
theorem tyJ7_ok : ∀ k, k < 3 → parseFieldDescriptor (TJ7 k).2.2.1 = some (tyJ7 k) := by sorry
set_option maxRecDepth 100000 in
theorem in_J7 : ∀ w ∈ wsJ70, w ∈ lw_all := by sorry
def RJ8 : String := "java/util/ArrayDeque"
def TJ8 : u_T := fun k => match k with
  | 0 => ("java/util/ArrayDeque", "elements", "[Ljava/lang/Object;", false)
  | 1 => ("java/util/ArrayDeque", "head", "I", false)
  | _ => ("java/util/ArrayDeque", "tail", "I", false)
def tyJ8 : Nat → FieldType := fun k => match k with
  | 0 => .array (.object "java/lang/Object")
  | 1 => .int
  | _ => .int
abbrev wsJ80 : List Cond := u_ws RJ8 TJ8 3
set_option maxRecDepth 100000 in
theorem nmJ8 : ∀ a, a < 3 → ∀ b, b < 3 → a ≠ b → (TJ8 a).2.1 ≠ (TJ8 b).2.1 := by sorry
set_option maxRecDepth 100000 in
theorem tyJ8_ok : ∀ k, k < 3 → parseFieldDescriptor (TJ8 k).2.2.1 = some (tyJ8 k) := by sorry
set_option maxRecDepth 100000 in
theorem in_J8 : ∀ w ∈ wsJ80, w ∈ lw_all := by sorry
def RJ9 : String := "java/util/Arrays"
def RJ10 : String := "java/util/BitSet"
def TJ10 : u_T := fun k => match k with
  | 0 => ("java/util/BitSet", "words", "[J", false)
  | 1 => ("java/util/BitSet", "wordsInUse", "I", false)
  | _ => ("java/util/BitSet", "sizeIsSticky", "Z", false)
def tyJ10 : Nat → FieldType := fun k => match k with
  | 0 => .array .long
  | 1 => .int
  | _ => .boolean
abbrev wsJ100 : List Cond := u_ws RJ10 TJ10 3
set_option maxRecDepth 100000 in
theorem nmJ10 : ∀ a, a < 3 → ∀ b, b < 3 → a ≠ b → (TJ10 a).2.1 ≠ (TJ10 b).2.1 := by sorry
set_option maxRecDepth 100000 in
theorem tyJ10_ok : ∀ k, k < 3 → parseFieldDescriptor (TJ10 k).2.2.1 = some (tyJ10 k) := by sorry
set_option maxRecDepth 100000 in
theorem in_J10 : ∀ w ∈ wsJ100, w ∈ lw_all := by sorry
def RJ11 : String := "java/lang/String"
def TJ11 : u_T := fun k => match k with
  | 0 => ("java/lang/String", "value", "[B", true)
  | 1 => ("java/lang/String", "coder", "B", true)
  | 2 => ("java/lang/String", "hash", "I", false)
  | _ => ("java/lang/String", "hashIsZero", "Z", false)
def tyJ11 : Nat → FieldType := fun k => match k with
  | 0 => .array .byte
  | 1 => .byte
  | 2 => .int
  | _ => .boolean
abbrev wsJ110 : List Cond := u_ws RJ11 TJ11 4
set_option maxRecDepth 100000 in
theorem nmJ11 : ∀ a, a < 4 → ∀ b, b < 4 → a ≠ b → (TJ11 a).2.1 ≠ (TJ11 b).2.1 := by sorry
set_option maxRecDepth 100000 in
theorem tyJ11_ok : ∀ k, k < 4 → parseFieldDescriptor (TJ11 k).2.2.1 = some (tyJ11 k) := by sorry
set_option maxRecDepth 100000 in
theorem in_J11 : ∀ w ∈ wsJ110, w ∈ lw_all := by sorry
def RJ12 : String := "java/lang/StringLatin1"
def RJ13 : String := "jdk/internal/util/Preconditions"
def RJ14 : String := "java/lang/StringUTF16"
def RJ15 : String := "java/lang/Math"
def RJ16 : String := "java/lang/Character"
def RJ17 : String := "java/lang/AbstractStringBuilder"
def RJ18 : String := "java/lang/StringBuilder"
def TJ18 : u_T := fun k => match k with
  | 0 => ("java/lang/AbstractStringBuilder", "value", "[B", false)
  | 1 => ("java/lang/AbstractStringBuilder", "coder", "B", false)
  | 2 => ("java/lang/AbstractStringBuilder", "maybeLatin1", "Z", false)
  | _ => ("java/lang/AbstractStringBuilder", "count", "I", false)
def tyJ18 : Nat → FieldType := fun k => match k with
  | 0 => .array .byte
  | 1 => .byte
  | 2 => .boolean
  | _ => .int
abbrev wsJ180 : List Cond := u_ws RJ18 TJ18 4
set_option maxRecDepth 100000 in
theorem nmJ18 : ∀ a, a < 4 → ∀ b, b < 4 → a ≠ b → (TJ18 a).2.1 ≠ (TJ18 b).2.1 := by sorry
set_option maxRecDepth 100000 in
theorem tyJ18_ok : ∀ k, k < 4 → parseFieldDescriptor (TJ18 k).2.2.1 = some (tyJ18 k) := by sorry
set_option maxRecDepth 100000 in
theorem in_J18 : ∀ w ∈ wsJ180, w ∈ lw_all := by sorry
def RJ19 : String := "jdk/internal/util/ArraysSupport"
def RJ20 : String := "java/lang/Number"
def RJ21 : String := "java/lang/Integer"
def TJ21 : u_T := fun k => match k with
  | _ => ("java/lang/Integer", "value", "I", true)
def tyJ21 : Nat → FieldType := fun k => match k with
  | _ => .int
abbrev wsJ210 : List Cond := u_ws RJ21 TJ21 1
set_option maxRecDepth 100000 in
theorem nmJ21 : ∀ a, a < 1 → ∀ b, b < 1 → a ≠ b → (TJ21 a).2.1 ≠ (TJ21 b).2.1 := by sorry
set_option maxRecDepth 100000 in
theorem tyJ21_ok : ∀ k, k < 1 → parseFieldDescriptor (TJ21 k).2.2.1 = some (tyJ21 k) := by sorry
set_option maxRecDepth 100000 in
theorem in_J21 : ∀ w ∈ wsJ210, w ∈ lw_all := by sorry
def RJ22 : String := "jdk/internal/misc/Unsafe"
def RJ23 : String := "java/lang/Long"
def RJ24 : String := "java/util/HashMap$Node"
def TJ24 : u_T := fun k => match k with
  | 0 => ("java/util/HashMap$Node", "hash", "I", true)
  | 1 => ("java/util/HashMap$Node", "key", "Ljava/lang/Object;", true)
  | 2 => ("java/util/HashMap$Node", "value", "Ljava/lang/Object;", false)
  | _ => ("java/util/HashMap$Node", "next", "Ljava/util/HashMap$Node;", false)
def tyJ24 : Nat → FieldType := fun k => match k with
  | 0 => .int
  | 1 => .object "java/lang/Object"
  | 2 => .object "java/lang/Object"
  | _ => .object "java/util/HashMap$Node"
abbrev wsJ240 : List Cond := u_ws RJ24 TJ24 4
set_option maxRecDepth 100000 in
theorem nmJ24 : ∀ a, a < 4 → ∀ b, b < 4 → a ≠ b → (TJ24 a).2.1 ≠ (TJ24 b).2.1 := by sorry
set_option maxRecDepth 100000 in
theorem tyJ24_ok : ∀ k, k < 4 → parseFieldDescriptor (TJ24 k).2.2.1 = some (tyJ24 k) := by sorry
set_option maxRecDepth 100000 in
theorem in_J24 : ∀ w ∈ wsJ240, w ∈ lw_all := by sorry
def RJ25 : String := "java/util/LinkedHashMap$Entry"
def RJ26 : String := "java/util/HashMap$TreeNode"
def TJ26 : u_T := fun k => match k with
  | 0 => ("java/util/HashMap$Node", "hash", "I", true)
  | 1 => ("java/util/HashMap$Node", "key", "Ljava/lang/Object;", true)
  | 2 => ("java/util/HashMap$Node", "value", "Ljava/lang/Object;", false)
  | 3 => ("java/util/HashMap$Node", "next", "Ljava/util/HashMap$Node;", false)
  | 4 => ("java/util/LinkedHashMap$Entry", "before", "Ljava/util/LinkedHashMap$Entry;", false)
  | 5 => ("java/util/LinkedHashMap$Entry", "after", "Ljava/util/LinkedHashMap$Entry;", false)
  | 6 => ("java/util/HashMap$TreeNode", "parent", "Ljava/util/HashMap$TreeNode;", false)
  | 7 => ("java/util/HashMap$TreeNode", "left", "Ljava/util/HashMap$TreeNode;", false)
  | 8 => ("java/util/HashMap$TreeNode", "right", "Ljava/util/HashMap$TreeNode;", false)
  | 9 => ("java/util/HashMap$TreeNode", "prev", "Ljava/util/HashMap$TreeNode;", false)
  | _ => ("java/util/HashMap$TreeNode", "red", "Z", false)
def tyJ26 : Nat → FieldType := fun k => match k with
  | 0 => .int
  | 1 => .object "java/lang/Object"
  | 2 => .object "java/lang/Object"
  | 3 => .object "java/util/HashMap$Node"
  | 4 => .object "java/util/LinkedHashMap$Entry"
  | 5 => .object "java/util/LinkedHashMap$Entry"
  | 6 => .object "java/util/HashMap$TreeNode"
  | 7 => .object "java/util/HashMap$TreeNode"
  | 8 => .object "java/util/HashMap$TreeNode"
  | 9 => .object "java/util/HashMap$TreeNode"
  | _ => .boolean
abbrev wsJ260 : List Cond := u_ws RJ26 TJ26 11
set_option maxRecDepth 100000 in
theorem nmJ26 : ∀ a, a < 11 → ∀ b, b < 11 → a ≠ b → (TJ26 a).2.1 ≠ (TJ26 b).2.1 := by sorry
set_option maxRecDepth 100000 in
theorem tyJ26_ok : ∀ k, k < 11 → parseFieldDescriptor (TJ26 k).2.2.1 = some (tyJ26 k) := by sorry
set_option maxRecDepth 100000 in
theorem in_J26 : ∀ w ∈ wsJ260, w ∈ lw_all := by sorry
def RJ27 : String := "java/util/Objects"
def RJ28 : String := "java/lang/Object"
def RJ29 : String := "java/lang/System$2"
def RX0 : String := "ProofLibrary"
def TX0 : u_T := fun k => match k with
  | 0 => ("ProofLibrary", "stop", "LProofLibrary$Stop;", true)
  | 1 => ("ProofLibrary", "tape", "LProofLibrary$Tape;", true)
  | 2 => ("ProofLibrary", "book", "LProofLibrary$Book;", true)
  | 3 => ("ProofLibrary", "scopes", "LProofLibrary$Scopes;", true)
  | 4 => ("ProofLibrary", "pile", "LProofLibrary$Pile;", true)
  | 5 => ("ProofLibrary", "reader", "LProofLibrary$Reader;", true)
  | 6 => ("ProofLibrary", "rows", "LProofLibrary$Rows;", true)
  | 7 => ("ProofLibrary", "all", "LProofLibrary$Apart;", true)
  | 8 => ("ProofLibrary", "fed", "Z", false)
  | 9 => ("ProofLibrary", "place", "I", false)
  | 10 => ("ProofLibrary", "printed", "[B", true)
  | 11 => ("ProofLibrary", "printedSize", "I", false)
  | 12 => ("ProofLibrary", "draft", "[B", true)
  | 13 => ("ProofLibrary", "draftSize", "I", false)
  | 14 => ("ProofLibrary", "forest", "LProofLibrary$Forest;", true)
  | 15 => ("ProofLibrary", "other", "LProofLibrary$Forest;", true)
  | 16 => ("ProofLibrary", "grammar", "LProofLibrary$Grammar;", true)
  | 17 => ("ProofLibrary", "definitions", "LProofLibrary$Definitions;", true)
  | 18 => ("ProofLibrary", "packer", "LProofLibrary$Packer;", true)
  | 19 => ("ProofLibrary", "open", "[I", true)
  | 20 => ("ProofLibrary", "told", "[I", true)
  | 21 => ("ProofLibrary", "sizes", "[J", true)
  | 22 => ("ProofLibrary", "letters", "[B", true)
  | 23 => ("ProofLibrary", "tapeRow", "[I", true)
  | 24 => ("ProofLibrary", "standsFrom", "[I", true)
  | _ => ("ProofLibrary", "standsTo", "[I", true)
def tyX0 : Nat → FieldType := fun k => match k with
  | 0 => .object "ProofLibrary$Stop"
  | 1 => .object "ProofLibrary$Tape"
  | 2 => .object "ProofLibrary$Book"
  | 3 => .object "ProofLibrary$Scopes"
  | 4 => .object "ProofLibrary$Pile"
  | 5 => .object "ProofLibrary$Reader"
  | 6 => .object "ProofLibrary$Rows"
  | 7 => .object "ProofLibrary$Apart"
  | 8 => .boolean
  | 9 => .int
  | 10 => .array .byte
  | 11 => .int
  | 12 => .array .byte
  | 13 => .int
  | 14 => .object "ProofLibrary$Forest"
  | 15 => .object "ProofLibrary$Forest"
  | 16 => .object "ProofLibrary$Grammar"
  | 17 => .object "ProofLibrary$Definitions"
  | 18 => .object "ProofLibrary$Packer"
  | 19 => .array .int
  | 20 => .array .int
  | 21 => .array .long
  | 22 => .array .byte
  | 23 => .array .int
  | 24 => .array .int
  | _ => .array .int
abbrev wsX00 : List Cond := u_ws RX0 TX0 26
set_option maxRecDepth 100000 in
theorem nmX0 : ∀ a, a < 26 → ∀ b, b < 26 → a ≠ b → (TX0 a).2.1 ≠ (TX0 b).2.1 := by sorry
set_option maxRecDepth 100000 in
theorem tyX0_ok : ∀ k, k < 26 → parseFieldDescriptor (TX0 k).2.2.1 = some (tyX0 k) := by sorry
set_option maxRecDepth 100000 in
theorem in_X0 : ∀ w ∈ wsX00, w ∈ lw_all := by sorry
def RX1 : String := "ProofLibrary$Stop"
def TX1 : u_T := fun k => match k with
  | 0 => ("java/lang/Throwable", "cause", "Ljava/lang/Throwable;", false)
  | 1 => ("java/lang/Throwable", "stackTrace", "[Ljava/lang/StackTraceElement;", false)
  | 2 => ("java/lang/Throwable", "suppressedExceptions", "Ljava/util/List;", false)
  | 3 => ("java/lang/Throwable", "detailMessage", "Ljava/lang/String;", false)
  | 4 => ("java/lang/Throwable", "backtrace", "Ljava/lang/Object;", false)
  | 5 => ("java/lang/Throwable", "depth", "I", false)
  | 6 => ("ProofLibrary$Stop", "fault", "I", false)
  | _ => ("ProofLibrary$Stop", "place", "I", false)
def tyX1 : Nat → FieldType := fun k => match k with
  | 0 => .object "java/lang/Throwable"
  | 1 => .array (.object "java/lang/StackTraceElement")
  | 2 => .object "java/util/List"
  | 3 => .object "java/lang/String"
  | 4 => .object "java/lang/Object"
  | 5 => .int
  | 6 => .int
  | _ => .int
abbrev wsX10 : List Cond := u_ws RX1 TX1 8
set_option maxRecDepth 100000 in
theorem nmX1 : ∀ a, a < 8 → ∀ b, b < 8 → a ≠ b → (TX1 a).2.1 ≠ (TX1 b).2.1 := by sorry
set_option maxRecDepth 100000 in
theorem tyX1_ok : ∀ k, k < 8 → parseFieldDescriptor (TX1 k).2.2.1 = some (tyX1 k) := by sorry
set_option maxRecDepth 100000 in
theorem in_X1 : ∀ w ∈ wsX10, w ∈ lw_all := by sorry
def RX2 : String := "ProofLibrary$Tape"
def TX2 : u_T := fun k => match k with
  | 0 => ("ProofLibrary$Tape", "text", "[B", true)
  | 1 => ("ProofLibrary$Tape", "length", "I", false)
  | 2 => ("ProofLibrary$Tape", "from", "I", false)
  | 3 => ("ProofLibrary$Tape", "to", "I", false)
  | _ => ("ProofLibrary$Tape", "stop", "LProofLibrary$Stop;", true)
def tyX2 : Nat → FieldType := fun k => match k with
  | 0 => .array .byte
  | 1 => .int
  | 2 => .int
  | 3 => .int
  | _ => .object "ProofLibrary$Stop"
abbrev wsX20 : List Cond := u_ws RX2 TX2 5
set_option maxRecDepth 100000 in
theorem nmX2 : ∀ a, a < 5 → ∀ b, b < 5 → a ≠ b → (TX2 a).2.1 ≠ (TX2 b).2.1 := by sorry
set_option maxRecDepth 100000 in
theorem tyX2_ok : ∀ k, k < 5 → parseFieldDescriptor (TX2 k).2.2.1 = some (tyX2 k) := by sorry
set_option maxRecDepth 100000 in
theorem in_X2 : ∀ w ∈ wsX20, w ∈ lw_all := by sorry
def RX3 : String := "ProofLibrary$Book"
def TX3 : u_T := fun k => match k with
  | 0 => ("ProofLibrary$Book", "symbolNumbers", "Ljava/util/Map;", true)
  | 1 => ("ProofLibrary$Book", "labels", "Ljava/util/Map;", true)
  | 2 => ("ProofLibrary$Book", "symbolNames", "Ljava/util/List;", true)
  | 3 => ("ProofLibrary$Book", "names", "Ljava/util/List;", true)
  | 4 => ("ProofLibrary$Book", "nameCharacters", "I", false)
  | 5 => ("ProofLibrary$Book", "constant", "[Z", true)
  | 6 => ("ProofLibrary$Book", "types", "[I", true)
  | 7 => ("ProofLibrary$Book", "beginnings", "[I", true)
  | 8 => ("ProofLibrary$Book", "sorts", "I", false)
  | 9 => ("ProofLibrary$Book", "kinds", "[I", true)
  | 10 => ("ProofLibrary$Book", "open", "[Z", true)
  | 11 => ("ProofLibrary$Book", "first", "[I", true)
  | 12 => ("ProofLibrary$Book", "symbols", "[I", true)
  | 13 => ("ProofLibrary$Book", "firstHypothesis", "[I", true)
  | 14 => ("ProofLibrary$Book", "hypotheses", "[I", true)
  | 15 => ("ProofLibrary$Book", "firstPair", "[I", true)
  | 16 => ("ProofLibrary$Book", "lesser", "[I", true)
  | 17 => ("ProofLibrary$Book", "greater", "[I", true)
  | 18 => ("ProofLibrary$Book", "firstStep", "[I", true)
  | 19 => ("ProofLibrary$Book", "steps", "[I", true)
  | _ => ("ProofLibrary$Book", "rests", "Ljava/util/List;", true)
def tyX3 : Nat → FieldType := fun k => match k with
  | 0 => .object "java/util/Map"
  | 1 => .object "java/util/Map"
  | 2 => .object "java/util/List"
  | 3 => .object "java/util/List"
  | 4 => .int
  | 5 => .array .boolean
  | 6 => .array .int
  | 7 => .array .int
  | 8 => .int
  | 9 => .array .int
  | 10 => .array .boolean
  | 11 => .array .int
  | 12 => .array .int
  | 13 => .array .int
  | 14 => .array .int
  | 15 => .array .int
  | 16 => .array .int
  | 17 => .array .int
  | 18 => .array .int
  | 19 => .array .int
  | _ => .object "java/util/List"
abbrev wsX30 : List Cond := u_ws RX3 TX3 21
set_option maxRecDepth 100000 in
theorem nmX3 : ∀ a, a < 21 → ∀ b, b < 21 → a ≠ b → (TX3 a).2.1 ≠ (TX3 b).2.1 := by sorry
set_option maxRecDepth 100000 in
theorem tyX3_ok : ∀ k, k < 21 → parseFieldDescriptor (TX3 k).2.2.1 = some (tyX3 k) := by sorry
set_option maxRecDepth 100000 in
theorem in_X3 : ∀ w ∈ wsX30, w ∈ lw_all := by sorry
def RX4 : String := "ProofLibrary$Scopes"
def TX4 : u_T := fun k => match k with
  | 0 => ("ProofLibrary$Scopes", "book", "LProofLibrary$Book;", true)
  | 1 => ("ProofLibrary$Scopes", "active", "[Z", true)
  | 2 => ("ProofLibrary$Scopes", "floating", "[I", true)
  | 3 => ("ProofLibrary$Scopes", "activeHypothesis", "[Z", true)
  | 4 => ("ProofLibrary$Scopes", "variables", "Ljava/util/ArrayDeque;", true)
  | 5 => ("ProofLibrary$Scopes", "hypotheses", "Ljava/util/ArrayDeque;", true)
  | 6 => ("ProofLibrary$Scopes", "pairs", "[I", true)
  | 7 => ("ProofLibrary$Scopes", "pairCount", "I", false)
  | 8 => ("ProofLibrary$Scopes", "apart", "[J", true)
  | 9 => ("ProofLibrary$Scopes", "marks", "[I", true)
  | _ => ("ProofLibrary$Scopes", "depth", "I", false)
def tyX4 : Nat → FieldType := fun k => match k with
  | 0 => .object "ProofLibrary$Book"
  | 1 => .array .boolean
  | 2 => .array .int
  | 3 => .array .boolean
  | 4 => .object "java/util/ArrayDeque"
  | 5 => .object "java/util/ArrayDeque"
  | 6 => .array .int
  | 7 => .int
  | 8 => .array .long
  | 9 => .array .int
  | _ => .int
abbrev wsX40 : List Cond := u_ws RX4 TX4 11
set_option maxRecDepth 100000 in
theorem nmX4 : ∀ a, a < 11 → ∀ b, b < 11 → a ≠ b → (TX4 a).2.1 ≠ (TX4 b).2.1 := by sorry
set_option maxRecDepth 100000 in
theorem tyX4_ok : ∀ k, k < 11 → parseFieldDescriptor (TX4 k).2.2.1 = some (tyX4 k) := by sorry
set_option maxRecDepth 100000 in
theorem in_X4 : ∀ w ∈ wsX40, w ∈ lw_all := by sorry
def RX5 : String := "ProofLibrary$Pile"
def TX5 : u_T := fun k => match k with
  | 0 => ("ProofLibrary$Pile", "book", "LProofLibrary$Book;", true)
  | 1 => ("ProofLibrary$Pile", "cells", "[I", true)
  | 2 => ("ProofLibrary$Pile", "begins", "[I", true)
  | 3 => ("ProofLibrary$Pile", "size", "I", false)
  | 4 => ("ProofLibrary$Pile", "saved", "[I", true)
  | 5 => ("ProofLibrary$Pile", "savedBegins", "[I", true)
  | 6 => ("ProofLibrary$Pile", "savedSize", "I", false)
  | 7 => ("ProofLibrary$Pile", "row", "[I", true)
  | 8 => ("ProofLibrary$Pile", "rowSize", "I", false)
  | 9 => ("ProofLibrary$Pile", "becomes", "[I", true)
  | 10 => ("ProofLibrary$Pile", "becomesEnd", "[I", true)
  | 11 => ("ProofLibrary$Pile", "one", "Ljava/util/BitSet;", true)
  | _ => ("ProofLibrary$Pile", "two", "Ljava/util/BitSet;", true)
def tyX5 : Nat → FieldType := fun k => match k with
  | 0 => .object "ProofLibrary$Book"
  | 1 => .array .int
  | 2 => .array .int
  | 3 => .int
  | 4 => .array .int
  | 5 => .array .int
  | 6 => .int
  | 7 => .array .int
  | 8 => .int
  | 9 => .array .int
  | 10 => .array .int
  | 11 => .object "java/util/BitSet"
  | _ => .object "java/util/BitSet"
abbrev wsX50 : List Cond := u_ws RX5 TX5 13
set_option maxRecDepth 100000 in
theorem nmX5 : ∀ a, a < 13 → ∀ b, b < 13 → a ≠ b → (TX5 a).2.1 ≠ (TX5 b).2.1 := by sorry
set_option maxRecDepth 100000 in
theorem tyX5_ok : ∀ k, k < 13 → parseFieldDescriptor (TX5 k).2.2.1 = some (tyX5 k) := by sorry
set_option maxRecDepth 100000 in
theorem in_X5 : ∀ w ∈ wsX50, w ∈ lw_all := by sorry
def RX6 : String := "ProofLibrary$Reader"
def TX6 : u_T := fun k => match k with
  | 0 => ("ProofLibrary$Reader", "tape", "LProofLibrary$Tape;", true)
  | 1 => ("ProofLibrary$Reader", "book", "LProofLibrary$Book;", true)
  | 2 => ("ProofLibrary$Reader", "scopes", "LProofLibrary$Scopes;", true)
  | 3 => ("ProofLibrary$Reader", "pile", "LProofLibrary$Pile;", true)
  | 4 => ("ProofLibrary$Reader", "apart", "LProofLibrary$Apart;", true)
  | 5 => ("ProofLibrary$Reader", "typed", "[I", true)
  | 6 => ("ProofLibrary$Reader", "typedCount", "I", false)
  | 7 => ("ProofLibrary$Reader", "places", "[I", true)
  | 8 => ("ProofLibrary$Reader", "told", "[I", true)
  | 9 => ("ProofLibrary$Reader", "toldCount", "I", false)
  | 10 => ("ProofLibrary$Reader", "seen", "Ljava/util/BitSet;", true)
  | 11 => ("ProofLibrary$Reader", "pairs", "I", false)
  | _ => ("ProofLibrary$Reader", "stepCount", "I", false)
def tyX6 : Nat → FieldType := fun k => match k with
  | 0 => .object "ProofLibrary$Tape"
  | 1 => .object "ProofLibrary$Book"
  | 2 => .object "ProofLibrary$Scopes"
  | 3 => .object "ProofLibrary$Pile"
  | 4 => .object "ProofLibrary$Apart"
  | 5 => .array .int
  | 6 => .int
  | 7 => .array .int
  | 8 => .array .int
  | 9 => .int
  | 10 => .object "java/util/BitSet"
  | 11 => .int
  | _ => .int
abbrev wsX60 : List Cond := u_ws RX6 TX6 13
set_option maxRecDepth 100000 in
theorem nmX6 : ∀ a, a < 13 → ∀ b, b < 13 → a ≠ b → (TX6 a).2.1 ≠ (TX6 b).2.1 := by sorry
set_option maxRecDepth 100000 in
theorem tyX6_ok : ∀ k, k < 13 → parseFieldDescriptor (TX6 k).2.2.1 = some (tyX6 k) := by sorry
set_option maxRecDepth 100000 in
theorem in_X6 : ∀ w ∈ wsX60, w ∈ lw_all := by sorry
def RX7 : String := "ProofLibrary$ActiveApart"
def TX7 : u_T := fun k => match k with
  | _ => ("ProofLibrary$ActiveApart", "scopes", "LProofLibrary$Scopes;", true)
def tyX7 : Nat → FieldType := fun k => match k with
  | _ => .object "ProofLibrary$Scopes"
abbrev wsX70 : List Cond := u_ws RX7 TX7 1
set_option maxRecDepth 100000 in
theorem nmX7 : ∀ a, a < 1 → ∀ b, b < 1 → a ≠ b → (TX7 a).2.1 ≠ (TX7 b).2.1 := by sorry
set_option maxRecDepth 100000 in
theorem tyX7_ok : ∀ k, k < 1 → parseFieldDescriptor (TX7 k).2.2.1 = some (tyX7 k) := by sorry
set_option maxRecDepth 100000 in
theorem in_X7 : ∀ w ∈ wsX70, w ∈ lw_all := by sorry
def RX8 : String := "ProofLibrary$Rows"
def TX8 : u_T := fun k => match k with
  | 0 => ("ProofLibrary$Rows", "book", "LProofLibrary$Book;", true)
  | 1 => ("ProofLibrary$Rows", "theorem", "I", false)
  | 2 => ("ProofLibrary$Rows", "statements", "[I", true)
  | 3 => ("ProofLibrary$Rows", "first", "[I", true)
  | 4 => ("ProofLibrary$Rows", "from", "[I", true)
  | 5 => ("ProofLibrary$Rows", "size", "I", false)
  | 6 => ("ProofLibrary$Rows", "pile", "[I", true)
  | _ => ("ProofLibrary$Rows", "saved", "[I", true)
def tyX8 : Nat → FieldType := fun k => match k with
  | 0 => .object "ProofLibrary$Book"
  | 1 => .int
  | 2 => .array .int
  | 3 => .array .int
  | 4 => .array .int
  | 5 => .int
  | 6 => .array .int
  | _ => .array .int
abbrev wsX80 : List Cond := u_ws RX8 TX8 8
set_option maxRecDepth 100000 in
theorem nmX8 : ∀ a, a < 8 → ∀ b, b < 8 → a ≠ b → (TX8 a).2.1 ≠ (TX8 b).2.1 := by sorry
set_option maxRecDepth 100000 in
theorem tyX8_ok : ∀ k, k < 8 → parseFieldDescriptor (TX8 k).2.2.1 = some (tyX8 k) := by sorry
set_option maxRecDepth 100000 in
theorem in_X8 : ∀ w ∈ wsX80, w ∈ lw_all := by sorry
def RX9 : String := "ProofLibrary$AllApart"
def RX10 : String := "ProofLibrary$Forest"
def TX10 : u_T := fun k => match k with
  | 0 => ("ProofLibrary$Forest", "sorts", "[I", true)
  | 1 => ("ProofLibrary$Forest", "starts", "[I", true)
  | 2 => ("ProofLibrary$Forest", "ends", "[I", true)
  | 3 => ("ProofLibrary$Forest", "rules", "[I", true)
  | 4 => ("ProofLibrary$Forest", "variables", "[I", true)
  | 5 => ("ProofLibrary$Forest", "firstPart", "[I", true)
  | _ => ("ProofLibrary$Forest", "size", "I", false)
def tyX10 : Nat → FieldType := fun k => match k with
  | 0 => .array .int
  | 1 => .array .int
  | 2 => .array .int
  | 3 => .array .int
  | 4 => .array .int
  | 5 => .array .int
  | _ => .int
abbrev wsX100 : List Cond := u_ws RX10 TX10 7
set_option maxRecDepth 100000 in
theorem nmX10 : ∀ a, a < 7 → ∀ b, b < 7 → a ≠ b → (TX10 a).2.1 ≠ (TX10 b).2.1 := by sorry
set_option maxRecDepth 100000 in
theorem tyX10_ok : ∀ k, k < 7 → parseFieldDescriptor (TX10 k).2.2.1 = some (tyX10 k) := by sorry
set_option maxRecDepth 100000 in
theorem in_X10 : ∀ w ∈ wsX100, w ∈ lw_all := by sorry
def RX11 : String := "ProofLibrary$Grammar"
def TX11 : u_T := fun k => match k with
  | 0 => ("ProofLibrary$Grammar", "book", "LProofLibrary$Book;", true)
  | 1 => ("ProofLibrary$Grammar", "axioms", "[I", true)
  | 2 => ("ProofLibrary$Grammar", "ruleSorts", "[I", true)
  | 3 => ("ProofLibrary$Grammar", "firstBody", "[I", true)
  | 4 => ("ProofLibrary$Grammar", "body", "[I", true)
  | 5 => ("ProofLibrary$Grammar", "ruleOf", "[I", true)
  | 6 => ("ProofLibrary$Grammar", "rules", "I", false)
  | 7 => ("ProofLibrary$Grammar", "looked", "I", false)
  | 8 => ("ProofLibrary$Grammar", "sorts", "[I", true)
  | 9 => ("ProofLibrary$Grammar", "sortCount", "I", false)
  | 10 => ("ProofLibrary$Grammar", "codes", "[I", true)
  | 11 => ("ProofLibrary$Grammar", "firstChild", "[I", true)
  | 12 => ("ProofLibrary$Grammar", "nextSibling", "[I", true)
  | 13 => ("ProofLibrary$Grammar", "least", "[I", true)
  | 14 => ("ProofLibrary$Grammar", "firstEnding", "[I", true)
  | 15 => ("ProofLibrary$Grammar", "nextEnding", "[I", true)
  | 16 => ("ProofLibrary$Grammar", "places", "I", false)
  | 17 => ("ProofLibrary$Grammar", "row", "[I", true)
  | 18 => ("ProofLibrary$Grammar", "size", "I", false)
  | 19 => ("ProofLibrary$Grammar", "limit", "I", false)
  | 20 => ("ProofLibrary$Grammar", "counts", "[B", true)
  | 21 => ("ProofLibrary$Grammar", "some", "[J", true)
  | 22 => ("ProofLibrary$Grammar", "more", "[J", true)
  | 23 => ("ProofLibrary$Grammar", "steps", "[B", true)
  | 24 => ("ProofLibrary$Grammar", "from", "[I", true)
  | 25 => ("ProofLibrary$Grammar", "to", "[I", true)
  | _ => ("ProofLibrary$Grammar", "plain", "[B", true)
def tyX11 : Nat → FieldType := fun k => match k with
  | 0 => .object "ProofLibrary$Book"
  | 1 => .array .int
  | 2 => .array .int
  | 3 => .array .int
  | 4 => .array .int
  | 5 => .array .int
  | 6 => .int
  | 7 => .int
  | 8 => .array .int
  | 9 => .int
  | 10 => .array .int
  | 11 => .array .int
  | 12 => .array .int
  | 13 => .array .int
  | 14 => .array .int
  | 15 => .array .int
  | 16 => .int
  | 17 => .array .int
  | 18 => .int
  | 19 => .int
  | 20 => .array .byte
  | 21 => .array .long
  | 22 => .array .long
  | 23 => .array .byte
  | 24 => .array .int
  | 25 => .array .int
  | _ => .array .byte
abbrev wsX110 : List Cond := u_ws RX11 TX11 27
set_option maxRecDepth 100000 in
theorem nmX11 : ∀ a, a < 27 → ∀ b, b < 27 → a ≠ b → (TX11 a).2.1 ≠ (TX11 b).2.1 := by sorry
set_option maxRecDepth 100000 in
theorem tyX11_ok : ∀ k, k < 27 → parseFieldDescriptor (TX11 k).2.2.1 = some (tyX11 k) := by sorry
set_option maxRecDepth 100000 in
theorem in_X11 : ∀ w ∈ wsX110, w ∈ lw_all := by sorry
def RX12 : String := "ProofLibrary$Definitions"
def TX12 : u_T := fun k => match k with
  | 0 => ("ProofLibrary$Definitions", "book", "LProofLibrary$Book;", true)
  | 1 => ("ProofLibrary$Definitions", "grammar", "LProofLibrary$Grammar;", true)
  | 2 => ("ProofLibrary$Definitions", "forest", "LProofLibrary$Forest;", true)
  | 3 => ("ProofLibrary$Definitions", "equal", "[Z", true)
  | 4 => ("ProofLibrary$Definitions", "equalities", "I", false)
  | 5 => ("ProofLibrary$Definitions", "firstUse", "[I", true)
  | 6 => ("ProofLibrary$Definitions", "looked", "I", false)
  | 7 => ("ProofLibrary$Definitions", "definedBy", "[I", true)
  | 8 => ("ProofLibrary$Definitions", "begins", "[I", true)
  | 9 => ("ProofLibrary$Definitions", "sizes", "[I", true)
  | 10 => ("ProofLibrary$Definitions", "rows", "[I", false)
  | 11 => ("ProofLibrary$Definitions", "rowsSize", "I", false)
  | 12 => ("ProofLibrary$Definitions", "known", "I", false)
  | 13 => ("ProofLibrary$Definitions", "lengths", "[I", true)
  | 14 => ("ProofLibrary$Definitions", "open", "[I", true)
  | 15 => ("ProofLibrary$Definitions", "told", "[I", true)
  | 16 => ("ProofLibrary$Definitions", "out", "[I", true)
  | 17 => ("ProofLibrary$Definitions", "outSize", "I", false)
  | 18 => ("ProofLibrary$Definitions", "places", "[I", true)
  | 19 => ("ProofLibrary$Definitions", "first", "I", false)
  | _ => ("ProofLibrary$Definitions", "second", "I", false)
def tyX12 : Nat → FieldType := fun k => match k with
  | 0 => .object "ProofLibrary$Book"
  | 1 => .object "ProofLibrary$Grammar"
  | 2 => .object "ProofLibrary$Forest"
  | 3 => .array .boolean
  | 4 => .int
  | 5 => .array .int
  | 6 => .int
  | 7 => .array .int
  | 8 => .array .int
  | 9 => .array .int
  | 10 => .array .int
  | 11 => .int
  | 12 => .int
  | 13 => .array .int
  | 14 => .array .int
  | 15 => .array .int
  | 16 => .array .int
  | 17 => .int
  | 18 => .array .int
  | 19 => .int
  | _ => .int
abbrev wsX120 : List Cond := u_ws RX12 TX12 21
set_option maxRecDepth 100000 in
theorem nmX12 : ∀ a, a < 21 → ∀ b, b < 21 → a ≠ b → (TX12 a).2.1 ≠ (TX12 b).2.1 := by sorry
set_option maxRecDepth 100000 in
theorem tyX12_ok : ∀ k, k < 21 → parseFieldDescriptor (TX12 k).2.2.1 = some (tyX12 k) := by sorry
set_option maxRecDepth 100000 in
theorem in_X12 : ∀ w ∈ wsX120, w ∈ lw_all := by sorry
def RX13 : String := "ProofLibrary$Packer"
def TX13 : u_T := fun k => match k with
  | 0 => ("ProofLibrary$Packer", "book", "LProofLibrary$Book;", true)
  | 1 => ("ProofLibrary$Packer", "theorem", "I", false)
  | 2 => ("ProofLibrary$Packer", "statements", "[I", true)
  | 3 => ("ProofLibrary$Packer", "first", "[I", true)
  | 4 => ("ProofLibrary$Packer", "from", "[I", true)
  | 5 => ("ProofLibrary$Packer", "kinds", "I", false)
  | 6 => ("ProofLibrary$Packer", "kindOf", "[I", true)
  | 7 => ("ProofLibrary$Packer", "table", "[I", true)
  | 8 => ("ProofLibrary$Packer", "last", "I", false)
  | 9 => ("ProofLibrary$Packer", "met", "[Z", true)
  | 10 => ("ProofLibrary$Packer", "again", "[Z", true)
  | 11 => ("ProofLibrary$Packer", "numbers", "[I", true)
  | 12 => ("ProofLibrary$Packer", "steps", "[I", true)
  | 13 => ("ProofLibrary$Packer", "size", "I", false)
  | 14 => ("ProofLibrary$Packer", "open", "[I", true)
  | 15 => ("ProofLibrary$Packer", "told", "[I", true)
  | 16 => ("ProofLibrary$Packer", "labels", "[I", true)
  | 17 => ("ProofLibrary$Packer", "labelCount", "I", false)
  | _ => ("ProofLibrary$Packer", "numberOf", "[I", true)
def tyX13 : Nat → FieldType := fun k => match k with
  | 0 => .object "ProofLibrary$Book"
  | 1 => .int
  | 2 => .array .int
  | 3 => .array .int
  | 4 => .array .int
  | 5 => .int
  | 6 => .array .int
  | 7 => .array .int
  | 8 => .int
  | 9 => .array .boolean
  | 10 => .array .boolean
  | 11 => .array .int
  | 12 => .array .int
  | 13 => .int
  | 14 => .array .int
  | 15 => .array .int
  | 16 => .array .int
  | 17 => .int
  | _ => .array .int
abbrev wsX130 : List Cond := u_ws RX13 TX13 19
set_option maxRecDepth 100000 in
theorem nmX13 : ∀ a, a < 19 → ∀ b, b < 19 → a ≠ b → (TX13 a).2.1 ≠ (TX13 b).2.1 := by sorry
set_option maxRecDepth 100000 in
theorem tyX13_ok : ∀ k, k < 19 → parseFieldDescriptor (TX13 k).2.2.1 = some (tyX13 k) := by sorry
set_option maxRecDepth 100000 in
theorem in_X13 : ∀ w ∈ wsX130, w ∈ lw_all := by sorry
def RX14 : String := "ProofLibraryModel"
def TX14 : u_T := fun k => match k with
  | 0 => ("ProofLibraryModel", "tape", "[I", true)
  | 1 => ("ProofLibraryModel", "tapeSize", "I", false)
  | 2 => ("ProofLibraryModel", "isFed", "Z", false)
  | 3 => ("ProofLibraryModel", "chars", "[I", true)
  | 4 => ("ProofLibraryModel", "charCount", "I", false)
  | 5 => ("ProofLibraryModel", "symbolAt", "[I", true)
  | 6 => ("ProofLibraryModel", "symbolSize", "[I", true)
  | 7 => ("ProofLibraryModel", "symbols", "I", false)
  | 8 => ("ProofLibraryModel", "labelAt", "[I", true)
  | 9 => ("ProofLibraryModel", "labelSize", "[I", true)
  | 10 => ("ProofLibraryModel", "symbolTable", "[I", true)
  | 11 => ("ProofLibraryModel", "labelTable", "[I", true)
  | 12 => ("ProofLibraryModel", "isVariable", "[Z", true)
  | 13 => ("ProofLibraryModel", "isActive", "[Z", true)
  | 14 => ("ProofLibraryModel", "typeOf", "[I", true)
  | 15 => ("ProofLibraryModel", "floatOf", "[I", true)
  | 16 => ("ProofLibraryModel", "begins", "[Z", true)
  | 17 => ("ProofLibraryModel", "beginnings", "I", false)
  | 18 => ("ProofLibraryModel", "statements", "I", false)
  | 19 => ("ProofLibraryModel", "kindOf", "[I", true)
  | 20 => ("ProofLibraryModel", "textAt", "[I", true)
  | 21 => ("ProofLibraryModel", "textSize", "[I", true)
  | 22 => ("ProofLibraryModel", "texts", "[I", true)
  | 23 => ("ProofLibraryModel", "floats", "[I", true)
  | 24 => ("ProofLibraryModel", "textCount", "I", false)
  | 25 => ("ProofLibraryModel", "hypAt", "[I", true)
  | 26 => ("ProofLibraryModel", "hypSize", "[I", true)
  | 27 => ("ProofLibraryModel", "hyps", "[I", true)
  | 28 => ("ProofLibraryModel", "hypCount", "I", false)
  | 29 => ("ProofLibraryModel", "pairAt", "[I", true)
  | 30 => ("ProofLibraryModel", "pairSize", "[I", true)
  | 31 => ("ProofLibraryModel", "pairA", "[I", true)
  | 32 => ("ProofLibraryModel", "pairB", "[I", true)
  | 33 => ("ProofLibraryModel", "pairCount", "I", false)
  | 34 => ("ProofLibraryModel", "stepAt", "[I", true)
  | 35 => ("ProofLibraryModel", "stepSize", "[I", true)
  | 36 => ("ProofLibraryModel", "steps", "[I", true)
  | 37 => ("ProofLibraryModel", "saves", "[Z", true)
  | 38 => ("ProofLibraryModel", "stepPlace", "[I", true)
  | 39 => ("ProofLibraryModel", "stepCount", "I", false)
  | 40 => ("ProofLibraryModel", "rest", "[J", true)
  | 41 => ("ProofLibraryModel", "wff", "I", false)
  | 42 => ("ProofLibraryModel", "turnstile", "I", false)
  | 43 => ("ProofLibraryModel", "activeVariables", "[I", true)
  | 44 => ("ProofLibraryModel", "activeVariableCount", "I", false)
  | 45 => ("ProofLibraryModel", "activeHyps", "[I", true)
  | 46 => ("ProofLibraryModel", "activeHypCount", "I", false)
  | 47 => ("ProofLibraryModel", "apartA", "[I", true)
  | 48 => ("ProofLibraryModel", "apartB", "[I", true)
  | 49 => ("ProofLibraryModel", "apartCount", "I", false)
  | 50 => ("ProofLibraryModel", "apartBits", "[J", true)
  | 51 => ("ProofLibraryModel", "scopes", "I", false)
  | 52 => ("ProofLibraryModel", "scopeVariables", "[I", true)
  | 53 => ("ProofLibraryModel", "scopeHyps", "[I", true)
  | 54 => ("ProofLibraryModel", "scopeApart", "[I", true)
  | 55 => ("ProofLibraryModel", "at", "I", false)
  | 56 => ("ProofLibraryModel", "tokenAt", "I", false)
  | 57 => ("ProofLibraryModel", "tokenSize", "I", false)
  | 58 => ("ProofLibraryModel", "token", "I", false)
  | 59 => ("ProofLibraryModel", "fault", "I", false)
  | 60 => ("ProofLibraryModel", "placeIs", "I", false)
  | 61 => ("ProofLibraryModel", "distinct", "[I", true)
  | 62 => ("ProofLibraryModel", "now", "I", false)
  | 63 => ("ProofLibraryModel", "isMarked", "[Z", true)
  | 64 => ("ProofLibraryModel", "isOpen", "Z", false)
  | 65 => ("ProofLibraryModel", "lastPlace", "I", false)
  | 66 => ("ProofLibraryModel", "packedLabels", "[I", true)
  | 67 => ("ProofLibraryModel", "packedCount", "I", false)
  | 68 => ("ProofLibraryModel", "sum", "I", false)
  | 69 => ("ProofLibraryModel", "inNumber", "Z", false)
  | 70 => ("ProofLibraryModel", "maySave", "Z", false)
  | 71 => ("ProofLibraryModel", "savedCount", "I", false)
  | 72 => ("ProofLibraryModel", "pileAt", "[I", true)
  | 73 => ("ProofLibraryModel", "pileSize", "[I", true)
  | 74 => ("ProofLibraryModel", "pileRow", "[I", true)
  | 75 => ("ProofLibraryModel", "piled", "I", false)
  | 76 => ("ProofLibraryModel", "pileSymbols", "[I", true)
  | 77 => ("ProofLibraryModel", "pileTop", "I", false)
  | 78 => ("ProofLibraryModel", "savedAt", "[I", true)
  | 79 => ("ProofLibraryModel", "savedSize", "[I", true)
  | 80 => ("ProofLibraryModel", "savedRow", "[I", true)
  | 81 => ("ProofLibraryModel", "savedRows", "I", false)
  | 82 => ("ProofLibraryModel", "savedSymbols", "[I", true)
  | 83 => ("ProofLibraryModel", "savedTop", "I", false)
  | 84 => ("ProofLibraryModel", "becomesAt", "[I", true)
  | 85 => ("ProofLibraryModel", "becomesSize", "[I", true)
  | 86 => ("ProofLibraryModel", "madeRow", "[I", true)
  | 87 => ("ProofLibraryModel", "made", "I", false)
  | 88 => ("ProofLibraryModel", "stepFault", "I", false)
  | 89 => ("ProofLibraryModel", "wasVariable", "[Z", true)
  | 90 => ("ProofLibraryModel", "wasActive", "[Z", true)
  | 91 => ("ProofLibraryModel", "wasBegin", "[Z", true)
  | 92 => ("ProofLibraryModel", "wasType", "[I", true)
  | 93 => ("ProofLibraryModel", "wasFloat", "[I", true)
  | 94 => ("ProofLibraryModel", "rowOf", "[I", true)
  | 95 => ("ProofLibraryModel", "rowFromAt", "[I", true)
  | 96 => ("ProofLibraryModel", "rowFroms", "[I", true)
  | 97 => ("ProofLibraryModel", "rowCount", "I", false)
  | 98 => ("ProofLibraryModel", "rowFromCount", "I", false)
  | 99 => ("ProofLibraryModel", "rowsOf", "I", false)
  | 100 => ("ProofLibraryModel", "sizes", "[J", true)
  | 101 => ("ProofLibraryModel", "draft", "[I", true)
  | 102 => ("ProofLibraryModel", "draftSize", "I", false)
  | 103 => ("ProofLibraryModel", "printed", "[I", true)
  | 104 => ("ProofLibraryModel", "printedSize", "I", false)
  | 105 => ("ProofLibraryModel", "sameAs", "[I", true)
  | 106 => ("ProofLibraryModel", "uses", "[I", true)
  | 107 => ("ProofLibraryModel", "numberOf", "[I", true)
  | 108 => ("ProofLibraryModel", "order", "[I", true)
  | 109 => ("ProofLibraryModel", "ordered", "I", false)
  | 110 => ("ProofLibraryModel", "walk", "[I", true)
  | 111 => ("ProofLibraryModel", "walkKid", "[I", true)
  | 112 => ("ProofLibraryModel", "walked", "I", false)
  | 113 => ("ProofLibraryModel", "newLabels", "[I", true)
  | 114 => ("ProofLibraryModel", "labelNumber", "[I", true)
  | 115 => ("ProofLibraryModel", "newLabelCount", "I", false)
  | 116 => ("ProofLibraryModel", "sameTable", "[I", true)
  | 117 => ("ProofLibraryModel", "told", "[I", true)
  | 118 => ("ProofLibraryModel", "tolds", "I", false)
  | 119 => ("ProofLibraryModel", "sortOf", "[I", true)
  | 120 => ("ProofLibraryModel", "stretch", "[I", true)
  | 121 => ("ProofLibraryModel", "rowSize", "I", false)
  | 122 => ("ProofLibraryModel", "leafSort", "[I", true)
  | 123 => ("ProofLibraryModel", "leafIs", "[I", true)
  | 124 => ("ProofLibraryModel", "ways", "[I", true)
  | 125 => ("ProofLibraryModel", "sorts", "I", false)
  | 126 => ("ProofLibraryModel", "madeBy", "[I", true)
  | 127 => ("ProofLibraryModel", "startsOne", "[J", true)
  | 128 => ("ProofLibraryModel", "startsTwo", "[J", true)
  | 129 => ("ProofLibraryModel", "ruleStep", "[I", true)
  | 130 => ("ProofLibraryModel", "ruleUp", "[I", true)
  | 131 => ("ProofLibraryModel", "ruleKid", "[I", true)
  | 132 => ("ProofLibraryModel", "ruleNext", "[I", true)
  | 133 => ("ProofLibraryModel", "ruleFirst", "[I", true)
  | 134 => ("ProofLibraryModel", "ruleOther", "[I", true)
  | 135 => ("ProofLibraryModel", "ruleLeast", "[I", true)
  | 136 => ("ProofLibraryModel", "frontOne", "[J", true)
  | 137 => ("ProofLibraryModel", "frontTwo", "[J", true)
  | 138 => ("ProofLibraryModel", "ruleNodes", "I", false)
  | 139 => ("ProofLibraryModel", "units", "[I", true)
  | 140 => ("ProofLibraryModel", "unitCount", "I", false)
  | 141 => ("ProofLibraryModel", "isTreed", "Z", false)
  | 142 => ("ProofLibraryModel", "rowLimit", "I", false)
  | 143 => ("ProofLibraryModel", "front", "[I", true)
  | 144 => ("ProofLibraryModel", "nodeIs", "[I", true)
  | 145 => ("ProofLibraryModel", "nodeKids", "[I", true)
  | 146 => ("ProofLibraryModel", "nodeFrom", "[I", true)
  | 147 => ("ProofLibraryModel", "nodeTo", "[I", true)
  | 148 => ("ProofLibraryModel", "nodeSort", "[I", true)
  | 149 => ("ProofLibraryModel", "kids", "[I", true)
  | 150 => ("ProofLibraryModel", "nodes", "I", false)
  | 151 => ("ProofLibraryModel", "kidCount", "I", false)
  | 152 => ("ProofLibraryModel", "base", "[I", true)
  | 153 => ("ProofLibraryModel", "grown", "[I", true)
  | 154 => ("ProofLibraryModel", "treeCount", "[I", true)
  | 155 => ("ProofLibraryModel", "rulesIn", "[J", true)
  | 156 => ("ProofLibraryModel", "definitions", "[I", true)
  | 157 => ("ProofLibraryModel", "isEquality", "[Z", true)
  | 158 => ("ProofLibraryModel", "definer", "[I", true)
  | 159 => ("ProofLibraryModel", "isNeeded", "[Z", true)
  | 160 => ("ProofLibraryModel", "bareAt", "[I", true)
  | 161 => ("ProofLibraryModel", "bareMany", "[I", true)
  | 162 => ("ProofLibraryModel", "bare", "[I", true)
  | 163 => ("ProofLibraryModel", "bareSize", "I", false)
  | 164 => ("ProofLibraryModel", "tasks", "[I", true)
  | 165 => ("ProofLibraryModel", "taskMany", "I", false)
  | 166 => ("ProofLibraryModel", "given", "[I", true)
  | 167 => ("ProofLibraryModel", "boundFrom", "[I", true)
  | 168 => ("ProofLibraryModel", "boundTo", "[I", true)
  | _ => ("ProofLibraryModel", "otherWalk", "[I", true)
def tyX14 : Nat → FieldType := fun k => match k with
  | 0 => .array .int
  | 1 => .int
  | 2 => .boolean
  | 3 => .array .int
  | 4 => .int
  | 5 => .array .int
  | 6 => .array .int
  | 7 => .int
  | 8 => .array .int
  | 9 => .array .int
  | 10 => .array .int
  | 11 => .array .int
  | 12 => .array .boolean
  | 13 => .array .boolean
  | 14 => .array .int
  | 15 => .array .int
  | 16 => .array .boolean
  | 17 => .int
  | 18 => .int
  | 19 => .array .int
  | 20 => .array .int
  | 21 => .array .int
  | 22 => .array .int
  | 23 => .array .int
  | 24 => .int
  | 25 => .array .int
  | 26 => .array .int
  | 27 => .array .int
  | 28 => .int
  | 29 => .array .int
  | 30 => .array .int
  | 31 => .array .int
  | 32 => .array .int
  | 33 => .int
  | 34 => .array .int
  | 35 => .array .int
  | 36 => .array .int
  | 37 => .array .boolean
  | 38 => .array .int
  | 39 => .int
  | 40 => .array .long
  | 41 => .int
  | 42 => .int
  | 43 => .array .int
  | 44 => .int
  | 45 => .array .int
  | 46 => .int
  | 47 => .array .int
  | 48 => .array .int
  | 49 => .int
  | 50 => .array .long
  | 51 => .int
  | 52 => .array .int
  | 53 => .array .int
  | 54 => .array .int
  | 55 => .int
  | 56 => .int
  | 57 => .int
  | 58 => .int
  | 59 => .int
  | 60 => .int
  | 61 => .array .int
  | 62 => .int
  | 63 => .array .boolean
  | 64 => .boolean
  | 65 => .int
  | 66 => .array .int
  | 67 => .int
  | 68 => .int
  | 69 => .boolean
  | 70 => .boolean
  | 71 => .int
  | 72 => .array .int
  | 73 => .array .int
  | 74 => .array .int
  | 75 => .int
  | 76 => .array .int
  | 77 => .int
  | 78 => .array .int
  | 79 => .array .int
  | 80 => .array .int
  | 81 => .int
  | 82 => .array .int
  | 83 => .int
  | 84 => .array .int
  | 85 => .array .int
  | 86 => .array .int
  | 87 => .int
  | 88 => .int
  | 89 => .array .boolean
  | 90 => .array .boolean
  | 91 => .array .boolean
  | 92 => .array .int
  | 93 => .array .int
  | 94 => .array .int
  | 95 => .array .int
  | 96 => .array .int
  | 97 => .int
  | 98 => .int
  | 99 => .int
  | 100 => .array .long
  | 101 => .array .int
  | 102 => .int
  | 103 => .array .int
  | 104 => .int
  | 105 => .array .int
  | 106 => .array .int
  | 107 => .array .int
  | 108 => .array .int
  | 109 => .int
  | 110 => .array .int
  | 111 => .array .int
  | 112 => .int
  | 113 => .array .int
  | 114 => .array .int
  | 115 => .int
  | 116 => .array .int
  | 117 => .array .int
  | 118 => .int
  | 119 => .array .int
  | 120 => .array .int
  | 121 => .int
  | 122 => .array .int
  | 123 => .array .int
  | 124 => .array .int
  | 125 => .int
  | 126 => .array .int
  | 127 => .array .long
  | 128 => .array .long
  | 129 => .array .int
  | 130 => .array .int
  | 131 => .array .int
  | 132 => .array .int
  | 133 => .array .int
  | 134 => .array .int
  | 135 => .array .int
  | 136 => .array .long
  | 137 => .array .long
  | 138 => .int
  | 139 => .array .int
  | 140 => .int
  | 141 => .boolean
  | 142 => .int
  | 143 => .array .int
  | 144 => .array .int
  | 145 => .array .int
  | 146 => .array .int
  | 147 => .array .int
  | 148 => .array .int
  | 149 => .array .int
  | 150 => .int
  | 151 => .int
  | 152 => .array .int
  | 153 => .array .int
  | 154 => .array .int
  | 155 => .array .long
  | 156 => .array .int
  | 157 => .array .boolean
  | 158 => .array .int
  | 159 => .array .boolean
  | 160 => .array .int
  | 161 => .array .int
  | 162 => .array .int
  | 163 => .int
  | 164 => .array .int
  | 165 => .int
  | 166 => .array .int
  | 167 => .array .int
  | 168 => .array .int
  | _ => .array .int
abbrev wsX140 : List Cond := u_ws RX14 TX14 170
set_option maxRecDepth 100000 in
theorem nmX14 : ∀ a, a < 170 → ∀ b, b < 170 → a ≠ b → (TX14 a).2.1 ≠ (TX14 b).2.1 := by sorry
set_option maxRecDepth 100000 in
theorem tyX14_ok : ∀ k, k < 170 → parseFieldDescriptor (TX14 k).2.2.1 = some (tyX14 k) := by sorry
set_option maxRecDepth 100000 in
theorem in_X14 : ∀ w ∈ wsX140, w ∈ lw_all := by sorry
def RX15 : String := "ProofLibrary$Reader$Letters"
def TX15 : u_T := fun k => match k with
  | 0 => ("ProofLibrary$Reader$Letters", "theorem", "I", true)
  | 1 => ("ProofLibrary$Reader$Letters", "number", "I", false)
  | 2 => ("ProofLibrary$Reader$Letters", "isWithin", "Z", false)
  | 3 => ("ProofLibrary$Reader$Letters", "maySave", "Z", false)
  | 4 => ("ProofLibrary$Reader$Letters", "saved", "I", false)
  | _ => ("ProofLibrary$Reader$Letters", "this$0", "LProofLibrary$Reader;", true)
def tyX15 : Nat → FieldType := fun k => match k with
  | 0 => .int
  | 1 => .int
  | 2 => .boolean
  | 3 => .boolean
  | 4 => .int
  | _ => .object "ProofLibrary$Reader"
abbrev wsX150 : List Cond := u_ws RX15 TX15 6
set_option maxRecDepth 100000 in
theorem nmX15 : ∀ a, a < 6 → ∀ b, b < 6 → a ≠ b → (TX15 a).2.1 ≠ (TX15 b).2.1 := by sorry
set_option maxRecDepth 100000 in
theorem tyX15_ok : ∀ k, k < 6 → parseFieldDescriptor (TX15 k).2.2.1 = some (tyX15 k) := by sorry
set_option maxRecDepth 100000 in
theorem in_X15 : ∀ w ∈ wsX150, w ∈ lw_all := by sorry
def T0_ : u_T := fun _ => ("", "", "I", false)
def Kl : List vw_C := [(RJ0, TJ0, 5), (RJ4, TJ4, 8), (RJ7, TJ7, 3), (RJ8, TJ8, 3), (RJ10, TJ10, 3), (RJ11, TJ11, 4), (RJ18, TJ18, 4), (RJ21, TJ21, 1), (RJ24, TJ24, 4), (RJ26, TJ26, 11), (RX0, TX0, 26), (RX1, TX1, 8), (RX2, TX2, 5), (RX3, TX3, 21), (RX4, TX4, 11), (RX5, TX5, 13), (RX6, TX6, 13), (RX7, TX7, 1), (RX8, TX8, 8), (RX10, TX10, 7), (RX11, TX11, 27), (RX12, TX12, 21), (RX13, TX13, 19), (RX14, TX14, 170), (RX15, TX15, 6), (RX9, T0_, 0), (RJ22, T0_, 0)]
def Kty : Nat → Nat → FieldType := fun c => match c with
  | 0 => tyJ0
  | 1 => tyJ4
  | 2 => tyJ7
  | 3 => tyJ8
  | 4 => tyJ10
  | 5 => tyJ11
  | 6 => tyJ18
  | 7 => tyJ21
  | 8 => tyJ24
  | 9 => tyJ26
  | 10 => tyX0
  | 11 => tyX1
  | 12 => tyX2
  | 13 => tyX3
  | 14 => tyX4
  | 15 => tyX5
  | 16 => tyX6
  | 17 => tyX7
  | 18 => tyX8
  | 19 => tyX10
  | 20 => tyX11
  | 21 => tyX12
  | 22 => tyX13
  | 23 => tyX14
  | 24 => tyX15
  | _ => fun _ => .int
def KC (ci : Nat) (C : String) (T : u_T) (N : Nat) : Prop := Kl[ci]? = some (C, T, N) ∧ (∀ w ∈ u_ws C T N, w ∈ lw_all) ∧ (∀ k, k < N → parseFieldDescriptor (T k).2.2.1 = some (Kty ci k)) ∧ (∀ a, a < N → ∀ b, b < N → a ≠ b → (T a).2.1 ≠ (T b).2.1)
set_option maxRecDepth 100000 in
theorem kcX9 : KC 25 RX9 T0_ 0 := by sorry
set_option maxRecDepth 100000 in
theorem kcJ22 : KC 26 RJ22 T0_ 0 := by sorry
set_option maxRecDepth 100000 in
theorem kcJ0 : KC 0 RJ0 TJ0 5 := by sorry
set_option maxRecDepth 100000 in
theorem kcJ4 : KC 1 RJ4 TJ4 8 := by sorry
set_option maxRecDepth 100000 in
theorem kcJ7 : KC 2 RJ7 TJ7 3 := by sorry
set_option maxRecDepth 100000 in
theorem kcJ8 : KC 3 RJ8 TJ8 3 := by sorry
set_option maxRecDepth 100000 in
theorem kcJ10 : KC 4 RJ10 TJ10 3 := by sorry
set_option maxRecDepth 100000 in
theorem kcJ11 : KC 5 RJ11 TJ11 4 := by sorry
set_option maxRecDepth 100000 in
theorem kcJ18 : KC 6 RJ18 TJ18 4 := by sorry
set_option maxRecDepth 100000 in
theorem kcJ21 : KC 7 RJ21 TJ21 1 := by sorry
set_option maxRecDepth 100000 in
theorem kcJ24 : KC 8 RJ24 TJ24 4 := by sorry
set_option maxRecDepth 100000 in
theorem kcJ26 : KC 9 RJ26 TJ26 11 := by sorry
set_option maxRecDepth 100000 in
theorem kcX0 : KC 10 RX0 TX0 26 := by sorry
set_option maxRecDepth 100000 in
theorem kcX1 : KC 11 RX1 TX1 8 := by sorry
set_option maxRecDepth 100000 in
theorem kcX2 : KC 12 RX2 TX2 5 := by sorry
set_option maxRecDepth 100000 in
theorem kcX3 : KC 13 RX3 TX3 21 := by sorry
set_option maxRecDepth 100000 in
theorem kcX4 : KC 14 RX4 TX4 11 := by sorry
set_option maxRecDepth 100000 in
theorem kcX5 : KC 15 RX5 TX5 13 := by sorry
set_option maxRecDepth 100000 in
theorem kcX6 : KC 16 RX6 TX6 13 := by sorry
set_option maxRecDepth 100000 in
theorem kcX7 : KC 17 RX7 TX7 1 := by sorry
set_option maxRecDepth 100000 in
theorem kcX8 : KC 18 RX8 TX8 8 := by sorry
set_option maxRecDepth 100000 in
theorem kcX10 : KC 19 RX10 TX10 7 := by sorry
set_option maxRecDepth 100000 in
theorem kcX11 : KC 20 RX11 TX11 27 := by sorry
set_option maxRecDepth 100000 in
theorem kcX12 : KC 21 RX12 TX12 21 := by sorry
set_option maxRecDepth 100000 in
theorem kcX13 : KC 22 RX13 TX13 19 := by sorry
set_option maxRecDepth 100000 in
theorem kcX14 : KC 23 RX14 TX14 170 := by sorry
set_option maxRecDepth 100000 in
theorem kcX15 : KC 24 RX15 TX15 6 := by sorry
end

section
abbrev AV : Type := Int ⊕ (Int ⊕ (Option Nat ⊕ Int))
abbrev vi (x : Int) : AV := Sum.inl x
abbrev vl (x : Int) : AV := Sum.inr (Sum.inl x)
abbrev vr (r : Option Nat) : AV := Sum.inr (Sum.inr (Sum.inl r))
abbrev vf (x : Int) : AV := Sum.inr (Sum.inr (Sum.inr x))
abbrev Hp : Type := (Nat → Int → Int) × (Nat → Int → Option Nat) × (Nat → Nat × Nat) × Nat
abbrev hN (h : Hp) : Nat → Int → Int := h.1
abbrev hA (h : Hp) : Nat → Int → Option Nat := h.2.1
abbrev hS (h : Hp) : Nat → Nat × Nat := h.2.2.1
abbrev hZ (h : Hp) : Nat := h.2.2.2
def up2 {α : Type} (f : Nat → Int → α) (a : Nat) (i : Int) (v : α) : Nat → Int → α := fun b j => if b = a ∧ j = i then v else f b j
def sN (h : Hp) (a : Nat) (i v : Int) : Hp := (up2 h.1 a i v, h.2)
def sA (h : Hp) (a : Nat) (i : Int) (v : Option Nat) : Hp := (h.1, up2 h.2.1 a i v, h.2.2)
def nC (h : Hp) (c n : Nat) : Hp := (fun b j => if b = h.2.2.2 then 0 else h.1 b j, fun b j => if b = h.2.2.2 then none else h.2.1 b j, fun b => if b = h.2.2.2 then (c, n) else h.2.2.1 b, h.2.2.2 + 1)
def xK : Nat := 512
abbrev WC : Type := Launch × va_G × (Nat → ClassId) × State × (Nat → Nat)
abbrev wB (w : WC) : Nat := w.2.2.2.1.heap.size
def ph (w : WC) (k : Nat) : Nat := if k < xK then w.2.2.2.2 k else wB w + (k - xK)
def cv (w : WC) (v : AV) : Value := match v with
  | .inl x => .int (Int32.ofInt x)
  | .inr (.inl x) => .long (Int64.ofInt x)
  | .inr (.inr (.inl r)) => va_rf (r.map (ph w))
  | .inr (.inr (.inr b)) => .float (UInt32.ofNat b.toNat)
def aTy (c : Nat) : FieldType := match c with
  | 0 => .int
  | 1 => .byte
  | 2 => .long
  | 3 => .boolean
  | 4 => .object "java/lang/Object"
  | 5 => .object "java/util/HashMap$Node"
  | 6 => .char
  | _ => .int
def fv (ty : FieldType) (x : Int) (r : Option Nat) : AV := match ty with
  | .long => vl x
  | .float => vf x
  | .object _ => vr r
  | .array _ => vr r
  | _ => vi x
def okN (ty : FieldType) (x : Int) : Prop := match ty with
  | .byte => -128 ≤ x ∧ x < 128
  | .boolean => 0 ≤ x ∧ x < 2
  | .char => 0 ≤ x ∧ x < 65536
  | .short => -32768 ≤ x ∧ x < 32768
  | .long => -9223372036854775808 ≤ x ∧ x < 9223372036854775808
  | .float => 0 ≤ x ∧ x < 4294967296
  | _ => -2147483648 ≤ x ∧ x < 2147483648
def okV (v : AV) : Prop := match v with
  | .inl x => -2147483648 ≤ x ∧ x < 2147483648
  | .inr (.inl x) => -9223372036854775808 ≤ x ∧ x < 9223372036854775808
  | .inr (.inr (.inl _)) => True
  | .inr (.inr (.inr x)) => 0 ≤ x ∧ x < 4294967296
def w32 (x : Int) : Int := (x + 2147483648) % 4294967296 - 2147483648
def w64 (x : Int) : Int := (x + 9223372036854775808) % 18446744073709551616 - 9223372036854775808
set_option maxRecDepth 100000 in
theorem w32_id {x : Int} (h1 : -2147483648 ≤ x) (h2 : x < 2147483648) : w32 x = x := by sorry
set_option maxRecDepth 100000 in
theorem w64_id {x : Int} (h1 : -9223372036854775808 ≤ x) (h2 : x < 9223372036854775808) : w64 x = x := by sorry
set_option maxRecDepth 100000 in
theorem w32_ok (x : Int) : -2147483648 ≤ w32 x ∧ w32 x < 2147483648 := by sorry
set_option maxRecDepth 100000 in
theorem w64_ok (x : Int) : -9223372036854775808 ≤ w64 x ∧ w64 x < 9223372036854775808 := by sorry
set_option maxRecDepth 100000 in
theorem bm32 (x : Int) : Int.bmod x 4294967296 = w32 x := by sorry
set_option maxRecDepth 100000 in
theorem bm64 (x : Int) : Int.bmod x 18446744073709551616 = w64 x := by sorry
set_option maxRecDepth 100000 in
theorem w32_toInt (x : Int) : (Int32.ofInt x).toInt = w32 x := by sorry
set_option maxRecDepth 100000 in
theorem w64_toInt (x : Int) : (Int64.ofInt x).toInt = w64 x := by sorry
set_option maxRecDepth 100000 in
theorem w32_w (x : Int) : w32 (w32 x) = w32 x := by sorry
set_option maxRecDepth 100000 in
theorem w64_w (x : Int) : w64 (w64 x) = w64 x := by sorry
set_option maxRecDepth 100000 in
theorem w32_eq (x : Int) : Int32.ofInt (w32 x) = Int32.ofInt x := by sorry
set_option maxRecDepth 100000 in
theorem w64_eq (x : Int) : Int64.ofInt (w64 x) = Int64.ofInt x := by sorry
set_option maxRecDepth 100000 in
theorem i32_toInt {x : Int} (h1 : -2147483648 ≤ x) (h2 : x < 2147483648) : (Int32.ofInt x).toInt = x := by sorry
set_option maxRecDepth 100000 in
theorem i64_toInt {x : Int} (h1 : -9223372036854775808 ≤ x) (h2 : x < 9223372036854775808) : (Int64.ofInt x).toInt = x := by sorry
def cE (w : WC) (h : Hp) (k : Nat) : va_E := match (hS h k).1 with
  | 2 => .inl (w.2.2.1 2, (hS h k).2, .inr (.inl fun j => Int64.ofInt (hN h k j)))
  | 4 => .inl (w.2.2.1 4, (hS h k).2, .inr (.inr (.inr (.inr fun j => (hA h k j).map (ph w)))))
  | 5 => .inl (w.2.2.1 5, (hS h k).2, .inr (.inr (.inr (.inr fun j => (hA h k j).map (ph w)))))
  | c + 8 => .inr (c, (List.range (hS h k).2).map fun (j : Nat) => cv w (fv (Kty c j) (hN h k j) (hA h k j)))
  | c => .inl (w.2.2.1 c, (hS h k).2, .inl fun j => Int32.ofInt (hN h k j))
def sTy (c j : Nat) : FieldType := if c < 8 then aTy c else Kty (c - 8) j
def wO (w : WC) (h : Hp) : va_W := (List.range (hZ h - xK)).map fun j => (wB w + j, cE w h (xK + j))
def aTys (w : WC) : List (ClassId × FieldType) := [(w.2.2.1 0, .int), (w.2.2.1 1, .byte), (w.2.2.1 2, .long), (w.2.2.1 3, .boolean), (w.2.2.1 4, .object "java/lang/Object"), (w.2.2.1 5, .object "java/util/HashMap$Node"), (w.2.2.1 6, .char)]
def fr_ (w : WC) : Nat → Prop := fun q => wB w ≤ q
def Rp (w : WC) (h : Hp) (H : Heap) : Prop := va_P w.2.1 Kl (wO w h) H ∧ va_D (fr_ w) (wO w h) ∧ (∀ q : Nat, q < wB w → H[q]? = w.2.2.2.1.heap[q]?) ∧ xK ≤ hZ h ∧ H.size = wB w + (hZ h - xK) ∧ (∀ k : Nat, (hS h k).1 ≠ 7 → ∀ j : Nat, j < (hS h k).2 → okN (sTy (hS h k).1 j) (hN h k j)) ∧ (∀ k : Nat, k < xK → (hS h k).1 ≠ 7 → va_at w.2.1 Kl (ph w k, cE w h k) H ∧ ph w k < wB w) ∧ ∀ k : Nat, hZ h ≤ k → (hS h k).1 = 7
def ncL : List (String × String) := [("java/util/HashMap$Node", "java/util/HashMap$TreeNode")]
def zI : List (String × String × String × Int) := [("java/lang/Integer$IntegerCache", "high", "I", 127), ("java/lang/String", "COMPACT_STRINGS", "Z", 1), ("java/lang/StringUTF16", "$assertionsDisabled", "Z", 1), ("java/lang/StringUTF16", "HI_BYTE_SHIFT", "I", 0), ("java/lang/StringUTF16", "LO_BYTE_SHIFT", "I", 8), ("java/util/BitSet", "$assertionsDisabled", "Z", 1), ("java/util/HashMap$TreeNode", "$assertionsDisabled", "Z", 1), ("jdk/internal/misc/Unsafe", "ARRAY_BYTE_BASE_OFFSET", "I", 16), ("jdk/internal/misc/UnsafeConstants", "BIG_ENDIAN", "Z", 0), ("jdk/internal/util/ArraysSupport", "BIG_ENDIAN", "Z", 0), ("jdk/internal/util/ArraysSupport", "LOG2_ARRAY_BYTE_INDEX_SCALE", "I", 0), ("jdk/internal/util/ArraysSupport", "LOG2_ARRAY_INT_INDEX_SCALE", "I", 2), ("jdk/internal/util/ArraysSupport", "LOG2_ARRAY_LONG_INDEX_SCALE", "I", 3), ("jdk/internal/util/ArraysSupport", "LOG2_BYTE_BIT_SIZE", "I", 3)]
def zR_ : List (String × String × String × Nat) := [("java/lang/Integer$IntegerCache", "cache", "[Ljava/lang/Integer;", 20), ("java/util/ArrayList", "DEFAULTCAPACITY_EMPTY_ELEMENTDATA", "[Ljava/lang/Object;", 21), ("jdk/internal/util/ArraysSupport", "U", "Ljdk/internal/misc/Unsafe;", 22), ("jdk/internal/util/ArraysSupport", "JLA", "Ljdk/internal/access/JavaLangAccess;", 23)]
def zQ_ : List (String × String × String × Nat) := [("java/lang/Throwable", "UNASSIGNED_STACK", "[Ljava/lang/StackTraceElement;", 0), ("java/lang/Throwable", "SUPPRESSED_SENTINEL", "Ljava/util/List;", 1), ("jdk/internal/util/Preconditions", "SIOOBE_FORMATTER", "Ljava/util/function/BiFunction;", 2)]
def qS (w : WC) (i : Nat) : Option Nat := if w.2.2.2.2 (500 + i) = 0 then none else some (24 + i)
def sL_ : List (String × Nat × String × Nat) := [("ProofLibrary", 383, "(", 0), ("ProofLibrary", 390, ")", 1), ("ProofLibrary", 511, ",", 2), ("ProofLibrary$Definitions", 82, "|-", 3), ("ProofLibrary$Grammar", 100, "|-", 3), ("ProofLibrary$Grammar", 164, "wff", 4), ("ProofLibrary$Reader", 213, "feap", 5), ("ProofLibrary$Reader", 307, "(", 0), ("ProofLibrary$Reader", 333, "?", 6), ("ProofLibrary$Reader", 350, ")", 1), ("ProofLibrary$Tape", 58, "$)", 7), ("ProofLibrary$Tape", 68, "$(", 8), ("ProofLibrary$Tape", 79, "cvfedap=.{}", 9)]
def mL_ : List (String × Nat) := [("java/lang/String", 30), ("[Ljava/lang/Object;", 31)]
def Hx (w : WC) : Prop := (∀ q ∈ ncL, va_Nc q.1 q.2 w.2.2.2.1) ∧ (∀ q ∈ zI, va_Z q.1 q.2.1 q.2.2.1 (cv w (vi q.2.2.2)) (fr_ w) w.2.2.2.1 w.2.2.2.1.heap) ∧ (∀ q ∈ zR_, va_Z q.1 q.2.1 q.2.2.1 (cv w (vr (some q.2.2.2))) (fr_ w) w.2.2.2.1 w.2.2.2.1.heap) ∧ (∀ q ∈ zQ_, va_Z q.1 q.2.1 q.2.2.1 (cv w (vr (qS w q.2.2.2))) (fr_ w) w.2.2.2.1 w.2.2.2.1.heap) ∧ (∀ q ∈ sL_, vk_R q.1 q.2.1 q.2.2.1 (ph w q.2.2.2) w.2.2.2.1) ∧ (∀ q ∈ mL_, va_Mi q.1 (ph w q.2) w.2.2.2.1) ∧ va_T (.object "java/lang/Integer") (ph w 20) 256 (fun j => .ref (ph w (100 + j))) (fr_ w) w.2.2.2.1 w.2.2.2.1.heap ∧ ∃ cell : Cell, w.2.2.2.1.heap[ph w 22]? = some cell ∧ cell.vm.isStatics = false ∧ w.2.2.2.1.vm.findClass RJ22 = some cell.cls ∧ ph w 22 < wB w
def isAO (c : Cond) : Bool := match c with
  | .arrayOver _ => true
  | _ => false
def Hw (w : WC) : Prop := (∀ c ∈ lw_tbl, (c.onTables || isAO c) = true → va_Nw c w.2.2.2.1) ∧ Hx w
def Kx (w : WC) (U : State) : Prop := va_K w.2.1 Kl (aTys w) U ∧ w.2.2.2.1.WarmedH U.vm ∧ Hw w
abbrev MC : Type := WC × Nat × String × ByteArray × Nat × Option FieldType × String
def Cx (C : MC) (p : Program) (R : Room) (s : State) (m : MethodId) (args : Array Value) (meth : Method) (c : Code) : Prop :=
  p.tables.exec = Jvm.exec ∧ c.code = C.2.2.2.1 ∧ meth.sig.returnType = C.2.2.2.2.2.1 ∧ c.maxLocals = C.2.2.2.2.1 ∧ s.vm.findClass C.2.2.1 = some m.cls ∧ (∀ w ∈ lw_all, w.before args s = true) ∧ meth.locks = false ∧ Kx C.1 s ∧ C.2.1 ≤ R.frames ∧ 64 * C.2.1 ≤ R.locals ∧ meth.name = C.2.2.2.2.2.2
abbrev ZZ : Type := List Frame → Array Value → State → Room → State → Prop
def cL (w : WC) (L : List (Nat × AV)) : List (Nat × Value) := L.map fun q => (q.1, cv w q.2)
def AW (C : MC) (Z : ZZ) (pc : Nat) (L : List (Nat × AV)) (st : List AV) (h : Hp) (kc ks : Nat) : Prop :=
  ∀ (p : Program) (e : Env) (R : Room) (s : State) (m : MethodId) (args : Array Value) (below : List Frame) (meth : Method) (c : Code) (H : Heap) (locs : List Loc) (cells slots : Nat) (ls : Array Slot),
    Cx C p R s m args meth c → Rp C.1 h H → (∀ q ∈ locs, wB C.1 ≤ q.base) → lv_has ls C.2.2.2.2.1 (cL C.1 L) → (∀ q ∈ L, okV q.2) → (∀ v ∈ st, okV v) → cells + kc ≤ R.cells → slots + ks ≤ R.slots →
    W p C.1.1 e R s m args below meth c H locs cells slots (Z below args s R) (F0 m pc ls (st.map (cv C.1)))
end

section
def ct (v : AV) : Nat := match v with
  | .inr (.inl _) => 2
  | _ => 1
set_option maxRecDepth 100000 in
theorem cv_ct (w : WC) (v : AV) : (cv w v).category = ct v := by sorry
def lG (L : List (Nat × AV)) (i : Nat) : Option AV := (L.find? fun q => q.1 == i).map fun q => q.2
def lS (L : List (Nat × AV)) (i : Nat) (v : AV) : List (Nat × AV) :=
  bif L.any (fun q => q.1 == i) then L.filterMap (fun q => bif q.1 == i then some (i, v) else bif (q.1 + 1 == i && ct q.2 == 2) || (ct v == 2 && q.1 == i + 1) then none else some q)
  else L.filter (fun q => !((q.1 + 1 == i && ct q.2 == 2) || (ct v == 2 && q.1 == i + 1))) ++ [(i, v)]
set_option maxRecDepth 100000 in
theorem lG_mem {L : List (Nat × AV)} {i : Nat} {v : AV} (h : lG L i = some v) : (i, v) ∈ L := by sorry
set_option maxRecDepth 100000 in
theorem lS_mem {L : List (Nat × AV)} {i : Nat} {v : AV} {q : Nat × AV} (h : q ∈ lS L i v) : q = (i, v) ∨ (q ∈ L ∧ q.1 ≠ i ∧ ¬ (q.1 + 1 = i ∧ ct q.2 = 2) ∧ ¬ (ct v = 2 ∧ q.1 = i + 1)) := by sorry
set_option maxRecDepth 100000 in
theorem lv_mono {ls : Array Slot} {n : Nat} {l l' : List (Nat × Value)} (h : lv_has ls n l) (hs : ∀ q ∈ l', q ∈ l) : lv_has ls n l' := by sorry
set_option maxRecDepth 100000 in
theorem lS_cL1 {w : WC} {L : List (Nat × AV)} {i : Nat} {v : AV} (hc : ct v = 1) : ∀ q ∈ cL w (lS L i v), q ∈ ((i, cv w v) :: (cL w L).filter (fun q => !(q.1 == i) && !(q.1 + 1 == i && q.2.category == 2))) := by sorry
set_option maxRecDepth 100000 in
theorem lS_cL2 {w : WC} {L : List (Nat × AV)} {i : Nat} {v : AV} (hc : ct v = 2) : ∀ q ∈ cL w (lS L i v), q ∈ ((i, cv w v) :: (cL w L).filter (fun q => !(q.1 == i) && (!(q.1 == i + 1) && !(q.1 + 1 == i && q.2.category == 2)))) := by sorry
set_option maxRecDepth 100000 in
theorem lS_ok {L : List (Nat × AV)} {i : Nat} {v : AV} (h : ∀ q ∈ L, okV q.2) (hv : okV v) : ∀ q ∈ lS L i v, okV q.2 := by sorry
set_option maxRecDepth 100000 in
theorem lG_at {w : WC} {ls : Array Slot} {n : Nat} {L : List (Nat × AV)} {i : Nat} {v : AV} (hl : lv_has ls n (cL w L)) (h : lG L i = some v) : ls[i]? = some (.val (cv w v)) := by sorry
set_option maxRecDepth 100000 in
theorem oc {v : AV} {st : List AV} (hv : okV v) (h : ∀ u ∈ st, okV u) : ∀ u ∈ v :: st, okV u := by sorry
set_option maxRecDepth 100000 in
theorem o1 {v : AV} {st : List AV} (h : ∀ u ∈ v :: st, okV u) : okV v := by sorry
set_option maxRecDepth 100000 in
theorem ot {v : AV} {st : List AV} (h : ∀ u ∈ v :: st, okV u) : ∀ u ∈ st, okV u := by sorry
def iAnd (x y : Int) : Int := (Int32.ofInt x &&& Int32.ofInt y).toInt
def iOr (x y : Int) : Int := (Int32.ofInt x ||| Int32.ofInt y).toInt
def iXor (x y : Int) : Int := (Int32.ofInt x ^^^ Int32.ofInt y).toInt
def iShl (x y : Int) : Int := (Int32.ofInt x <<< (Int32.ofInt y &&& 31)).toInt
def iShr (x y : Int) : Int := (Int32.ofInt x >>> (Int32.ofInt y &&& 31)).toInt
def iUshr (x y : Int) : Int := ((Int32.ofInt x).toUInt32 >>> ((Int32.ofInt y).toUInt32 &&& Int32.toUInt32 31)).toInt32.toInt
def lAnd (x y : Int) : Int := (Int64.ofInt x &&& Int64.ofInt y).toInt
def lOr (x y : Int) : Int := (Int64.ofInt x ||| Int64.ofInt y).toInt
def lXor (x y : Int) : Int := (Int64.ofInt x ^^^ Int64.ofInt y).toInt
def lShl (x y : Int) : Int := (Int64.ofInt x <<< ((Int32.ofInt y).toInt64 &&& 63)).toInt
def lShr (x y : Int) : Int := (Int64.ofInt x >>> ((Int32.ofInt y).toInt64 &&& 63)).toInt
def lUshr (x y : Int) : Int := ((Int64.ofInt x).toUInt64 >>> ((Int32.ofInt y).toInt64.toUInt64 &&& Int64.toUInt64 63)).toInt64.toInt
def i2B (x : Int) : Int := (Int32.ofInt x).toInt8.toInt32.toInt
def i2C (x : Int) : Int := ((Int32.ofInt x).toUInt32 % 65536).toInt32.toInt
def l2I (x : Int) : Int := (Int64.ofInt x).toInt32.toInt
def lCmp (x y : Int) : Int := if x < y then -1 else if x = y then 0 else 1
set_option maxRecDepth 100000 in
theorem i32r (x : Int32) : -2147483648 ≤ x.toInt ∧ x.toInt < 2147483648 := by sorry
set_option maxRecDepth 100000 in
theorem i64r (x : Int64) : -9223372036854775808 ≤ x.toInt ∧ x.toInt < 9223372036854775808 := by sorry
set_option maxRecDepth 100000 in
theorem c32 (w : WC) (x : Int32) : cv w (vi x.toInt) = .int x := by sorry
set_option maxRecDepth 100000 in
theorem c64 (w : WC) (x : Int64) : cv w (vl x.toInt) = .long x := by sorry
set_option maxRecDepth 100000 in
theorem cw32 (w : WC) (x : Int) : cv w (vi (w32 x)) = .int (Int32.ofInt x) := by sorry
set_option maxRecDepth 100000 in
theorem cw64 (w : WC) (x : Int) : cv w (vl (w64 x)) = .long (Int64.ofInt x) := by sorry
set_option maxRecDepth 100000 in
theorem i32lt {x y : Int} (hx : okV (vi x)) (hy : okV (vi y)) : Int32.ofInt x < Int32.ofInt y ↔ x < y := by sorry
set_option maxRecDepth 100000 in
theorem i32le {x y : Int} (hx : okV (vi x)) (hy : okV (vi y)) : Int32.ofInt x ≤ Int32.ofInt y ↔ x ≤ y := by sorry
set_option maxRecDepth 100000 in
theorem i32eq {x y : Int} (hx : okV (vi x)) (hy : okV (vi y)) : Int32.ofInt x = Int32.ofInt y ↔ x = y := by sorry
set_option maxRecDepth 100000 in
theorem i64lt {x y : Int} (hx : okV (vl x)) (hy : okV (vl y)) : Int64.ofInt x < Int64.ofInt y ↔ x < y := by sorry
set_option maxRecDepth 100000 in
theorem i64eq {x y : Int} (hx : okV (vl x)) (hy : okV (vl y)) : Int64.ofInt x = Int64.ofInt y ↔ x = y := by sorry
set_option maxRecDepth 100000 in
theorem ok0 : okV (vi 0) := by sorry
set_option maxRecDepth 100000 in
theorem i32div {x y : Int} (hx : okV (vi x)) (hy : okV (vi y)) : Int32.ofInt (w32 (x.tdiv y)) = Int32.ofInt x / Int32.ofInt y := by sorry
set_option maxRecDepth 100000 in
theorem i32rem {x y : Int} (hx : okV (vi x)) (hy : okV (vi y)) : Int32.ofInt (x.tmod y) = Int32.ofInt x - Int32.ofInt x / Int32.ofInt y * Int32.ofInt y := by sorry
set_option maxRecDepth 100000 in
theorem tmod_ok {x y : Int} (hx : okV (vi x)) (hy : okV (vi y)) : okV (vi (x.tmod y)) := by sorry
set_option maxRecDepth 100000 in
theorem lCmp_ok (x y : Int) : okV (vi (lCmp x y)) := by sorry
set_option maxRecDepth 100000 in
theorem lCmp_eq {w : WC} {x y : Int} (hx : okV (vl x)) (hy : okV (vl y)) : cv w (vi (lCmp x y)) = .int (lg_cmp (Int64.ofInt x) (Int64.ofInt y)) := by sorry
section R1
variable {C : MC} {Z : ZZ} {pc : Nat} {L : List (Nat × AV)} {st : List AV} {h : Hp} {kc ks : Nat}
set_option maxRecDepth 100000 in
theorem AW.go1 {pc' : Nat} {st' : List AV} (k : AW C Z pc' L st' h kc ks) (ok : (∀ v ∈ st, okV v) → ∀ v ∈ st', okV v)
    (step : ∀ (p : Program) (e : Env) (R : Room) (s : State) (m : MethodId) (args : Array Value) (below : List Frame) (meth : Method) (c : Code) (H : Heap) (locs : List Loc) (cells slots : Nat) (ls : Array Slot) (Q : State → Prop), p.tables.exec = Jvm.exec → c.code = C.2.2.2.1 → lv_has ls C.2.2.2.2.1 (cL C.1 L) → (∀ v ∈ st, okV v) → s.vm.findClass C.2.2.1 = some m.cls → (∀ w ∈ lw_all, w.before args s = true) →
      W p C.1.1 e R s m args below meth c H locs cells slots Q (F0 m pc' ls (st'.map (cv C.1))) → W p C.1.1 e R s m args below meth c H locs cells slots Q (F0 m pc ls (st.map (cv C.1)))) : AW C Z pc L st h kc ks := by sorry
set_option maxRecDepth 100000 in
theorem a_iconst {n : Int} (hd : decode C.2.2.2.1 pc = .ok (.iconst n, 1)) (hn : okV (vi n)) (k : AW C Z (pc + 1) L (vi n :: st) h kc ks) : AW C Z pc L st h kc ks := by sorry
set_option maxRecDepth 100000 in
theorem a_bipush {n : Int} (hd : decode C.2.2.2.1 pc = .ok (.bipush n, 2)) (hn : (Int8.ofInt n).toInt32 = Int32.ofInt n) (ho : okV (vi n)) (k : AW C Z (pc + 2) L (vi n :: st) h kc ks) : AW C Z pc L st h kc ks := by sorry
set_option maxRecDepth 100000 in
theorem a_sipush {n : Int} (hd : decode C.2.2.2.1 pc = .ok (.sipush n, 3)) (hn : (Int16.ofInt n).toInt32 = Int32.ofInt n) (ho : okV (vi n)) (k : AW C Z (pc + 3) L (vi n :: st) h kc ks) : AW C Z pc L st h kc ks := by sorry
set_option maxRecDepth 100000 in
theorem a_iadd {x y : Int} (hd : decode C.2.2.2.1 pc = .ok (.iadd, 1)) (k : AW C Z (pc + 1) L (vi (w32 (x + y)) :: st) h kc ks) : AW C Z pc L (vi y :: vi x :: st) h kc ks := by sorry
set_option maxRecDepth 100000 in
theorem a_isub {x y : Int} (hd : decode C.2.2.2.1 pc = .ok (.isub, 1)) (k : AW C Z (pc + 1) L (vi (w32 (x - y)) :: st) h kc ks) : AW C Z pc L (vi y :: vi x :: st) h kc ks := by sorry
set_option maxRecDepth 100000 in
theorem a_imul {x y : Int} (hd : decode C.2.2.2.1 pc = .ok (.imul, 1)) (k : AW C Z (pc + 1) L (vi (w32 (x * y)) :: st) h kc ks) : AW C Z pc L (vi y :: vi x :: st) h kc ks := by sorry
set_option maxRecDepth 100000 in
theorem a_ladd {x y : Int} (hd : decode C.2.2.2.1 pc = .ok (.ladd, 1)) (k : AW C Z (pc + 1) L (vl (w64 (x + y)) :: st) h kc ks) : AW C Z pc L (vl y :: vl x :: st) h kc ks := by sorry
set_option maxRecDepth 100000 in
theorem a_lsub {x y : Int} (hd : decode C.2.2.2.1 pc = .ok (.lsub, 1)) (k : AW C Z (pc + 1) L (vl (w64 (x - y)) :: st) h kc ks) : AW C Z pc L (vl y :: vl x :: st) h kc ks := by sorry
set_option maxRecDepth 100000 in
theorem a_lmul {x y : Int} (hd : decode C.2.2.2.1 pc = .ok (.lmul, 1)) (k : AW C Z (pc + 1) L (vl (w64 (x * y)) :: st) h kc ks) : AW C Z pc L (vl y :: vl x :: st) h kc ks := by sorry
set_option maxRecDepth 100000 in
theorem a_ineg {x : Int} (hd : decode C.2.2.2.1 pc = .ok (.ineg, 1)) (k : AW C Z (pc + 1) L (vi (w32 (-x)) :: st) h kc ks) : AW C Z pc L (vi x :: st) h kc ks := by sorry
set_option maxRecDepth 100000 in
theorem a_iand {x y : Int} (hd : decode C.2.2.2.1 pc = .ok (.iand, 1)) (k : AW C Z (pc + 1) L (vi (iAnd x y) :: st) h kc ks) : AW C Z pc L (vi y :: vi x :: st) h kc ks := by sorry
set_option maxRecDepth 100000 in
theorem a_ior {x y : Int} (hd : decode C.2.2.2.1 pc = .ok (.ior, 1)) (k : AW C Z (pc + 1) L (vi (iOr x y) :: st) h kc ks) : AW C Z pc L (vi y :: vi x :: st) h kc ks := by sorry
set_option maxRecDepth 100000 in
theorem a_ixor {x y : Int} (hd : decode C.2.2.2.1 pc = .ok (.ixor, 1)) (k : AW C Z (pc + 1) L (vi (iXor x y) :: st) h kc ks) : AW C Z pc L (vi y :: vi x :: st) h kc ks := by sorry
set_option maxRecDepth 100000 in
theorem a_ishl {x y : Int} (hd : decode C.2.2.2.1 pc = .ok (.ishl, 1)) (k : AW C Z (pc + 1) L (vi (iShl x y) :: st) h kc ks) : AW C Z pc L (vi y :: vi x :: st) h kc ks := by sorry
set_option maxRecDepth 100000 in
theorem a_ishr {x y : Int} (hd : decode C.2.2.2.1 pc = .ok (.ishr, 1)) (k : AW C Z (pc + 1) L (vi (iShr x y) :: st) h kc ks) : AW C Z pc L (vi y :: vi x :: st) h kc ks := by sorry
set_option maxRecDepth 100000 in
theorem a_iushr {x y : Int} (hd : decode C.2.2.2.1 pc = .ok (.iushr, 1)) (k : AW C Z (pc + 1) L (vi (iUshr x y) :: st) h kc ks) : AW C Z pc L (vi y :: vi x :: st) h kc ks := by sorry
set_option maxRecDepth 100000 in
theorem a_land {x y : Int} (hd : decode C.2.2.2.1 pc = .ok (.land, 1)) (k : AW C Z (pc + 1) L (vl (lAnd x y) :: st) h kc ks) : AW C Z pc L (vl y :: vl x :: st) h kc ks := by sorry
set_option maxRecDepth 100000 in
theorem a_lor {x y : Int} (hd : decode C.2.2.2.1 pc = .ok (.lor, 1)) (k : AW C Z (pc + 1) L (vl (lOr x y) :: st) h kc ks) : AW C Z pc L (vl y :: vl x :: st) h kc ks := by sorry
set_option maxRecDepth 100000 in
theorem a_lxor {x y : Int} (hd : decode C.2.2.2.1 pc = .ok (.lxor, 1)) (k : AW C Z (pc + 1) L (vl (lXor x y) :: st) h kc ks) : AW C Z pc L (vl y :: vl x :: st) h kc ks := by sorry
set_option maxRecDepth 100000 in
theorem a_lshl {x y : Int} (hd : decode C.2.2.2.1 pc = .ok (.lshl, 1)) (k : AW C Z (pc + 1) L (vl (lShl x y) :: st) h kc ks) : AW C Z pc L (vi y :: vl x :: st) h kc ks := by sorry
set_option maxRecDepth 100000 in
theorem a_lshr {x y : Int} (hd : decode C.2.2.2.1 pc = .ok (.lshr, 1)) (k : AW C Z (pc + 1) L (vl (lShr x y) :: st) h kc ks) : AW C Z pc L (vi y :: vl x :: st) h kc ks := by sorry
set_option maxRecDepth 100000 in
theorem a_lushr {x y : Int} (hd : decode C.2.2.2.1 pc = .ok (.lushr, 1)) (k : AW C Z (pc + 1) L (vl (lUshr x y) :: st) h kc ks) : AW C Z pc L (vi y :: vl x :: st) h kc ks := by sorry
set_option maxRecDepth 100000 in
theorem a_i2b {x : Int} (hd : decode C.2.2.2.1 pc = .ok (.i2b, 1)) (k : AW C Z (pc + 1) L (vi (i2B x) :: st) h kc ks) : AW C Z pc L (vi x :: st) h kc ks := by sorry
set_option maxRecDepth 100000 in
theorem a_i2c {x : Int} (hd : decode C.2.2.2.1 pc = .ok (.i2c, 1)) (k : AW C Z (pc + 1) L (vi (i2C x) :: st) h kc ks) : AW C Z pc L (vi x :: st) h kc ks := by sorry
set_option maxRecDepth 100000 in
theorem a_l2i {x : Int} (hd : decode C.2.2.2.1 pc = .ok (.l2i, 1)) (k : AW C Z (pc + 1) L (vi (l2I x) :: st) h kc ks) : AW C Z pc L (vl x :: st) h kc ks := by sorry
set_option maxRecDepth 100000 in
theorem a_i2l {x : Int} (hd : decode C.2.2.2.1 pc = .ok (.i2l, 1)) (k : AW C Z (pc + 1) L (vl x :: st) h kc ks) : AW C Z pc L (vi x :: st) h kc ks := by sorry
set_option maxRecDepth 100000 in
theorem a_idiv {x y : Int} (hd : decode C.2.2.2.1 pc = .ok (.idiv, 1)) (hy : y ≠ 0) (k : AW C Z (pc + 1) L (vi (w32 (x.tdiv y)) :: st) h kc ks) : AW C Z pc L (vi y :: vi x :: st) h kc ks := by sorry
set_option maxRecDepth 100000 in
theorem a_irem {x y : Int} (hd : decode C.2.2.2.1 pc = .ok (.irem, 1)) (hy : y ≠ 0) (k : AW C Z (pc + 1) L (vi (x.tmod y) :: st) h kc ks) : AW C Z pc L (vi y :: vi x :: st) h kc ks := by sorry
set_option maxRecDepth 100000 in
theorem a_lcmp {x y : Int} (hd : decode C.2.2.2.1 pc = .ok (.lcmp, 1)) (k : AW C Z (pc + 1) L (vi (lCmp x y) :: st) h kc ks) : AW C Z pc L (vl y :: vl x :: st) h kc ks := by sorry
set_option maxRecDepth 100000 in
theorem a_iload_n {i : Fin 4} {x : Int} (hd : decode C.2.2.2.1 pc = .ok (.iload_n i, 1)) (hg : lG L i = some (vi x)) (k : AW C Z (pc + 1) L (vi x :: st) h kc ks) : AW C Z pc L st h kc ks := by sorry
set_option maxRecDepth 100000 in
theorem a_iload {i : Nat} {x : Int} (hd : decode C.2.2.2.1 pc = .ok (.iload i, 2)) (hg : lG L i = some (vi x)) (k : AW C Z (pc + 2) L (vi x :: st) h kc ks) : AW C Z pc L st h kc ks := by sorry
set_option maxRecDepth 100000 in
theorem a_lload_n {i : Fin 4} {x : Int} (hd : decode C.2.2.2.1 pc = .ok (.lload_n i, 1)) (hg : lG L i = some (vl x)) (k : AW C Z (pc + 1) L (vl x :: st) h kc ks) : AW C Z pc L st h kc ks := by sorry
set_option maxRecDepth 100000 in
theorem a_lload {i : Nat} {x : Int} (hd : decode C.2.2.2.1 pc = .ok (.lload i, 2)) (hg : lG L i = some (vl x)) (k : AW C Z (pc + 2) L (vl x :: st) h kc ks) : AW C Z pc L st h kc ks := by sorry
set_option maxRecDepth 100000 in
theorem a_aload_n {i : Fin 4} {x : Option Nat} (hd : decode C.2.2.2.1 pc = .ok (.aload_n i, 1)) (hg : lG L i = some (vr x)) (k : AW C Z (pc + 1) L (vr x :: st) h kc ks) : AW C Z pc L st h kc ks := by sorry
set_option maxRecDepth 100000 in
theorem a_aload {i : Nat} {x : Option Nat} (hd : decode C.2.2.2.1 pc = .ok (.aload i, 2)) (hg : lG L i = some (vr x)) (k : AW C Z (pc + 2) L (vr x :: st) h kc ks) : AW C Z pc L st h kc ks := by sorry
set_option maxRecDepth 100000 in
theorem a_istore_n {i : Fin 4} {x : Int} (hd : decode C.2.2.2.1 pc = .ok (.istore_n i, 1)) (hn : (i : Nat) < C.2.2.2.2.1) (k : AW C Z (pc + 1) (lS L i (vi x)) st h kc ks) : AW C Z pc L (vi x :: st) h kc ks := by sorry
set_option maxRecDepth 100000 in
theorem a_istore {i : Nat} {x : Int} (hd : decode C.2.2.2.1 pc = .ok (.istore i, 2)) (hn : (i : Nat) < C.2.2.2.2.1) (k : AW C Z (pc + 2) (lS L i (vi x)) st h kc ks) : AW C Z pc L (vi x :: st) h kc ks := by sorry
set_option maxRecDepth 100000 in
theorem a_lstore_n {i : Fin 4} {x : Int} (hd : decode C.2.2.2.1 pc = .ok (.lstore_n i, 1)) (hn : (i : Nat) + 1 < C.2.2.2.2.1) (k : AW C Z (pc + 1) (lS L i (vl x)) st h kc ks) : AW C Z pc L (vl x :: st) h kc ks := by sorry
set_option maxRecDepth 100000 in
theorem a_lstore {i : Nat} {x : Int} (hd : decode C.2.2.2.1 pc = .ok (.lstore i, 2)) (hn : (i : Nat) + 1 < C.2.2.2.2.1) (k : AW C Z (pc + 2) (lS L i (vl x)) st h kc ks) : AW C Z pc L (vl x :: st) h kc ks := by sorry
set_option maxRecDepth 100000 in
theorem a_astore_n {i : Fin 4} {x : Option Nat} (hd : decode C.2.2.2.1 pc = .ok (.astore_n i, 1)) (hn : (i : Nat) < C.2.2.2.2.1) (k : AW C Z (pc + 1) (lS L i (vr x)) st h kc ks) : AW C Z pc L (vr x :: st) h kc ks := by sorry
set_option maxRecDepth 100000 in
theorem a_astore {i : Nat} {x : Option Nat} (hd : decode C.2.2.2.1 pc = .ok (.astore i, 2)) (hn : (i : Nat) < C.2.2.2.2.1) (k : AW C Z (pc + 2) (lS L i (vr x)) st h kc ks) : AW C Z pc L (vr x :: st) h kc ks := by sorry
set_option maxRecDepth 100000 in
theorem a_iinc {i : Nat} {n x : Int} (hd : decode C.2.2.2.1 pc = .ok (.iinc i n, 3)) (hg : lG L i = some (vi x)) (hn : i < C.2.2.2.2.1) (k : AW C Z (pc + 3) (lS L i (vi (w32 (x + n)))) st h kc ks) : AW C Z pc L st h kc ks := by sorry
set_option maxRecDepth 100000 in
theorem a_if_eq {x off : Int} (tgt : Nat) (hd : decode C.2.2.2.1 pc = .ok (.ifCond .eq off, 3)) (ht : (pc : Int) + off = (tgt : Int)) (kt : x = 0 → AW C Z tgt L st h kc ks) (kf : ¬ (x = 0) → AW C Z (pc + 3) L st h kc ks) : AW C Z pc L (vi x :: st) h kc ks := by sorry
set_option maxRecDepth 100000 in
theorem a_if_ne {x off : Int} (tgt : Nat) (hd : decode C.2.2.2.1 pc = .ok (.ifCond .ne off, 3)) (ht : (pc : Int) + off = (tgt : Int)) (kt : x ≠ 0 → AW C Z tgt L st h kc ks) (kf : x = 0 → AW C Z (pc + 3) L st h kc ks) : AW C Z pc L (vi x :: st) h kc ks := by sorry
set_option maxRecDepth 100000 in
theorem a_if_lt {x off : Int} (tgt : Nat) (hd : decode C.2.2.2.1 pc = .ok (.ifCond .lt off, 3)) (ht : (pc : Int) + off = (tgt : Int)) (kt : x < 0 → AW C Z tgt L st h kc ks) (kf : ¬ (x < 0) → AW C Z (pc + 3) L st h kc ks) : AW C Z pc L (vi x :: st) h kc ks := by sorry
set_option maxRecDepth 100000 in
theorem a_if_ge {x off : Int} (tgt : Nat) (hd : decode C.2.2.2.1 pc = .ok (.ifCond .ge off, 3)) (ht : (pc : Int) + off = (tgt : Int)) (kt : 0 ≤ x → AW C Z tgt L st h kc ks) (kf : ¬ (0 ≤ x) → AW C Z (pc + 3) L st h kc ks) : AW C Z pc L (vi x :: st) h kc ks := by sorry
set_option maxRecDepth 100000 in
theorem a_if_gt {x off : Int} (tgt : Nat) (hd : decode C.2.2.2.1 pc = .ok (.ifCond .gt off, 3)) (ht : (pc : Int) + off = (tgt : Int)) (kt : 0 < x → AW C Z tgt L st h kc ks) (kf : ¬ (0 < x) → AW C Z (pc + 3) L st h kc ks) : AW C Z pc L (vi x :: st) h kc ks := by sorry
set_option maxRecDepth 100000 in
theorem a_if_le {x off : Int} (tgt : Nat) (hd : decode C.2.2.2.1 pc = .ok (.ifCond .le off, 3)) (ht : (pc : Int) + off = (tgt : Int)) (kt : x ≤ 0 → AW C Z tgt L st h kc ks) (kf : ¬ (x ≤ 0) → AW C Z (pc + 3) L st h kc ks) : AW C Z pc L (vi x :: st) h kc ks := by sorry
set_option maxRecDepth 100000 in
theorem a_icmp_eq {x y off : Int} (tgt : Nat) (hd : decode C.2.2.2.1 pc = .ok (.if_icmp .eq off, 3)) (ht : (pc : Int) + off = (tgt : Int)) (kt : x = y → AW C Z tgt L st h kc ks) (kf : ¬ (x = y) → AW C Z (pc + 3) L st h kc ks) : AW C Z pc L (vi y :: vi x :: st) h kc ks := by sorry
set_option maxRecDepth 100000 in
theorem a_icmp_ne {x y off : Int} (tgt : Nat) (hd : decode C.2.2.2.1 pc = .ok (.if_icmp .ne off, 3)) (ht : (pc : Int) + off = (tgt : Int)) (kt : x ≠ y → AW C Z tgt L st h kc ks) (kf : x = y → AW C Z (pc + 3) L st h kc ks) : AW C Z pc L (vi y :: vi x :: st) h kc ks := by sorry
set_option maxRecDepth 100000 in
theorem a_icmp_lt {x y off : Int} (tgt : Nat) (hd : decode C.2.2.2.1 pc = .ok (.if_icmp .lt off, 3)) (ht : (pc : Int) + off = (tgt : Int)) (kt : x < y → AW C Z tgt L st h kc ks) (kf : ¬ (x < y) → AW C Z (pc + 3) L st h kc ks) : AW C Z pc L (vi y :: vi x :: st) h kc ks := by sorry
set_option maxRecDepth 100000 in
theorem a_icmp_ge {x y off : Int} (tgt : Nat) (hd : decode C.2.2.2.1 pc = .ok (.if_icmp .ge off, 3)) (ht : (pc : Int) + off = (tgt : Int)) (kt : y ≤ x → AW C Z tgt L st h kc ks) (kf : ¬ (y ≤ x) → AW C Z (pc + 3) L st h kc ks) : AW C Z pc L (vi y :: vi x :: st) h kc ks := by sorry
set_option maxRecDepth 100000 in
theorem a_icmp_gt {x y off : Int} (tgt : Nat) (hd : decode C.2.2.2.1 pc = .ok (.if_icmp .gt off, 3)) (ht : (pc : Int) + off = (tgt : Int)) (kt : y < x → AW C Z tgt L st h kc ks) (kf : ¬ (y < x) → AW C Z (pc + 3) L st h kc ks) : AW C Z pc L (vi y :: vi x :: st) h kc ks := by sorry
set_option maxRecDepth 100000 in
theorem a_icmp_le {x y off : Int} (tgt : Nat) (hd : decode C.2.2.2.1 pc = .ok (.if_icmp .le off, 3)) (ht : (pc : Int) + off = (tgt : Int)) (kt : x ≤ y → AW C Z tgt L st h kc ks) (kf : ¬ (x ≤ y) → AW C Z (pc + 3) L st h kc ks) : AW C Z pc L (vi y :: vi x :: st) h kc ks := by sorry
set_option maxRecDepth 100000 in
theorem a_goto {off : Int} (tgt : Nat) (hd : decode C.2.2.2.1 pc = .ok (.goto off, 3)) (ht : (pc : Int) + off = (tgt : Int)) (k : AW C Z tgt L st h kc ks) : AW C Z pc L st h kc ks := by sorry
set_option maxRecDepth 100000 in
theorem a_dup {v : AV} (hd : decode C.2.2.2.1 pc = .ok (.dup, 1)) (hv : ct v = 1) (k : AW C Z (pc + 1) L (v :: v :: st) h kc ks) : AW C Z pc L (v :: st) h kc ks := by sorry
set_option maxRecDepth 100000 in
theorem a_dup2 {v u : AV} (hd : decode C.2.2.2.1 pc = .ok (.dup2, 1)) (hv : ct v = 1) (hu : ct u = 1) (k : AW C Z (pc + 1) L (v :: u :: v :: u :: st) h kc ks) : AW C Z pc L (v :: u :: st) h kc ks := by sorry
set_option maxRecDepth 100000 in
theorem a_dup_x1 {v u : AV} (hd : decode C.2.2.2.1 pc = .ok (.dup_x1, 1)) (hv : ct v = 1) (hu : ct u = 1) (k : AW C Z (pc + 1) L (v :: u :: v :: st) h kc ks) : AW C Z pc L (v :: u :: st) h kc ks := by sorry
set_option maxRecDepth 100000 in
theorem a_dup_x2 {v u t : AV} (hd : decode C.2.2.2.1 pc = .ok (.dup_x2, 1)) (hv : ct v = 1) (hu : ct u = 1) (ht : ct t = 1) (k : AW C Z (pc + 1) L (v :: u :: t :: v :: st) h kc ks) : AW C Z pc L (v :: u :: t :: st) h kc ks := by sorry
set_option maxRecDepth 100000 in
theorem a_pop {v : AV} (hd : decode C.2.2.2.1 pc = .ok (.pop, 1)) (hv : ct v = 1) (k : AW C Z (pc + 1) L st h kc ks) : AW C Z pc L (v :: st) h kc ks := by sorry
set_option maxRecDepth 100000 in
theorem a_lconst {n : Fin 2} {x : Int} (hd : decode C.2.2.2.1 pc = .ok (.lconst n, 1)) (hn : ((n : Nat) : Int) = x) (k : AW C Z (pc + 1) L (vl x :: st) h kc ks) : AW C Z pc L st h kc ks := by sorry
set_option maxRecDepth 100000 in
theorem a_null (hd : decode C.2.2.2.1 pc = .ok (.aconst_null, 1)) (k : AW C Z (pc + 1) L (vr none :: st) h kc ks) : AW C Z pc L st h kc ks := by sorry
set_option maxRecDepth 100000 in
theorem a_ldc {i : Nat} {x : Int} {v : Int32} (hd : decode C.2.2.2.1 pc = .ok (.ldc i, 2)) (hq : Cond.constant C.2.2.1 i v ∈ lw_all) (hv : v.toInt = x) (k : AW C Z (pc + 2) L (vi x :: st) h kc ks) : AW C Z pc L st h kc ks := by sorry
set_option maxRecDepth 100000 in
theorem a_ldc_w {i : Nat} {x : Int} {v : Int32} (hd : decode C.2.2.2.1 pc = .ok (.ldc_w i, 3)) (hq : Cond.constant C.2.2.1 i v ∈ lw_all) (hv : v.toInt = x) (k : AW C Z (pc + 3) L (vi x :: st) h kc ks) : AW C Z pc L st h kc ks := by sorry
set_option maxRecDepth 100000 in
theorem a_ldc2 {i : Nat} {x : Int} {v : Int64} (hd : decode C.2.2.2.1 pc = .ok (.ldc2_w i, 3)) (hq : Cond.constantLong C.2.2.1 i v ∈ lw_all) (hv : v.toInt = x) (k : AW C Z (pc + 3) L (vl x :: st) h kc ks) : AW C Z pc L st h kc ks := by sorry
set_option maxRecDepth 100000 in
theorem a_tableIn {dflt lo hi off : Int} {offs : Array Int} {len : Nat} {x : Int} (tgt : Nat) (hd : decode C.2.2.2.1 pc = .ok (.tableswitch dflt lo hi offs, len)) (h1 : lo ≤ x) (h2 : x ≤ hi) (ho : offs[(x - lo).toNat]? = some off) (ht : (pc : Int) + off = (tgt : Int)) (k : AW C Z tgt L st h kc ks) : AW C Z pc L (vi x :: st) h kc ks := by sorry
set_option maxRecDepth 100000 in
theorem a_tableOut {dflt lo hi : Int} {offs : Array Int} {len : Nat} {x : Int} (tgt : Nat) (hd : decode C.2.2.2.1 pc = .ok (.tableswitch dflt lo hi offs, len)) (h1 : x < lo ∨ hi < x) (ht : (pc : Int) + dflt = (tgt : Int)) (k : AW C Z tgt L st h kc ks) : AW C Z pc L (vi x :: st) h kc ks := by sorry
end R1
end

section
set_option maxRecDepth 100000 in
theorem wO_at {w : WC} {h : Hp} {k : Nat} (h1 : xK ≤ k) (h2 : k < hZ h) : (wO w h)[k - xK]? = some (ph w k, cE w h k) := by sorry
set_option maxRecDepth 100000 in
theorem cE_other {w : WC} {h h' : Hp} {k : Nat} (h1 : hS h' = hS h) (h2 : ∀ j, hN h' k j = hN h k j) (h3 : ∀ j, hA h' k j = hA h k j) : cE w h' k = cE w h k := by sorry
set_option maxRecDepth 100000 in
theorem wO_set {w : WC} {h h' : Hp} {k : Nat} (h1 : xK ≤ k) (h2 : k < hZ h) (hz : hZ h' = hZ h) (hs : hS h' = hS h) (hn : ∀ b, b ≠ k → ∀ j, hN h' b j = hN h b j) (ha : ∀ b, b ≠ k → ∀ j, hA h' b j = hA h b j) :
    wO w h' = (wO w h).set (k - xK) (ph w k, cE w h' k) := by sorry
set_option maxRecDepth 100000 in
theorem Rp.lt {w : WC} {h : Hp} {H : Heap} (hR : Rp w h H) {a : Nat} (hs : (hS h a).1 ≠ 7) : a < hZ h := by sorry
set_option maxRecDepth 100000 in
theorem Rp.one {w : WC} {h : Hp} {H : Heap} (hR : Rp w h H) {a : Nat} (hs : (hS h a).1 ≠ 7) : va_P w.2.1 Kl [(ph w a, cE w h a)] H := by sorry
set_option maxRecDepth 100000 in
theorem cE_i {w : WC} {h : Hp} {a n : Nat} (hs : hS h a = (0, n)) : cE w h a = .inl (w.2.2.1 0, n, .inl fun j => Int32.ofInt (hN h a j)) := by sorry
set_option maxRecDepth 100000 in
theorem cE_b {w : WC} {h : Hp} {a n : Nat} (hs : hS h a = (1, n)) : cE w h a = .inl (w.2.2.1 1, n, .inl fun j => Int32.ofInt (hN h a j)) := by sorry
set_option maxRecDepth 100000 in
theorem cE_l {w : WC} {h : Hp} {a n : Nat} (hs : hS h a = (2, n)) : cE w h a = .inl (w.2.2.1 2, n, .inr (.inl fun j => Int64.ofInt (hN h a j))) := by sorry
set_option maxRecDepth 100000 in
theorem cE_z {w : WC} {h : Hp} {a n : Nat} (hs : hS h a = (3, n)) : cE w h a = .inl (w.2.2.1 3, n, .inl fun j => Int32.ofInt (hN h a j)) := by sorry
set_option maxRecDepth 100000 in
theorem cE_o {w : WC} {h : Hp} {a n : Nat} (hs : hS h a = (4, n)) : cE w h a = .inl (w.2.2.1 4, n, .inr (.inr (.inr (.inr fun j => (hA h a j).map (ph w))))) := by sorry
set_option maxRecDepth 100000 in
theorem cE_n {w : WC} {h : Hp} {a n : Nat} (hs : hS h a = (5, n)) : cE w h a = .inl (w.2.2.1 5, n, .inr (.inr (.inr (.inr fun j => (hA h a j).map (ph w))))) := by sorry
set_option maxRecDepth 100000 in
theorem cE_f {w : WC} {h : Hp} {a n c : Nat} (hs : hS h a = (c + 8, n)) : cE w h a = .inr (c, (List.range n).map fun (j : Nat) => cv w (fv (Kty c j) (hN h a j) (hA h a j))) := by sorry
set_option maxRecDepth 100000 in
theorem clampI {i : Int} (h0 : 0 ≤ i) (h1 : okV (vi i)) : (Int32.ofInt i).toNatClampNeg = i.toNat := by sorry
set_option maxRecDepth 100000 in
theorem inI {i : Int} {n : Nat} (h0 : 0 ≤ i) (hn : i < n) (h1 : okV (vi i)) : vp_in (Int32.ofInt i) n := by sorry
set_option maxRecDepth 100000 in
theorem natI {i : Int} (h0 : 0 ≤ i) : ((i.toNat : Nat) : Int) = i := by sorry
set_option maxRecDepth 100000 in
theorem Rp.put {w : WC} {h h' : Hp} {H H' : Heap} {a : Nat} (hR : Rp w h H) (h1 : xK ≤ a) (hs7 : (hS h a).1 ≠ 7) (hz : hZ h' = hZ h) (hs : hS h' = hS h) (hn : ∀ b, b ≠ a → ∀ j, hN h' b j = hN h b j) (ha : ∀ b, b ≠ a → ∀ j, hA h' b j = hA h b j)
    (he : va_at w.2.1 Kl (ph w a, cE w h' a) H') (hsz : H'.size = H.size) (oq : ∀ q, q ≠ ph w a → H'[q]? = H[q]?) (hok : ∀ j : Nat, j < (hS h a).2 → okN (sTy (hS h a).1 j) (hN h' a j)) : Rp w h' H' := by sorry
set_option maxRecDepth 100000 in
theorem up2_s {α : Type} (f : Nat → Int → α) (a : Nat) (i : Int) (v : α) : up2 f a i v a i = v := by sorry
set_option maxRecDepth 100000 in
theorem up2_n {α : Type} (f : Nat → Int → α) (a b : Nat) (i j : Int) (v : α) (h : ¬ (b = a ∧ j = i)) : up2 f a i v b j = f b j := by sorry
set_option maxRecDepth 100000 in
theorem n7 {c n : Nat} (h : c ≠ 7) : ((c, n) : Nat × Nat).1 ≠ 7 := by sorry
set_option maxRecDepth 100000 in
theorem arr_put {cA : ClassId} {n : Nat} {f f' : Nat → Value} {i : Nat} {v : Value} (h1 : f' i = v) (h2 : ∀ j, j ≠ i → f' j = f j) : (arrV cA n f).setSlot i v = arrV cA n f' := by sorry
set_option maxRecDepth 100000 in
theorem nar_z {x : Int} (hx : 0 ≤ x ∧ x < 2) : narrow .boolean (.int (Int32.ofInt x)) = .int (Int32.ofInt x) := by sorry
set_option maxRecDepth 100000 in
theorem nar_b {x : Int} (hx : -128 ≤ x ∧ x < 128) : narrow .byte (.int (Int32.ofInt x)) = .int (Int32.ofInt x) := by sorry
section R2
variable {C : MC} {Z : ZZ} {pc : Nat} {L : List (Nat × AV)} {st : List AV} {h : Hp} {kc ks : Nat}
set_option maxRecDepth 100000 in
theorem a_iald {a n : Nat} {i : Int} (hd : decode C.2.2.2.1 pc = .ok (.iaload, 1)) (hs : hS h a = (0, n)) (h0 : 0 ≤ i) (hn : i < n) (k : AW C Z (pc + 1) L (vi (hN h a i) :: st) h kc ks) : AW C Z pc L (vi i :: vr (some a) :: st) h kc ks := by sorry
set_option maxRecDepth 100000 in
theorem a_bald {a n : Nat} {i : Int} (hd : decode C.2.2.2.1 pc = .ok (.baload, 1)) (hs : hS h a = (1, n)) (h0 : 0 ≤ i) (hn : i < n) (k : AW C Z (pc + 1) L (vi (hN h a i) :: st) h kc ks) : AW C Z pc L (vi i :: vr (some a) :: st) h kc ks := by sorry
set_option maxRecDepth 100000 in
theorem a_zald {a n : Nat} {i : Int} (hd : decode C.2.2.2.1 pc = .ok (.baload, 1)) (hs : hS h a = (3, n)) (h0 : 0 ≤ i) (hn : i < n) (k : AW C Z (pc + 1) L (vi (hN h a i) :: st) h kc ks) : AW C Z pc L (vi i :: vr (some a) :: st) h kc ks := by sorry
set_option maxRecDepth 100000 in
theorem a_lald {a n : Nat} {i : Int} (hd : decode C.2.2.2.1 pc = .ok (.laload, 1)) (hs : hS h a = (2, n)) (h0 : 0 ≤ i) (hn : i < n) (k : AW C Z (pc + 1) L (vl (hN h a i) :: st) h kc ks) : AW C Z pc L (vi i :: vr (some a) :: st) h kc ks := by sorry
set_option maxRecDepth 100000 in
theorem a_oald {a n : Nat} {i : Int} (hd : decode C.2.2.2.1 pc = .ok (.aaload, 1)) (hs : hS h a = (4, n)) (h0 : 0 ≤ i) (hn : i < n) (k : AW C Z (pc + 1) L (vr (hA h a i) :: st) h kc ks) : AW C Z pc L (vi i :: vr (some a) :: st) h kc ks := by sorry
set_option maxRecDepth 100000 in
theorem a_nald {a n : Nat} {i : Int} (hd : decode C.2.2.2.1 pc = .ok (.aaload, 1)) (hs : hS h a = (5, n)) (h0 : 0 ≤ i) (hn : i < n) (k : AW C Z (pc + 1) L (vr (hA h a i) :: st) h kc ks) : AW C Z pc L (vi i :: vr (some a) :: st) h kc ks := by sorry
set_option maxRecDepth 100000 in
theorem a_iast {a n : Nat} {i x : Int} (hd : decode C.2.2.2.1 pc = .ok (.iastore, 1)) (ha : xK ≤ a) (hs : hS h a = (0, n)) (h0 : 0 ≤ i) (hn : i < n)  (k : AW C Z (pc + 1) L st (sN h a i x) kc ks) : AW C Z pc L (vi x :: vi i :: vr (some a) :: st) h kc ks := by sorry
set_option maxRecDepth 100000 in
theorem a_last {a n : Nat} {i x : Int} (hd : decode C.2.2.2.1 pc = .ok (.lastore, 1)) (ha : xK ≤ a) (hs : hS h a = (2, n)) (h0 : 0 ≤ i) (hn : i < n)  (k : AW C Z (pc + 1) L st (sN h a i x) kc ks) : AW C Z pc L (vl x :: vi i :: vr (some a) :: st) h kc ks := by sorry
set_option maxRecDepth 100000 in
theorem a_bast {a n : Nat} {i x : Int} (hd : decode C.2.2.2.1 pc = .ok (.bastore, 1)) (ha : xK ≤ a) (hs : hS h a = (1, n)) (h0 : 0 ≤ i) (hn : i < n) (hx : -128 ≤ x ∧ x < 128) (k : AW C Z (pc + 1) L st (sN h a i x) kc ks) : AW C Z pc L (vi x :: vi i :: vr (some a) :: st) h kc ks := by sorry
set_option maxRecDepth 100000 in
theorem a_zast {a n : Nat} {i x : Int} (hd : decode C.2.2.2.1 pc = .ok (.bastore, 1)) (ha : xK ≤ a) (hs : hS h a = (3, n)) (h0 : 0 ≤ i) (hn : i < n) (hx : 0 ≤ x ∧ x < 2) (k : AW C Z (pc + 1) L st (sN h a i x) kc ks) : AW C Z pc L (vi x :: vi i :: vr (some a) :: st) h kc ks := by sorry
end R2
end

section
def FL (own : String) (idx ci N k : Nat) (ty : FieldType) : Prop := ∃ (Cn : String) (T : u_T), KC ci Cn T N ∧ k < N ∧ Cond.fieldLink own idx (T k).1 (T k).2.1 (T k).2.2.1 ∈ lw_all ∧ Kty ci k = ty
def FM (own : String) (idx ci N k : Nat) (ty : FieldType) : Prop := ∃ (Cn : String) (T : u_T), KC ci Cn T N ∧ k < N ∧ Cond.fieldLink own idx (T k).1 (T k).2.1 (T k).2.2.1 ∈ lw_all ∧ Kty ci k = ty ∧ (T k).2.2.2 = false
def FF (own : String) (idx ci N k : Nat) (ty : FieldType) : Prop := ∃ (Cn : String) (T : u_T), KC ci Cn T N ∧ k < N ∧ Cond.fieldLink own idx (T k).1 (T k).2.1 (T k).2.2.1 ∈ lw_all ∧ Kty ci k = ty ∧ (T k).2.2.2 = true ∧ (T k).1 = own
set_option maxRecDepth 100000 in
theorem FM.fl {own : String} {idx ci N k : Nat} {ty : FieldType} (h : FM own idx ci N k ty) : FL own idx ci N k ty := by sorry
set_option maxRecDepth 100000 in
theorem FF.fl {own : String} {idx ci N k : Nat} {ty : FieldType} (h : FF own idx ci N k ty) : FL own idx ci N k ty := by sorry
def tI (ty : FieldType) : Bool := match ty with
  | .int => true
  | .boolean => true
  | .byte => true
  | .char => true
  | .short => true
  | _ => false
def tR (ty : FieldType) : Bool := match ty with
  | .object _ => true
  | .array _ => true
  | _ => false
set_option maxRecDepth 100000 in
theorem fv_i {ty : FieldType} (h : tI ty = true) (x : Int) (r : Option Nat) : fv ty x r = vi x := by sorry
set_option maxRecDepth 100000 in
theorem fv_r {ty : FieldType} (h : tR ty = true) (x : Int) (r : Option Nat) : fv ty x r = vr r := by sorry
set_option maxRecDepth 100000 in
theorem okN_fv {ty : FieldType} {x : Int} {r : Option Nat} (hd : ty ≠ .double) (h : okN ty x) : okV (fv ty x r) := by sorry
section R3
variable {C : MC} {Z : ZZ} {pc : Nat} {L : List (Nat × AV)} {st : List AV} {h : Hp} {kc ks : Nat}
set_option maxRecDepth 100000 in
theorem a_get {a ci N k idx : Nat} {ty : FieldType} (hF : FL C.2.2.1 idx ci N k ty) (hd : decode C.2.2.2.1 pc = .ok (.getfield idx, 3)) (hs : hS h a = (ci + 8, N)) (hty : ty ≠ .double) (kk : AW C Z (pc + 3) L (fv ty (hN h a k) (hA h a k) :: st) h kc ks) : AW C Z pc L (vr (some a) :: st) h kc ks := by sorry
set_option maxRecDepth 100000 in
theorem a_geti {a ci N k idx : Nat} {ty : FieldType} (hF : FL C.2.2.1 idx ci N k ty) (hd : decode C.2.2.2.1 pc = .ok (.getfield idx, 3)) (hs : hS h a = (ci + 8, N)) (ht : tI ty = true) (kk : AW C Z (pc + 3) L (vi (hN h a k) :: st) h kc ks) : AW C Z pc L (vr (some a) :: st) h kc ks := by sorry
set_option maxRecDepth 100000 in
theorem a_getr {a ci N k idx : Nat} {ty : FieldType} (hF : FL C.2.2.1 idx ci N k ty) (hd : decode C.2.2.2.1 pc = .ok (.getfield idx, 3)) (hs : hS h a = (ci + 8, N)) (ht : tR ty = true) (kk : AW C Z (pc + 3) L (vr (hA h a k) :: st) h kc ks) : AW C Z pc L (vr (some a) :: st) h kc ks := by sorry
end R3
set_option maxRecDepth 100000 in
theorem fld_put {w : WC} {h h' : Hp} {H H' : Heap} {a ci N k : Nat} {v : AV} {Cn : String} {T : u_T} {f : Nat} {cell : Cell} (hR : Rp w h H) (ha : xK ≤ a) (hs : hS h a = (ci + 8, N)) (hk : k < N) (hK : Kl[ci]? = some (Cn, T, N))
    (hz : hZ h' = hZ h) (hsS : hS h' = hS h) (hn : ∀ b, b ≠ a → ∀ j, hN h' b j = hN h b j) (hA' : ∀ b, b ≠ a → ∀ j, hA h' b j = hA h b j)
    (hv : fv (Kty ci k) (hN h' a k) (hA h' a k) = v) (hj : ∀ j : Nat, j ≠ k → hN h' a j = hN h a j ∧ hA h' a j = hA h a j) (hok : okN (Kty ci k) (hN h' a k))
    (hap : ∀ x y, x < N → y < N → x ≠ y → w.2.1.2 ci x ≠ w.2.1.2 ci y) (hf : f = w.2.1.2 ci k)
    (q1 : H[ph w a]? = some cell) (q2 : cell.cls = w.2.1.1 ci) (q3 : cell.vm = .none) (q4 : ∀ j, j < N → cell.slots[w.2.1.2 ci j]? = some (vp_V ((List.range N).map fun (j : Nat) => cv w (fv (Kty ci j) (hN h a j) (hA h a j))) j))
    (e1 : H'[ph w a]? = some (cell.setSlot f (cv w v))) (e2 : H'.size = H.size) (e3 : ∀ q, q ≠ ph w a → H'[q]? = H[q]?) : Rp w h' H' := by sorry
set_option maxRecDepth 100000 in
theorem nar_c {x : Int} (hx : 0 ≤ x ∧ x < 65536) : narrow .char (.int (Int32.ofInt x)) = .int (Int32.ofInt x) ∧ fits .char (.int (Int32.ofInt x)) = true := by sorry
set_option maxRecDepth 100000 in
theorem nar_s {x : Int} (hx : -32768 ≤ x ∧ x < 32768) : narrow .short (.int (Int32.ofInt x)) = .int (Int32.ofInt x) := by sorry
set_option maxRecDepth 100000 in
theorem nf {w : WC} {ty : FieldType} {x : Int} {r : Option Nat} (hd : ty ≠ .double) (h : okN ty x) : narrow ty (cv w (fv ty x r)) = cv w (fv ty x r) ∧ fits ty (cv w (fv ty x r)) = true := by sorry
section R4
variable {C : MC} {Z : ZZ} {pc : Nat} {L : List (Nat × AV)} {st : List AV} {h : Hp} {kc ks : Nat}
set_option maxRecDepth 100000 in
theorem a_put {a ci N k idx : Nat} {ty : FieldType} {x : Int} {r : Option Nat} {h' : Hp} (hF : FM C.2.2.1 idx ci N k ty) (hd : decode C.2.2.2.1 pc = .ok (.putfield idx, 3)) (ha : xK ≤ a) (hs : hS h a = (ci + 8, N)) (hty : ty ≠ .double) (hok : okN ty x)
    (hh : (hZ h' = hZ h ∧ hS h' = hS h) ∧ (∀ b, b ≠ a → ∀ j, hN h' b j = hN h b j) ∧ (∀ b, b ≠ a → ∀ j, hA h' b j = hA h b j) ∧ (fv ty (hN h' a k) (hA h' a k) = fv ty x r ∧ okN ty (hN h' a k)) ∧ ∀ j : Nat, j ≠ k → hN h' a j = hN h a j ∧ hA h' a j = hA h a j)
    (kk : AW C Z (pc + 3) L st h' kc ks) : AW C Z pc L (fv ty x r :: vr (some a) :: st) h kc ks := by sorry
set_option maxRecDepth 100000 in
theorem a_putF {a ci N k idx : Nat} {ty : FieldType} {x : Int} {r : Option Nat} {h' : Hp} (hF : FF C.2.2.1 idx ci N k ty) (hinit : C.2.2.2.2.2.2 = "<init>") (hd : decode C.2.2.2.1 pc = .ok (.putfield idx, 3)) (ha : xK ≤ a) (hs : hS h a = (ci + 8, N)) (hty : ty ≠ .double) (hok : okN ty x)
    (hh : (hZ h' = hZ h ∧ hS h' = hS h) ∧ (∀ b, b ≠ a → ∀ j, hN h' b j = hN h b j) ∧ (∀ b, b ≠ a → ∀ j, hA h' b j = hA h b j) ∧ (fv ty (hN h' a k) (hA h' a k) = fv ty x r ∧ okN ty (hN h' a k)) ∧ ∀ j : Nat, j ≠ k → hN h' a j = hN h a j ∧ hA h' a j = hA h a j)
    (kk : AW C Z (pc + 3) L st h' kc ks) : AW C Z pc L (fv ty x r :: vr (some a) :: st) h kc ks := by sorry
set_option maxRecDepth 100000 in
theorem hhN {h : Hp} {a k : Nat} {x : Int} {ty : FieldType} (ht : tR ty = false) (hok : okN ty x) (r : Option Nat) : (hZ (sN h a k x) = hZ h ∧ hS (sN h a k x) = hS h) ∧ (∀ b, b ≠ a → ∀ j, hN (sN h a k x) b j = hN h b j) ∧ (∀ b, b ≠ a → ∀ j, hA (sN h a k x) b j = hA h b j) ∧ (fv ty (hN (sN h a k x) a k) (hA (sN h a k x) a k) = fv ty x r ∧ okN ty (hN (sN h a k x) a k)) ∧ ∀ j : Nat, j ≠ k → hN (sN h a k x) a j = hN h a j ∧ hA (sN h a k x) a j = hA h a j := by sorry
set_option maxRecDepth 100000 in
theorem hhA {h : Hp} {a k : Nat} {r : Option Nat} {ty : FieldType} (ht : tR ty = true) (hok : okN ty (hN h a k)) (x : Int) : (hZ (sA h a k r) = hZ h ∧ hS (sA h a k r) = hS h) ∧ (∀ b, b ≠ a → ∀ j, hN (sA h a k r) b j = hN h b j) ∧ (∀ b, b ≠ a → ∀ j, hA (sA h a k r) b j = hA h b j) ∧ (fv ty (hN (sA h a k r) a k) (hA (sA h a k r) a k) = fv ty x r ∧ okN ty (hN (sA h a k r) a k)) ∧ ∀ j : Nat, j ≠ k → hN (sA h a k r) a j = hN h a j ∧ hA (sA h a k r) a j = hA h a j := by sorry
set_option maxRecDepth 100000 in
theorem a_puti {a ci N k idx : Nat} {ty : FieldType} {x : Int} (hF : FM C.2.2.1 idx ci N k ty) (hd : decode C.2.2.2.1 pc = .ok (.putfield idx, 3)) (ha : xK ≤ a) (hs : hS h a = (ci + 8, N)) (ht : tI ty = true) (hok : okN ty x) (kk : AW C Z (pc + 3) L st (sN h a k x) kc ks) : AW C Z pc L (vi x :: vr (some a) :: st) h kc ks := by sorry
set_option maxRecDepth 100000 in
theorem a_putl {a ci N k idx : Nat} {x : Int} (hF : FM C.2.2.1 idx ci N k .long) (hd : decode C.2.2.2.1 pc = .ok (.putfield idx, 3)) (ha : xK ≤ a) (hs : hS h a = (ci + 8, N)) (hok : okN .long x) (kk : AW C Z (pc + 3) L st (sN h a k x) kc ks) : AW C Z pc L (vl x :: vr (some a) :: st) h kc ks := by sorry
set_option maxRecDepth 100000 in
theorem a_putFi {a ci N k idx : Nat} {ty : FieldType} {x : Int} (hF : FF C.2.2.1 idx ci N k ty) (hinit : C.2.2.2.2.2.2 = "<init>") (hd : decode C.2.2.2.1 pc = .ok (.putfield idx, 3)) (ha : xK ≤ a) (hs : hS h a = (ci + 8, N)) (ht : tI ty = true) (hok : okN ty x) (kk : AW C Z (pc + 3) L st (sN h a k x) kc ks) : AW C Z pc L (vi x :: vr (some a) :: st) h kc ks := by sorry
set_option maxRecDepth 100000 in
theorem okN_ref {ty : FieldType} {x : Int} (ht : tR ty = true) : okN ty x ↔ -2147483648 ≤ x ∧ x < 2147483648 := by sorry
end R4
end

section
section R5
variable {C : MC} {Z : ZZ} {pc : Nat} {L : List (Nat × AV)} {st : List AV} {h : Hp} {kc ks : Nat}
set_option maxRecDepth 100000 in
theorem Rp.okf {w : WC} {h : Hp} {H : Heap} (hR : Rp w h H) {a ci N k : Nat} {ty : FieldType} (hs : hS h a = (ci + 8, N)) (hk : k < N) (ht : Kty ci k = ty) : okN ty (hN h a k) := by sorry
set_option maxRecDepth 100000 in
theorem a_putr {a ci N k idx : Nat} {ty : FieldType} {r : Option Nat} (hF : FM C.2.2.1 idx ci N k ty) (hd : decode C.2.2.2.1 pc = .ok (.putfield idx, 3)) (ha : xK ≤ a) (hs : hS h a = (ci + 8, N)) (ht : tR ty = true) (kk : AW C Z (pc + 3) L st (sA h a k r) kc ks) : AW C Z pc L (vr r :: vr (some a) :: st) h kc ks := by sorry
set_option maxRecDepth 100000 in
theorem a_putFr {a ci N k idx : Nat} {ty : FieldType} {r : Option Nat} (hF : FF C.2.2.1 idx ci N k ty) (hinit : C.2.2.2.2.2.2 = "<init>") (hd : decode C.2.2.2.1 pc = .ok (.putfield idx, 3)) (ha : xK ≤ a) (hs : hS h a = (ci + 8, N)) (ht : tR ty = true) (kk : AW C Z (pc + 3) L st (sA h a k r) kc ks) : AW C Z pc L (vr r :: vr (some a) :: st) h kc ks := by sorry
end R5
def QcR (w : WC) (Q : Option AV → Hp → Prop) : Array Value → State → Outcome → State → Prop := fun _ _ o t => ∃ (r : Option AV) (h : Hp), o = .returned (r.map (cv w)) ∧ (∀ v, r = some v → okV v) ∧ Q r h ∧ Rp w h t.heap
def zR (w : WC) (Q : Option AV → Hp → Prop) : ZZ := fun below args s R => MQ below (QcR w Q) args s R.cells R.slots (fr_ w)
section R6
variable {C : MC} {Q : Option AV → Hp → Prop} {pc : Nat} {L : List (Nat × AV)} {h : Hp} {kc ks : Nat}
set_option maxRecDepth 100000 in
theorem a_iret {x : Int} (hd : decode C.2.2.2.1 pc = .ok (.ireturn, 1)) (hr : C.2.2.2.2.2.1 = some .int) (hQ : Q (some (vi x)) h) : AW C (zR C.1 Q) pc L [vi x] h kc ks := by sorry
set_option maxRecDepth 100000 in
theorem a_zret {x : Int} (hd : decode C.2.2.2.1 pc = .ok (.ireturn, 1)) (hr : C.2.2.2.2.2.1 = some .boolean) (hx : 0 ≤ x ∧ x < 2) (hQ : Q (some (vi x)) h) : AW C (zR C.1 Q) pc L [vi x] h kc ks := by sorry
set_option maxRecDepth 100000 in
theorem a_lret {x : Int} (hd : decode C.2.2.2.1 pc = .ok (.lreturn, 1)) (hr : C.2.2.2.2.2.1 = some .long) (hQ : Q (some (vl x)) h) : AW C (zR C.1 Q) pc L [vl x] h kc ks := by sorry
set_option maxRecDepth 100000 in
theorem a_vret (hd : decode C.2.2.2.1 pc = .ok (.return_, 1)) (hr : C.2.2.2.2.2.1 = none) (hQ : Q none h) : AW C (zR C.1 Q) pc L [] h kc ks := by sorry
set_option maxRecDepth 100000 in
theorem a_aret {r : Option Nat} {rt : FieldType} (hd : decode C.2.2.2.1 pc = .ok (.areturn, 1)) (hr : C.2.2.2.2.2.1 = some rt) (hrt : tR rt = true) (hQ : Q (some (vr r)) h) : AW C (zR C.1 Q) pc L [vr r] h kc ks := by sorry
end R6
def CT (w : WC) (d : Nat) (y : MethodName) (b : ByteArray) (nL : Nat) (ret : Option FieldType) (as : List AV) (h : Hp) (kc ks : Nat) (Q : Option AV → Hp → Prop) : Prop :=
  Met w.1 y (ws_ y b nL ret) { frames := d, cells := kc, slots := ks, locals := 64 * d } (fun v U => v = (as.map (cv w)).toArray ∧ (∀ u ∈ as, okV u) ∧ Rp w h U.heap ∧ Kx w U) (QcR w Q) kc ks (fr_ w)
def lA : Nat → List AV → List (Nat × AV)
  | _, [] => []
  | i, v :: l => (i, v) :: lA (if ct v = 2 then i + 2 else i + 1) l
set_option maxRecDepth 100000 in
theorem lA_cL (w : WC) : ∀ (as : List AV) (i : Nat), cL w (lA i as) = lv_args i (as.map (cv w)) := by sorry
set_option maxRecDepth 100000 in
theorem lA_ok : ∀ (as : List AV) (i : Nat), (∀ v ∈ as, okV v) → ∀ q ∈ lA i as, okV q.2 := by sorry
set_option maxRecDepth 100000 in
theorem sl_len (w : WC) : ∀ as : List AV, (lg_sl (as.map (cv w))).length = (as.map ct).sum := by sorry
set_option maxRecDepth 100000 in
theorem CT.of {w : WC} {d : Nat} {y : MethodName} {b : ByteArray} {nL : Nat} {ret : Option FieldType} {as : List AV} {h : Hp} {kc ks : Nat} {Q : Option AV → Hp → Prop} (hy : plainName y.cls = true) (hn : (as.map ct).sum ≤ nL)
    (body : (∀ v ∈ as, okV v) → AW (w, d, y.cls, b, nL, ret, y.name) (zR w Q) 0 (lA 0 as) [] h kc ks) : CT w d y b nL ret as h kc ks Q := by sorry
set_option maxRecDepth 100000 in
theorem ct_sum (w : WC) (st : List AV) : ((st.map (cv w)).map fun v => v.category).sum = (st.map ct).sum := by sorry
def MV (own : String) (idx : Nat) (y : MethodName) (b : ByteArray) (nL : Nat) (ret : Option FieldType) (n : Nat) : Prop := GoodIn lw_all (wsV own idx y.cls y (ws_ y b nL ret)) ∧ (y.cls = y.cls ∧ y.cls ≠ "java/lang/invoke/MethodHandle" ∧ y.cls ≠ "java/lang/invoke/VarHandle" ∧ (parseMethodDescriptor y.desc).map (fun d => d.parameters.length) = some n) ∧ nL ≤ 45
def MS (own : String) (idx : Nat) (y : MethodName) (b : ByteArray) (nL : Nat) (ret : Option FieldType) (n : Nat) : Prop := GoodIn lw_all (va_wsS own idx y (ws_ y b nL ret)) ∧ (y.cls ≠ "java/lang/invoke/MethodHandle" ∧ y.cls ≠ "java/lang/invoke/VarHandle" ∧ (parseMethodDescriptor y.desc).map (fun d => d.parameters.length) = some n) ∧ nL ≤ 45
def MI (own : String) (idx : Nat) (y : MethodName) (b : ByteArray) (nL : Nat) (n : Nat) : Prop := (GoodIn lw_all (ws_ y b nL none) ∧ Cond.initialized y.cls ∈ lw_all ∧ Cond.methodLink own idx y ∈ lw_all ∧ Cond.instanceMethod y ∈ lw_all ∧ y.name = "<init>") ∧ (y.cls ≠ "java/lang/invoke/MethodHandle" ∧ y.cls ≠ "java/lang/invoke/VarHandle" ∧ (parseMethodDescriptor y.desc).map (fun d => d.parameters.length) = some n) ∧ nL ≤ 45
set_option maxRecDepth 100000 in
theorem va_Run.aw {C : MC} {Z : ZZ} {pc : Nat} {L : List (Nat × AV)} {st st0 : List AV} {kc ks mc ms : Nat} {Q : Option AV → Hp → Prop} {p : Program} {e : Env} {R : Room} {s : State} {m : MethodId} {args a : Array Value} {below : List Frame} {meth : Method} {c : Code} {H : Heap} {locs : List Loc} {cells slots : Nat} {ls : Array Slot}
    (hr : va_Run p C.1.1 e R s m args below meth c H locs cells slots mc ms (F0 m pc ls (st0.map (cv C.1))) (st.map (cv C.1)) (QcR C.1 Q a) (fr_ C.1)) (hC : Cx C p R s m args meth c) (hl : ∀ q ∈ locs, wB C.1 ≤ q.base) (hL : lv_has ls C.2.2.2.2.1 (cL C.1 L)) (oL : ∀ q ∈ L, okV q.2) (oS : ∀ v ∈ st, okV v)
    (h1 : cells + (kc + mc) ≤ R.cells) (h2 : slots + (ks + ms) ≤ R.slots) (k : ∀ r h', Q r h' → AW C Z (pc + 3) L (r.toList ++ st) h' kc ks) :
    W p C.1.1 e R s m args below meth c H locs cells slots (Z below args s R) (F0 m pc ls (st0.map (cv C.1))) := by sorry
set_option maxRecDepth 100000 in
theorem fb {w : WC} {as : List AV} {h : Hp} : FrameBlind (fun v U => v = (as.map (cv w)).toArray ∧ (∀ u ∈ as, okV u) ∧ Rp w h U.heap ∧ Kx w U) := by sorry
set_option maxRecDepth 100000 in
theorem Kx.moved {w : WC} {s U : State} (h : Kx w s) (hW : s.WarmedH U.vm) : Kx w U := by sorry
section R7
variable {w : WC} {d : Nat} {own : String} {b0 : ByteArray} {nL0 : Nat} {ret0 : Option FieldType} {nm0 : String} {Z : ZZ} {pc : Nat} {L : List (Nat × AV)} {st : List AV} {h : Hp} {kc ks mc ms : Nat} {y : MethodName} {b : ByteArray} {nL : Nat} {ret : Option FieldType} {Q : Option AV → Hp → Prop} {idx n : Nat}
set_option maxRecDepth 100000 in
theorem a_callV {a ci N : Nat} {as : List AV} {T : u_T} (hM : MV own idx y b nL ret n) (hc : CT w d y b nL ret (vr (some a) :: as) h mc ms Q) (hd : decode b0 pc = .ok (.invokevirtual idx, 3)) (hs : hS h a = (ci + 8, N)) (hK : Kl[ci]? = some (y.cls, T, N)) (hn : as.length = n) (hst : (st.map ct).sum ≤ 8)
    (k : ∀ r h', Q r h' → AW (w, d + 1, own, b0, nL0, ret0, nm0) Z (pc + 3) L (r.toList ++ st) h' kc ks) : AW (w, d + 1, own, b0, nL0, ret0, nm0) Z pc L (as.reverse ++ vr (some a) :: st) h (kc + mc) (ks + ms) := by sorry
set_option maxRecDepth 100000 in
theorem a_callS {as : List AV} (hM : MS own idx y b nL ret n) (hc : CT w d y b nL ret as h mc ms Q) (hd : decode b0 pc = .ok (.invokestatic idx, 3)) (hn : as.length = n) (hst : (st.map ct).sum ≤ 8)
    (k : ∀ r h', Q r h' → AW (w, d + 1, own, b0, nL0, ret0, nm0) Z (pc + 3) L (r.toList ++ st) h' kc ks) : AW (w, d + 1, own, b0, nL0, ret0, nm0) Z pc L (as.reverse ++ st) h (kc + mc) (ks + ms) := by sorry
set_option maxRecDepth 100000 in
theorem a_callI {a : Nat} {as : List AV} (hM : MI own idx y b nL n) (hc : CT w d y b nL none (vr (some a) :: as) h mc ms Q) (hd : decode b0 pc = .ok (.invokespecial idx, 3)) (hn : as.length = n) (hst : (st.map ct).sum ≤ 8)
    (k : ∀ r h', Q r h' → AW (w, d + 1, own, b0, nL0, ret0, nm0) Z (pc + 3) L (r.toList ++ st) h' kc ks) : AW (w, d + 1, own, b0, nL0, ret0, nm0) Z pc L (as.reverse ++ vr (some a) :: st) h (kc + mc) (ks + ms) := by sorry
end R7
def lP (L : List (Nat × AV)) (is : List Nat) : List (Nat × AV) := is.filterMap fun i => (lG L i).map fun v => (i, v)
set_option maxRecDepth 100000 in
theorem AW.pk {C : MC} {Z : ZZ} {pc : Nat} {L L' : List (Nat × AV)} {st : List AV} {h : Hp} {kc ks : Nat} (is : List Nat) (e : lP L is = L') (k : AW C Z pc L' st h kc ks) : AW C Z pc L st h kc ks := by sorry
end

section
def DI (b : ByteArray) (pc pc' : Nat) (i : Instr) (len : Nat) : Prop := decode b pc = .ok (i, len) ∧ pc + len = pc'
abbrev IL : Type := List (Nat × Nat × Nat × Instr)
def dchk (b : ByteArray) (l : IL) : Bool := l.all fun q => decide (decode b q.1 = .ok (q.2.2.2, q.2.2.1)) && decide (q.1 + q.2.2.1 = q.2.1)
set_option maxRecDepth 100000 in
theorem dq {b : ByteArray} {l : IL} (h : dchk b l = true) (i : Nat) {pc pc' len : Nat} {ins : Instr} (e : l[i]? = some (pc, pc', len, ins)) : DI b pc pc' ins len := by sorry
section WR1
variable {C : MC} {Z : ZZ} {pc : Nat} {L : List (Nat × AV)} {st : List AV} {h : Hp} {kc ks : Nat}
set_option maxRecDepth 100000 in
theorem b_iconst {n : Int} {pc' : Nat} (hd : DI C.2.2.2.1 pc pc' (.iconst n) 1) (hn : okV (vi n)) (k : AW C Z pc' L (vi n :: st) h kc ks) : AW C Z pc L st h kc ks := by sorry
set_option maxRecDepth 100000 in
theorem b_bipush {n : Int} {pc' : Nat} (hd : DI C.2.2.2.1 pc pc' (.bipush n) 2) (hn : (Int8.ofInt n).toInt32 = Int32.ofInt n) (ho : okV (vi n)) (k : AW C Z pc' L (vi n :: st) h kc ks) : AW C Z pc L st h kc ks := by sorry
set_option maxRecDepth 100000 in
theorem b_sipush {n : Int} {pc' : Nat} (hd : DI C.2.2.2.1 pc pc' (.sipush n) 3) (hn : (Int16.ofInt n).toInt32 = Int32.ofInt n) (ho : okV (vi n)) (k : AW C Z pc' L (vi n :: st) h kc ks) : AW C Z pc L st h kc ks := by sorry
set_option maxRecDepth 100000 in
theorem b_iadd {x y : Int} {pc' : Nat} (hd : DI C.2.2.2.1 pc pc' (.iadd) 1) (k : AW C Z pc' L (vi (w32 (x + y)) :: st) h kc ks) : AW C Z pc L (vi y :: vi x :: st) h kc ks := by sorry
set_option maxRecDepth 100000 in
theorem b_isub {x y : Int} {pc' : Nat} (hd : DI C.2.2.2.1 pc pc' (.isub) 1) (k : AW C Z pc' L (vi (w32 (x - y)) :: st) h kc ks) : AW C Z pc L (vi y :: vi x :: st) h kc ks := by sorry
set_option maxRecDepth 100000 in
theorem b_imul {x y : Int} {pc' : Nat} (hd : DI C.2.2.2.1 pc pc' (.imul) 1) (k : AW C Z pc' L (vi (w32 (x * y)) :: st) h kc ks) : AW C Z pc L (vi y :: vi x :: st) h kc ks := by sorry
set_option maxRecDepth 100000 in
theorem b_ladd {x y : Int} {pc' : Nat} (hd : DI C.2.2.2.1 pc pc' (.ladd) 1) (k : AW C Z pc' L (vl (w64 (x + y)) :: st) h kc ks) : AW C Z pc L (vl y :: vl x :: st) h kc ks := by sorry
set_option maxRecDepth 100000 in
theorem b_lsub {x y : Int} {pc' : Nat} (hd : DI C.2.2.2.1 pc pc' (.lsub) 1) (k : AW C Z pc' L (vl (w64 (x - y)) :: st) h kc ks) : AW C Z pc L (vl y :: vl x :: st) h kc ks := by sorry
set_option maxRecDepth 100000 in
theorem b_lmul {x y : Int} {pc' : Nat} (hd : DI C.2.2.2.1 pc pc' (.lmul) 1) (k : AW C Z pc' L (vl (w64 (x * y)) :: st) h kc ks) : AW C Z pc L (vl y :: vl x :: st) h kc ks := by sorry
set_option maxRecDepth 100000 in
theorem b_ineg {x : Int} {pc' : Nat} (hd : DI C.2.2.2.1 pc pc' (.ineg) 1) (k : AW C Z pc' L (vi (w32 (-x)) :: st) h kc ks) : AW C Z pc L (vi x :: st) h kc ks := by sorry
set_option maxRecDepth 100000 in
theorem b_iand {x y : Int} {pc' : Nat} (hd : DI C.2.2.2.1 pc pc' (.iand) 1) (k : AW C Z pc' L (vi (iAnd x y) :: st) h kc ks) : AW C Z pc L (vi y :: vi x :: st) h kc ks := by sorry
set_option maxRecDepth 100000 in
theorem b_ior {x y : Int} {pc' : Nat} (hd : DI C.2.2.2.1 pc pc' (.ior) 1) (k : AW C Z pc' L (vi (iOr x y) :: st) h kc ks) : AW C Z pc L (vi y :: vi x :: st) h kc ks := by sorry
set_option maxRecDepth 100000 in
theorem b_ixor {x y : Int} {pc' : Nat} (hd : DI C.2.2.2.1 pc pc' (.ixor) 1) (k : AW C Z pc' L (vi (iXor x y) :: st) h kc ks) : AW C Z pc L (vi y :: vi x :: st) h kc ks := by sorry
set_option maxRecDepth 100000 in
theorem b_ishl {x y : Int} {pc' : Nat} (hd : DI C.2.2.2.1 pc pc' (.ishl) 1) (k : AW C Z pc' L (vi (iShl x y) :: st) h kc ks) : AW C Z pc L (vi y :: vi x :: st) h kc ks := by sorry
set_option maxRecDepth 100000 in
theorem b_ishr {x y : Int} {pc' : Nat} (hd : DI C.2.2.2.1 pc pc' (.ishr) 1) (k : AW C Z pc' L (vi (iShr x y) :: st) h kc ks) : AW C Z pc L (vi y :: vi x :: st) h kc ks := by sorry
set_option maxRecDepth 100000 in
theorem b_iushr {x y : Int} {pc' : Nat} (hd : DI C.2.2.2.1 pc pc' (.iushr) 1) (k : AW C Z pc' L (vi (iUshr x y) :: st) h kc ks) : AW C Z pc L (vi y :: vi x :: st) h kc ks := by sorry
set_option maxRecDepth 100000 in
theorem b_land {x y : Int} {pc' : Nat} (hd : DI C.2.2.2.1 pc pc' (.land) 1) (k : AW C Z pc' L (vl (lAnd x y) :: st) h kc ks) : AW C Z pc L (vl y :: vl x :: st) h kc ks := by sorry
set_option maxRecDepth 100000 in
theorem b_lor {x y : Int} {pc' : Nat} (hd : DI C.2.2.2.1 pc pc' (.lor) 1) (k : AW C Z pc' L (vl (lOr x y) :: st) h kc ks) : AW C Z pc L (vl y :: vl x :: st) h kc ks := by sorry
set_option maxRecDepth 100000 in
theorem b_lxor {x y : Int} {pc' : Nat} (hd : DI C.2.2.2.1 pc pc' (.lxor) 1) (k : AW C Z pc' L (vl (lXor x y) :: st) h kc ks) : AW C Z pc L (vl y :: vl x :: st) h kc ks := by sorry
set_option maxRecDepth 100000 in
theorem b_lshl {x y : Int} {pc' : Nat} (hd : DI C.2.2.2.1 pc pc' (.lshl) 1) (k : AW C Z pc' L (vl (lShl x y) :: st) h kc ks) : AW C Z pc L (vi y :: vl x :: st) h kc ks := by sorry
set_option maxRecDepth 100000 in
theorem b_lshr {x y : Int} {pc' : Nat} (hd : DI C.2.2.2.1 pc pc' (.lshr) 1) (k : AW C Z pc' L (vl (lShr x y) :: st) h kc ks) : AW C Z pc L (vi y :: vl x :: st) h kc ks := by sorry
set_option maxRecDepth 100000 in
theorem b_lushr {x y : Int} {pc' : Nat} (hd : DI C.2.2.2.1 pc pc' (.lushr) 1) (k : AW C Z pc' L (vl (lUshr x y) :: st) h kc ks) : AW C Z pc L (vi y :: vl x :: st) h kc ks := by sorry
set_option maxRecDepth 100000 in
theorem b_i2b {x : Int} {pc' : Nat} (hd : DI C.2.2.2.1 pc pc' (.i2b) 1) (k : AW C Z pc' L (vi (i2B x) :: st) h kc ks) : AW C Z pc L (vi x :: st) h kc ks := by sorry
set_option maxRecDepth 100000 in
theorem b_i2c {x : Int} {pc' : Nat} (hd : DI C.2.2.2.1 pc pc' (.i2c) 1) (k : AW C Z pc' L (vi (i2C x) :: st) h kc ks) : AW C Z pc L (vi x :: st) h kc ks := by sorry
set_option maxRecDepth 100000 in
theorem b_l2i {x : Int} {pc' : Nat} (hd : DI C.2.2.2.1 pc pc' (.l2i) 1) (k : AW C Z pc' L (vi (l2I x) :: st) h kc ks) : AW C Z pc L (vl x :: st) h kc ks := by sorry
set_option maxRecDepth 100000 in
theorem b_i2l {x : Int} {pc' : Nat} (hd : DI C.2.2.2.1 pc pc' (.i2l) 1) (k : AW C Z pc' L (vl x :: st) h kc ks) : AW C Z pc L (vi x :: st) h kc ks := by sorry
set_option maxRecDepth 100000 in
theorem b_idiv {x y : Int} {pc' : Nat} (hd : DI C.2.2.2.1 pc pc' (.idiv) 1) (hy : y ≠ 0) (k : AW C Z pc' L (vi (w32 (x.tdiv y)) :: st) h kc ks) : AW C Z pc L (vi y :: vi x :: st) h kc ks := by sorry
set_option maxRecDepth 100000 in
theorem b_irem {x y : Int} {pc' : Nat} (hd : DI C.2.2.2.1 pc pc' (.irem) 1) (hy : y ≠ 0) (k : AW C Z pc' L (vi (x.tmod y) :: st) h kc ks) : AW C Z pc L (vi y :: vi x :: st) h kc ks := by sorry
set_option maxRecDepth 100000 in
theorem b_lcmp {x y : Int} {pc' : Nat} (hd : DI C.2.2.2.1 pc pc' (.lcmp) 1) (k : AW C Z pc' L (vi (lCmp x y) :: st) h kc ks) : AW C Z pc L (vl y :: vl x :: st) h kc ks := by sorry
set_option maxRecDepth 100000 in
theorem b_iload_n {i : Fin 4} {x : Int} {pc' : Nat} (hd : DI C.2.2.2.1 pc pc' (.iload_n i) 1) (hg : lG L i = some (vi x)) (k : AW C Z pc' L (vi x :: st) h kc ks) : AW C Z pc L st h kc ks := by sorry
set_option maxRecDepth 100000 in
theorem b_iload {i : Nat} {x : Int} {pc' : Nat} (hd : DI C.2.2.2.1 pc pc' (.iload i) 2) (hg : lG L i = some (vi x)) (k : AW C Z pc' L (vi x :: st) h kc ks) : AW C Z pc L st h kc ks := by sorry
set_option maxRecDepth 100000 in
theorem b_lload_n {i : Fin 4} {x : Int} {pc' : Nat} (hd : DI C.2.2.2.1 pc pc' (.lload_n i) 1) (hg : lG L i = some (vl x)) (k : AW C Z pc' L (vl x :: st) h kc ks) : AW C Z pc L st h kc ks := by sorry
set_option maxRecDepth 100000 in
theorem b_lload {i : Nat} {x : Int} {pc' : Nat} (hd : DI C.2.2.2.1 pc pc' (.lload i) 2) (hg : lG L i = some (vl x)) (k : AW C Z pc' L (vl x :: st) h kc ks) : AW C Z pc L st h kc ks := by sorry
set_option maxRecDepth 100000 in
theorem b_aload_n {i : Fin 4} {x : Option Nat} {pc' : Nat} (hd : DI C.2.2.2.1 pc pc' (.aload_n i) 1) (hg : lG L i = some (vr x)) (k : AW C Z pc' L (vr x :: st) h kc ks) : AW C Z pc L st h kc ks := by sorry
set_option maxRecDepth 100000 in
theorem b_aload {i : Nat} {x : Option Nat} {pc' : Nat} (hd : DI C.2.2.2.1 pc pc' (.aload i) 2) (hg : lG L i = some (vr x)) (k : AW C Z pc' L (vr x :: st) h kc ks) : AW C Z pc L st h kc ks := by sorry
set_option maxRecDepth 100000 in
theorem c_istore_n {i : Fin 4} {x : Int} {pc' : Nat} (hd : DI C.2.2.2.1 pc pc' (.istore_n i) 1) (hn : (i : Nat) < C.2.2.2.2.1) {L' : List (Nat × AV)} (e : lS L i (vi x) = L') (k : AW C Z pc' L' st h kc ks) : AW C Z pc L (vi x :: st) h kc ks := by sorry
set_option maxRecDepth 100000 in
theorem d_istore_n {i : Fin 4} {x : Int} {pc' : Nat} (hd : DI C.2.2.2.1 pc pc' (.istore_n i) 1) (hn : (i : Nat) < C.2.2.2.2.1) {L' : List (Nat × AV)} {y : Int} (hy : y = x) (e : lS L i (vi y) = L') (k : AW C Z pc' L' st h kc ks) : AW C Z pc L (vi x :: st) h kc ks := by sorry
set_option maxRecDepth 100000 in
theorem c_istore {i : Nat} {x : Int} {pc' : Nat} (hd : DI C.2.2.2.1 pc pc' (.istore i) 2) (hn : (i : Nat) < C.2.2.2.2.1) {L' : List (Nat × AV)} (e : lS L i (vi x) = L') (k : AW C Z pc' L' st h kc ks) : AW C Z pc L (vi x :: st) h kc ks := by sorry
set_option maxRecDepth 100000 in
theorem d_istore {i : Nat} {x : Int} {pc' : Nat} (hd : DI C.2.2.2.1 pc pc' (.istore i) 2) (hn : (i : Nat) < C.2.2.2.2.1) {L' : List (Nat × AV)} {y : Int} (hy : y = x) (e : lS L i (vi y) = L') (k : AW C Z pc' L' st h kc ks) : AW C Z pc L (vi x :: st) h kc ks := by sorry
set_option maxRecDepth 100000 in
theorem c_lstore_n {i : Fin 4} {x : Int} {pc' : Nat} (hd : DI C.2.2.2.1 pc pc' (.lstore_n i) 1) (hn : (i : Nat) + 1 < C.2.2.2.2.1) {L' : List (Nat × AV)} (e : lS L i (vl x) = L') (k : AW C Z pc' L' st h kc ks) : AW C Z pc L (vl x :: st) h kc ks := by sorry
set_option maxRecDepth 100000 in
theorem d_lstore_n {i : Fin 4} {x : Int} {pc' : Nat} (hd : DI C.2.2.2.1 pc pc' (.lstore_n i) 1) (hn : (i : Nat) + 1 < C.2.2.2.2.1) {L' : List (Nat × AV)} {y : Int} (hy : y = x) (e : lS L i (vl y) = L') (k : AW C Z pc' L' st h kc ks) : AW C Z pc L (vl x :: st) h kc ks := by sorry
set_option maxRecDepth 100000 in
theorem c_lstore {i : Nat} {x : Int} {pc' : Nat} (hd : DI C.2.2.2.1 pc pc' (.lstore i) 2) (hn : (i : Nat) + 1 < C.2.2.2.2.1) {L' : List (Nat × AV)} (e : lS L i (vl x) = L') (k : AW C Z pc' L' st h kc ks) : AW C Z pc L (vl x :: st) h kc ks := by sorry
set_option maxRecDepth 100000 in
theorem d_lstore {i : Nat} {x : Int} {pc' : Nat} (hd : DI C.2.2.2.1 pc pc' (.lstore i) 2) (hn : (i : Nat) + 1 < C.2.2.2.2.1) {L' : List (Nat × AV)} {y : Int} (hy : y = x) (e : lS L i (vl y) = L') (k : AW C Z pc' L' st h kc ks) : AW C Z pc L (vl x :: st) h kc ks := by sorry
set_option maxRecDepth 100000 in
theorem c_astore_n {i : Fin 4} {x : Option Nat} {pc' : Nat} (hd : DI C.2.2.2.1 pc pc' (.astore_n i) 1) (hn : (i : Nat) < C.2.2.2.2.1) {L' : List (Nat × AV)} (e : lS L i (vr x) = L') (k : AW C Z pc' L' st h kc ks) : AW C Z pc L (vr x :: st) h kc ks := by sorry
set_option maxRecDepth 100000 in
theorem c_astore {i : Nat} {x : Option Nat} {pc' : Nat} (hd : DI C.2.2.2.1 pc pc' (.astore i) 2) (hn : (i : Nat) < C.2.2.2.2.1) {L' : List (Nat × AV)} (e : lS L i (vr x) = L') (k : AW C Z pc' L' st h kc ks) : AW C Z pc L (vr x :: st) h kc ks := by sorry
set_option maxRecDepth 100000 in
theorem c_iinc {i : Nat} {n x : Int} {pc' : Nat} (hd : DI C.2.2.2.1 pc pc' (.iinc i n) 3) (hg : lG L i = some (vi x)) (hn : i < C.2.2.2.2.1) {L' : List (Nat × AV)} (e : lS L i (vi (w32 (x + n))) = L') (k : AW C Z pc' L' st h kc ks) : AW C Z pc L st h kc ks := by sorry
set_option maxRecDepth 100000 in
theorem b_if_eq {x off : Int} (tgt : Nat) {pc' : Nat} (hd : DI C.2.2.2.1 pc pc' (.ifCond .eq off) 3) (ht : (pc : Int) + off = (tgt : Int)) (kt : x = 0 → AW C Z tgt L st h kc ks) (kf : ¬ (x = 0) → AW C Z pc' L st h kc ks) : AW C Z pc L (vi x :: st) h kc ks := by sorry
set_option maxRecDepth 100000 in
theorem b_if_ne {x off : Int} (tgt : Nat) {pc' : Nat} (hd : DI C.2.2.2.1 pc pc' (.ifCond .ne off) 3) (ht : (pc : Int) + off = (tgt : Int)) (kt : x ≠ 0 → AW C Z tgt L st h kc ks) (kf : x = 0 → AW C Z pc' L st h kc ks) : AW C Z pc L (vi x :: st) h kc ks := by sorry
set_option maxRecDepth 100000 in
theorem b_if_lt {x off : Int} (tgt : Nat) {pc' : Nat} (hd : DI C.2.2.2.1 pc pc' (.ifCond .lt off) 3) (ht : (pc : Int) + off = (tgt : Int)) (kt : x < 0 → AW C Z tgt L st h kc ks) (kf : ¬ (x < 0) → AW C Z pc' L st h kc ks) : AW C Z pc L (vi x :: st) h kc ks := by sorry
set_option maxRecDepth 100000 in
theorem b_if_ge {x off : Int} (tgt : Nat) {pc' : Nat} (hd : DI C.2.2.2.1 pc pc' (.ifCond .ge off) 3) (ht : (pc : Int) + off = (tgt : Int)) (kt : 0 ≤ x → AW C Z tgt L st h kc ks) (kf : ¬ (0 ≤ x) → AW C Z pc' L st h kc ks) : AW C Z pc L (vi x :: st) h kc ks := by sorry
set_option maxRecDepth 100000 in
theorem b_if_gt {x off : Int} (tgt : Nat) {pc' : Nat} (hd : DI C.2.2.2.1 pc pc' (.ifCond .gt off) 3) (ht : (pc : Int) + off = (tgt : Int)) (kt : 0 < x → AW C Z tgt L st h kc ks) (kf : ¬ (0 < x) → AW C Z pc' L st h kc ks) : AW C Z pc L (vi x :: st) h kc ks := by sorry
set_option maxRecDepth 100000 in
theorem b_if_le {x off : Int} (tgt : Nat) {pc' : Nat} (hd : DI C.2.2.2.1 pc pc' (.ifCond .le off) 3) (ht : (pc : Int) + off = (tgt : Int)) (kt : x ≤ 0 → AW C Z tgt L st h kc ks) (kf : ¬ (x ≤ 0) → AW C Z pc' L st h kc ks) : AW C Z pc L (vi x :: st) h kc ks := by sorry
set_option maxRecDepth 100000 in
theorem b_icmp_eq {x y off : Int} (tgt : Nat) {pc' : Nat} (hd : DI C.2.2.2.1 pc pc' (.if_icmp .eq off) 3) (ht : (pc : Int) + off = (tgt : Int)) (kt : x = y → AW C Z tgt L st h kc ks) (kf : ¬ (x = y) → AW C Z pc' L st h kc ks) : AW C Z pc L (vi y :: vi x :: st) h kc ks := by sorry
set_option maxRecDepth 100000 in
theorem b_icmp_ne {x y off : Int} (tgt : Nat) {pc' : Nat} (hd : DI C.2.2.2.1 pc pc' (.if_icmp .ne off) 3) (ht : (pc : Int) + off = (tgt : Int)) (kt : x ≠ y → AW C Z tgt L st h kc ks) (kf : x = y → AW C Z pc' L st h kc ks) : AW C Z pc L (vi y :: vi x :: st) h kc ks := by sorry
set_option maxRecDepth 100000 in
theorem b_icmp_lt {x y off : Int} (tgt : Nat) {pc' : Nat} (hd : DI C.2.2.2.1 pc pc' (.if_icmp .lt off) 3) (ht : (pc : Int) + off = (tgt : Int)) (kt : x < y → AW C Z tgt L st h kc ks) (kf : ¬ (x < y) → AW C Z pc' L st h kc ks) : AW C Z pc L (vi y :: vi x :: st) h kc ks := by sorry
set_option maxRecDepth 100000 in
theorem b_icmp_ge {x y off : Int} (tgt : Nat) {pc' : Nat} (hd : DI C.2.2.2.1 pc pc' (.if_icmp .ge off) 3) (ht : (pc : Int) + off = (tgt : Int)) (kt : y ≤ x → AW C Z tgt L st h kc ks) (kf : ¬ (y ≤ x) → AW C Z pc' L st h kc ks) : AW C Z pc L (vi y :: vi x :: st) h kc ks := by sorry
set_option maxRecDepth 100000 in
theorem b_icmp_gt {x y off : Int} (tgt : Nat) {pc' : Nat} (hd : DI C.2.2.2.1 pc pc' (.if_icmp .gt off) 3) (ht : (pc : Int) + off = (tgt : Int)) (kt : y < x → AW C Z tgt L st h kc ks) (kf : ¬ (y < x) → AW C Z pc' L st h kc ks) : AW C Z pc L (vi y :: vi x :: st) h kc ks := by sorry
set_option maxRecDepth 100000 in
theorem b_icmp_le {x y off : Int} (tgt : Nat) {pc' : Nat} (hd : DI C.2.2.2.1 pc pc' (.if_icmp .le off) 3) (ht : (pc : Int) + off = (tgt : Int)) (kt : x ≤ y → AW C Z tgt L st h kc ks) (kf : ¬ (x ≤ y) → AW C Z pc' L st h kc ks) : AW C Z pc L (vi y :: vi x :: st) h kc ks := by sorry
set_option maxRecDepth 100000 in
theorem b_goto {off : Int} (tgt : Nat) {pc' : Nat} (hd : DI C.2.2.2.1 pc pc' (.goto off) 3) (ht : (pc : Int) + off = (tgt : Int)) (k : AW C Z tgt L st h kc ks) : AW C Z pc L st h kc ks := by sorry
set_option maxRecDepth 100000 in
theorem b_dup {v : AV} {pc' : Nat} (hd : DI C.2.2.2.1 pc pc' (.dup) 1) (hv : ct v = 1) (k : AW C Z pc' L (v :: v :: st) h kc ks) : AW C Z pc L (v :: st) h kc ks := by sorry
set_option maxRecDepth 100000 in
theorem b_dup2 {v u : AV} {pc' : Nat} (hd : DI C.2.2.2.1 pc pc' (.dup2) 1) (hv : ct v = 1) (hu : ct u = 1) (k : AW C Z pc' L (v :: u :: v :: u :: st) h kc ks) : AW C Z pc L (v :: u :: st) h kc ks := by sorry
set_option maxRecDepth 100000 in
theorem b_dup_x1 {v u : AV} {pc' : Nat} (hd : DI C.2.2.2.1 pc pc' (.dup_x1) 1) (hv : ct v = 1) (hu : ct u = 1) (k : AW C Z pc' L (v :: u :: v :: st) h kc ks) : AW C Z pc L (v :: u :: st) h kc ks := by sorry
set_option maxRecDepth 100000 in
theorem b_dup_x2 {v u t : AV} {pc' : Nat} (hd : DI C.2.2.2.1 pc pc' (.dup_x2) 1) (hv : ct v = 1) (hu : ct u = 1) (ht : ct t = 1) (k : AW C Z pc' L (v :: u :: t :: v :: st) h kc ks) : AW C Z pc L (v :: u :: t :: st) h kc ks := by sorry
set_option maxRecDepth 100000 in
theorem b_pop {v : AV} {pc' : Nat} (hd : DI C.2.2.2.1 pc pc' (.pop) 1) (hv : ct v = 1) (k : AW C Z pc' L st h kc ks) : AW C Z pc L (v :: st) h kc ks := by sorry
set_option maxRecDepth 100000 in
theorem b_lconst {n : Fin 2} {x : Int} {pc' : Nat} (hd : DI C.2.2.2.1 pc pc' (.lconst n) 1) (hn : ((n : Nat) : Int) = x) (k : AW C Z pc' L (vl x :: st) h kc ks) : AW C Z pc L st h kc ks := by sorry
set_option maxRecDepth 100000 in
theorem b_null {pc' : Nat} (hd : DI C.2.2.2.1 pc pc' (.aconst_null) 1) (k : AW C Z pc' L (vr none :: st) h kc ks) : AW C Z pc L st h kc ks := by sorry
set_option maxRecDepth 100000 in
theorem b_ldc {i : Nat} {x : Int} {v : Int32} {pc' : Nat} (hd : DI C.2.2.2.1 pc pc' (.ldc i) 2) (hq : Cond.constant C.2.2.1 i v ∈ lw_all) (hv : v.toInt = x) (k : AW C Z pc' L (vi x :: st) h kc ks) : AW C Z pc L st h kc ks := by sorry
set_option maxRecDepth 100000 in
theorem b_ldc_w {i : Nat} {x : Int} {v : Int32} {pc' : Nat} (hd : DI C.2.2.2.1 pc pc' (.ldc_w i) 3) (hq : Cond.constant C.2.2.1 i v ∈ lw_all) (hv : v.toInt = x) (k : AW C Z pc' L (vi x :: st) h kc ks) : AW C Z pc L st h kc ks := by sorry
set_option maxRecDepth 100000 in
theorem b_ldc2 {i : Nat} {x : Int} {v : Int64} {pc' : Nat} (hd : DI C.2.2.2.1 pc pc' (.ldc2_w i) 3) (hq : Cond.constantLong C.2.2.1 i v ∈ lw_all) (hv : v.toInt = x) (k : AW C Z pc' L (vl x :: st) h kc ks) : AW C Z pc L st h kc ks := by sorry
set_option maxRecDepth 100000 in
theorem b_tableIn {dflt lo hi off : Int} {offs : Array Int} {len : Nat} {x : Int} (tgt : Nat) {pc' : Nat} (hd : DI C.2.2.2.1 pc pc' (.tableswitch dflt lo hi offs) len) (h1 : lo ≤ x) (h2 : x ≤ hi) (ho : offs[(x - lo).toNat]? = some off) (ht : (pc : Int) + off = (tgt : Int)) (k : AW C Z tgt L st h kc ks) : AW C Z pc L (vi x :: st) h kc ks := by sorry
set_option maxRecDepth 100000 in
theorem b_tableOut {dflt lo hi : Int} {offs : Array Int} {len : Nat} {x : Int} (tgt : Nat) {pc' : Nat} (hd : DI C.2.2.2.1 pc pc' (.tableswitch dflt lo hi offs) len) (h1 : x < lo ∨ hi < x) (ht : (pc : Int) + dflt = (tgt : Int)) (k : AW C Z tgt L st h kc ks) : AW C Z pc L (vi x :: st) h kc ks := by sorry
end WR1
section WR2
variable {C : MC} {Z : ZZ} {pc : Nat} {L : List (Nat × AV)} {st : List AV} {h : Hp} {kc ks : Nat}
set_option maxRecDepth 100000 in
theorem b_iald {a n : Nat} {i : Int} {pc' : Nat} (hd : DI C.2.2.2.1 pc pc' (.iaload) 1) (hs : hS h a = (0, n)) (h0 : 0 ≤ i) (hn : i < n) (k : AW C Z pc' L (vi (hN h a i) :: st) h kc ks) : AW C Z pc L (vi i :: vr (some a) :: st) h kc ks := by sorry
set_option maxRecDepth 100000 in
theorem b_bald {a n : Nat} {i : Int} {pc' : Nat} (hd : DI C.2.2.2.1 pc pc' (.baload) 1) (hs : hS h a = (1, n)) (h0 : 0 ≤ i) (hn : i < n) (k : AW C Z pc' L (vi (hN h a i) :: st) h kc ks) : AW C Z pc L (vi i :: vr (some a) :: st) h kc ks := by sorry
set_option maxRecDepth 100000 in
theorem b_zald {a n : Nat} {i : Int} {pc' : Nat} (hd : DI C.2.2.2.1 pc pc' (.baload) 1) (hs : hS h a = (3, n)) (h0 : 0 ≤ i) (hn : i < n) (k : AW C Z pc' L (vi (hN h a i) :: st) h kc ks) : AW C Z pc L (vi i :: vr (some a) :: st) h kc ks := by sorry
set_option maxRecDepth 100000 in
theorem b_lald {a n : Nat} {i : Int} {pc' : Nat} (hd : DI C.2.2.2.1 pc pc' (.laload) 1) (hs : hS h a = (2, n)) (h0 : 0 ≤ i) (hn : i < n) (k : AW C Z pc' L (vl (hN h a i) :: st) h kc ks) : AW C Z pc L (vi i :: vr (some a) :: st) h kc ks := by sorry
set_option maxRecDepth 100000 in
theorem b_oald {a n : Nat} {i : Int} {pc' : Nat} (hd : DI C.2.2.2.1 pc pc' (.aaload) 1) (hs : hS h a = (4, n)) (h0 : 0 ≤ i) (hn : i < n) (k : AW C Z pc' L (vr (hA h a i) :: st) h kc ks) : AW C Z pc L (vi i :: vr (some a) :: st) h kc ks := by sorry
set_option maxRecDepth 100000 in
theorem b_nald {a n : Nat} {i : Int} {pc' : Nat} (hd : DI C.2.2.2.1 pc pc' (.aaload) 1) (hs : hS h a = (5, n)) (h0 : 0 ≤ i) (hn : i < n) (k : AW C Z pc' L (vr (hA h a i) :: st) h kc ks) : AW C Z pc L (vi i :: vr (some a) :: st) h kc ks := by sorry
set_option maxRecDepth 100000 in
theorem b_iast {a n : Nat} {i x : Int} {pc' : Nat} (hd : DI C.2.2.2.1 pc pc' (.iastore) 1) (ha : xK ≤ a) (hs : hS h a = (0, n)) (h0 : 0 ≤ i) (hn : i < n)  (k : AW C Z pc' L st (sN h a i x) kc ks) : AW C Z pc L (vi x :: vi i :: vr (some a) :: st) h kc ks := by sorry
set_option maxRecDepth 100000 in
theorem b_last {a n : Nat} {i x : Int} {pc' : Nat} (hd : DI C.2.2.2.1 pc pc' (.lastore) 1) (ha : xK ≤ a) (hs : hS h a = (2, n)) (h0 : 0 ≤ i) (hn : i < n)  (k : AW C Z pc' L st (sN h a i x) kc ks) : AW C Z pc L (vl x :: vi i :: vr (some a) :: st) h kc ks := by sorry
set_option maxRecDepth 100000 in
theorem b_bast {a n : Nat} {i x : Int} {pc' : Nat} (hd : DI C.2.2.2.1 pc pc' (.bastore) 1) (ha : xK ≤ a) (hs : hS h a = (1, n)) (h0 : 0 ≤ i) (hn : i < n) (hx : -128 ≤ x ∧ x < 128) (k : AW C Z pc' L st (sN h a i x) kc ks) : AW C Z pc L (vi x :: vi i :: vr (some a) :: st) h kc ks := by sorry
set_option maxRecDepth 100000 in
theorem b_zast {a n : Nat} {i x : Int} {pc' : Nat} (hd : DI C.2.2.2.1 pc pc' (.bastore) 1) (ha : xK ≤ a) (hs : hS h a = (3, n)) (h0 : 0 ≤ i) (hn : i < n) (hx : 0 ≤ x ∧ x < 2) (k : AW C Z pc' L st (sN h a i x) kc ks) : AW C Z pc L (vi x :: vi i :: vr (some a) :: st) h kc ks := by sorry
end WR2
section WR3
variable {C : MC} {Z : ZZ} {pc : Nat} {L : List (Nat × AV)} {st : List AV} {h : Hp} {kc ks : Nat}
set_option maxRecDepth 100000 in
theorem b_get {a ci N k idx : Nat} {ty : FieldType} (hF : FL C.2.2.1 idx ci N k ty) {pc' : Nat} (hd : DI C.2.2.2.1 pc pc' (.getfield idx) 3) (hs : hS h a = (ci + 8, N)) (hty : ty ≠ .double) (kk : AW C Z pc' L (fv ty (hN h a k) (hA h a k) :: st) h kc ks) : AW C Z pc L (vr (some a) :: st) h kc ks := by sorry
set_option maxRecDepth 100000 in
theorem b_geti {a ci N k idx : Nat} {ty : FieldType} (hF : FL C.2.2.1 idx ci N k ty) {pc' : Nat} (hd : DI C.2.2.2.1 pc pc' (.getfield idx) 3) (hs : hS h a = (ci + 8, N)) (ht : tI ty = true) (kk : AW C Z pc' L (vi (hN h a k) :: st) h kc ks) : AW C Z pc L (vr (some a) :: st) h kc ks := by sorry
set_option maxRecDepth 100000 in
theorem b_getr {a ci N k idx : Nat} {ty : FieldType} (hF : FL C.2.2.1 idx ci N k ty) {pc' : Nat} (hd : DI C.2.2.2.1 pc pc' (.getfield idx) 3) (hs : hS h a = (ci + 8, N)) (ht : tR ty = true) (kk : AW C Z pc' L (vr (hA h a k) :: st) h kc ks) : AW C Z pc L (vr (some a) :: st) h kc ks := by sorry
end WR3
section WR4
variable {C : MC} {Z : ZZ} {pc : Nat} {L : List (Nat × AV)} {st : List AV} {h : Hp} {kc ks : Nat}
set_option maxRecDepth 100000 in
theorem b_put {a ci N k idx : Nat} {ty : FieldType} {x : Int} {r : Option Nat} {h' : Hp} (hF : FM C.2.2.1 idx ci N k ty) {pc' : Nat} (hd : DI C.2.2.2.1 pc pc' (.putfield idx) 3) (ha : xK ≤ a) (hs : hS h a = (ci + 8, N)) (hty : ty ≠ .double) (hok : okN ty x)
    (hh : (hZ h' = hZ h ∧ hS h' = hS h) ∧ (∀ b, b ≠ a → ∀ j, hN h' b j = hN h b j) ∧ (∀ b, b ≠ a → ∀ j, hA h' b j = hA h b j) ∧ (fv ty (hN h' a k) (hA h' a k) = fv ty x r ∧ okN ty (hN h' a k)) ∧ ∀ j : Nat, j ≠ k → hN h' a j = hN h a j ∧ hA h' a j = hA h a j)
    (kk : AW C Z pc' L st h' kc ks) : AW C Z pc L (fv ty x r :: vr (some a) :: st) h kc ks := by sorry
set_option maxRecDepth 100000 in
theorem b_putF {a ci N k idx : Nat} {ty : FieldType} {x : Int} {r : Option Nat} {h' : Hp} (hF : FF C.2.2.1 idx ci N k ty) (hinit : C.2.2.2.2.2.2 = "<init>") {pc' : Nat} (hd : DI C.2.2.2.1 pc pc' (.putfield idx) 3) (ha : xK ≤ a) (hs : hS h a = (ci + 8, N)) (hty : ty ≠ .double) (hok : okN ty x)
    (hh : (hZ h' = hZ h ∧ hS h' = hS h) ∧ (∀ b, b ≠ a → ∀ j, hN h' b j = hN h b j) ∧ (∀ b, b ≠ a → ∀ j, hA h' b j = hA h b j) ∧ (fv ty (hN h' a k) (hA h' a k) = fv ty x r ∧ okN ty (hN h' a k)) ∧ ∀ j : Nat, j ≠ k → hN h' a j = hN h a j ∧ hA h' a j = hA h a j)
    (kk : AW C Z pc' L st h' kc ks) : AW C Z pc L (fv ty x r :: vr (some a) :: st) h kc ks := by sorry
set_option maxRecDepth 100000 in
theorem b_puti {a ci N k idx : Nat} {ty : FieldType} {x : Int} (hF : FM C.2.2.1 idx ci N k ty) {pc' : Nat} (hd : DI C.2.2.2.1 pc pc' (.putfield idx) 3) (ha : xK ≤ a) (hs : hS h a = (ci + 8, N)) (ht : tI ty = true) (hok : okN ty x) (kk : AW C Z pc' L st (sN h a k x) kc ks) : AW C Z pc L (vi x :: vr (some a) :: st) h kc ks := by sorry
set_option maxRecDepth 100000 in
theorem b_putl {a ci N k idx : Nat} {x : Int} (hF : FM C.2.2.1 idx ci N k .long) {pc' : Nat} (hd : DI C.2.2.2.1 pc pc' (.putfield idx) 3) (ha : xK ≤ a) (hs : hS h a = (ci + 8, N)) (hok : okN .long x) (kk : AW C Z pc' L st (sN h a k x) kc ks) : AW C Z pc L (vl x :: vr (some a) :: st) h kc ks := by sorry
set_option maxRecDepth 100000 in
theorem b_putFi {a ci N k idx : Nat} {ty : FieldType} {x : Int} (hF : FF C.2.2.1 idx ci N k ty) (hinit : C.2.2.2.2.2.2 = "<init>") {pc' : Nat} (hd : DI C.2.2.2.1 pc pc' (.putfield idx) 3) (ha : xK ≤ a) (hs : hS h a = (ci + 8, N)) (ht : tI ty = true) (hok : okN ty x) (kk : AW C Z pc' L st (sN h a k x) kc ks) : AW C Z pc L (vi x :: vr (some a) :: st) h kc ks := by sorry
end WR4
section WR5
variable {C : MC} {Z : ZZ} {pc : Nat} {L : List (Nat × AV)} {st : List AV} {h : Hp} {kc ks : Nat}
set_option maxRecDepth 100000 in
theorem b_putr {a ci N k idx : Nat} {ty : FieldType} {r : Option Nat} (hF : FM C.2.2.1 idx ci N k ty) {pc' : Nat} (hd : DI C.2.2.2.1 pc pc' (.putfield idx) 3) (ha : xK ≤ a) (hs : hS h a = (ci + 8, N)) (ht : tR ty = true) (kk : AW C Z pc' L st (sA h a k r) kc ks) : AW C Z pc L (vr r :: vr (some a) :: st) h kc ks := by sorry
set_option maxRecDepth 100000 in
theorem b_putFr {a ci N k idx : Nat} {ty : FieldType} {r : Option Nat} (hF : FF C.2.2.1 idx ci N k ty) (hinit : C.2.2.2.2.2.2 = "<init>") {pc' : Nat} (hd : DI C.2.2.2.1 pc pc' (.putfield idx) 3) (ha : xK ≤ a) (hs : hS h a = (ci + 8, N)) (ht : tR ty = true) (kk : AW C Z pc' L st (sA h a k r) kc ks) : AW C Z pc L (vr r :: vr (some a) :: st) h kc ks := by sorry
end WR5
section WR6
variable {C : MC} {Q : Option AV → Hp → Prop} {pc : Nat} {L : List (Nat × AV)} {h : Hp} {kc ks : Nat}
set_option maxRecDepth 100000 in
theorem b_iret {x : Int} {pc' : Nat} (hd : DI C.2.2.2.1 pc pc' (.ireturn) 1) (hr : C.2.2.2.2.2.1 = some .int) (hQ : Q (some (vi x)) h) : AW C (zR C.1 Q) pc L [vi x] h kc ks := by sorry
set_option maxRecDepth 100000 in
theorem b_zret {x : Int} {pc' : Nat} (hd : DI C.2.2.2.1 pc pc' (.ireturn) 1) (hr : C.2.2.2.2.2.1 = some .boolean) (hx : 0 ≤ x ∧ x < 2) (hQ : Q (some (vi x)) h) : AW C (zR C.1 Q) pc L [vi x] h kc ks := by sorry
set_option maxRecDepth 100000 in
theorem b_lret {x : Int} {pc' : Nat} (hd : DI C.2.2.2.1 pc pc' (.lreturn) 1) (hr : C.2.2.2.2.2.1 = some .long) (hQ : Q (some (vl x)) h) : AW C (zR C.1 Q) pc L [vl x] h kc ks := by sorry
set_option maxRecDepth 100000 in
theorem b_vret {pc' : Nat} (hd : DI C.2.2.2.1 pc pc' (.return_) 1) (hr : C.2.2.2.2.2.1 = none) (hQ : Q none h) : AW C (zR C.1 Q) pc L [] h kc ks := by sorry
set_option maxRecDepth 100000 in
theorem b_aret {r : Option Nat} {rt : FieldType} {pc' : Nat} (hd : DI C.2.2.2.1 pc pc' (.areturn) 1) (hr : C.2.2.2.2.2.1 = some rt) (hrt : tR rt = true) (hQ : Q (some (vr r)) h) : AW C (zR C.1 Q) pc L [vr r] h kc ks := by sorry
end WR6
section WR7
variable {w : WC} {d : Nat} {own : String} {b0 : ByteArray} {nL0 : Nat} {ret0 : Option FieldType} {nm0 : String} {Z : ZZ} {pc : Nat} {L : List (Nat × AV)} {st : List AV} {h : Hp} {kc ks mc ms : Nat} {y : MethodName} {b : ByteArray} {nL : Nat} {ret : Option FieldType} {Q : Option AV → Hp → Prop} {idx n : Nat}
set_option maxRecDepth 100000 in
theorem b_callV {a ci N : Nat} {as : List AV} {T : u_T} (hM : MV own idx y b nL ret n) (hc : CT w d y b nL ret (vr (some a) :: as) h mc ms Q) {pc' : Nat} (hd : DI b0 pc pc' (.invokevirtual idx) 3) (hs : hS h a = (ci + 8, N)) (hK : Kl[ci]? = some (y.cls, T, N)) (hn : as.length = n) (hst : (st.map ct).sum ≤ 8)
    (k : ∀ r h', Q r h' → AW (w, d + 1, own, b0, nL0, ret0, nm0) Z pc' L (r.toList ++ st) h' kc ks) : AW (w, d + 1, own, b0, nL0, ret0, nm0) Z pc L (as.reverse ++ vr (some a) :: st) h (kc + mc) (ks + ms) := by sorry
set_option maxRecDepth 100000 in
theorem b_callS {as : List AV} (hM : MS own idx y b nL ret n) (hc : CT w d y b nL ret as h mc ms Q) {pc' : Nat} (hd : DI b0 pc pc' (.invokestatic idx) 3) (hn : as.length = n) (hst : (st.map ct).sum ≤ 8)
    (k : ∀ r h', Q r h' → AW (w, d + 1, own, b0, nL0, ret0, nm0) Z pc' L (r.toList ++ st) h' kc ks) : AW (w, d + 1, own, b0, nL0, ret0, nm0) Z pc L (as.reverse ++ st) h (kc + mc) (ks + ms) := by sorry
set_option maxRecDepth 100000 in
theorem b_callI {a : Nat} {as : List AV} (hM : MI own idx y b nL n) (hc : CT w d y b nL none (vr (some a) :: as) h mc ms Q) {pc' : Nat} (hd : DI b0 pc pc' (.invokespecial idx) 3) (hn : as.length = n) (hst : (st.map ct).sum ≤ 8)
    (k : ∀ r h', Q r h' → AW (w, d + 1, own, b0, nL0, ret0, nm0) Z pc' L (r.toList ++ st) h' kc ks) : AW (w, d + 1, own, b0, nL0, ret0, nm0) Z pc L (as.reverse ++ vr (some a) :: st) h (kc + mc) (ks + ms) := by sorry
end WR7
end

section
abbrev NW : Type := Nat → Int → Int
abbrev RW_ : Type := (Nat → Int → Option Nat) × (Nat → Nat × Nat) × Nat
abbrev OR : Type := Option (Int × NW)
def ck {α : Type} (c : Prop) [Decidable c] (k : Option α) : Option α := if c then k else none
def lt {α β : Type} (x : α) (f : α → Option β) : Option β := f x
def bn {α : Type} (x : OR) (f : Int → NW → Option α) : Option α := match x with
  | none => none
  | some q => f q.1 q.2
set_option maxRecDepth 100000 in
theorem ck_some {α : Type} {c : Prop} [Decidable c] {k : Option α} {r : α} (h : ck c k = some r) : c ∧ k = some r := by sorry
set_option maxRecDepth 100000 in
theorem ck_pos {α : Type} {c : Prop} [Decidable c] {k : Option α} (hc : c) : ck c k = k := by sorry
set_option maxRecDepth 100000 in
theorem lt_some {α β : Type} {x : α} {f : α → Option β} {r : β} (h : lt x f = some r) : f x = some r := by sorry
set_option maxRecDepth 100000 in
theorem lt_ex {α β : Type} {x : α} {f : α → Option β} {r : β} (h : lt x f = some r) : ∃ y, y = x ∧ f y = some r := by sorry
set_option maxRecDepth 100000 in
theorem bn_some {α : Type} {x : OR} {f : Int → NW → Option α} {r : α} (h : bn x f = some r) : ∃ v N, x = some (v, N) ∧ f v N = some r := by sorry
set_option maxRecDepth 100000 in
theorem bn_eq {α : Type} {v : Int} {N : NW} {f : Int → NW → Option α} : bn (some (v, N)) f = f v N := by sorry
set_option maxRecDepth 100000 in
theorem if_t {α : Type} {c : Prop} [Decidable c] {a b : Option α} {r : α} (h : (if c then a else b) = some r) (hc : c) : a = some r := by sorry
set_option maxRecDepth 100000 in
theorem if_f {α : Type} {c : Prop} [Decidable c] {a b : Option α} {r : α} (h : (if c then a else b) = some r) (hc : ¬ c) : b = some r := by sorry
section RN
variable {C : MC} {Z : ZZ} {pc pc' : Nat} {L : List (Nat × AV)} {st : List AV} {N : NW} {R : RW_} {kc ks : Nat}
set_option maxRecDepth 100000 in
theorem n_iald {a n : Nat} {i : Int} (hd : DI C.2.2.2.1 pc pc' .iaload 1) (hs : R.2.1 a = (0, n)) (hb : 0 ≤ i ∧ i < n) (k : AW C Z pc' L (vi (N a i) :: st) (N, R) kc ks) : AW C Z pc L (vi i :: vr (some a) :: st) (N, R) kc ks := by sorry
set_option maxRecDepth 100000 in
theorem n_zald {a n : Nat} {i : Int} (hd : DI C.2.2.2.1 pc pc' .baload 1) (hs : R.2.1 a = (3, n)) (hb : 0 ≤ i ∧ i < n) (k : AW C Z pc' L (vi (N a i) :: st) (N, R) kc ks) : AW C Z pc L (vi i :: vr (some a) :: st) (N, R) kc ks := by sorry
set_option maxRecDepth 100000 in
theorem n_bald {a n : Nat} {i : Int} (hd : DI C.2.2.2.1 pc pc' .baload 1) (hs : R.2.1 a = (1, n)) (hb : 0 ≤ i ∧ i < n) (k : AW C Z pc' L (vi (N a i) :: st) (N, R) kc ks) : AW C Z pc L (vi i :: vr (some a) :: st) (N, R) kc ks := by sorry
set_option maxRecDepth 100000 in
theorem n_lald {a n : Nat} {i : Int} (hd : DI C.2.2.2.1 pc pc' .laload 1) (hs : R.2.1 a = (2, n)) (hb : 0 ≤ i ∧ i < n) (k : AW C Z pc' L (vl (N a i) :: st) (N, R) kc ks) : AW C Z pc L (vi i :: vr (some a) :: st) (N, R) kc ks := by sorry
set_option maxRecDepth 100000 in
theorem n_iast {a n : Nat} {i x : Int} (hd : DI C.2.2.2.1 pc pc' .iastore 1) (ha : xK ≤ a) (hs : R.2.1 a = (0, n)) (hb : 0 ≤ i ∧ i < n) {N' : NW} (hN : N' = up2 N a i x) (k : AW C Z pc' L st (N', R) kc ks) : AW C Z pc L (vi x :: vi i :: vr (some a) :: st) (N, R) kc ks := by sorry
set_option maxRecDepth 100000 in
theorem n_zast {a n : Nat} {i x : Int} (hd : DI C.2.2.2.1 pc pc' .bastore 1) (ha : xK ≤ a) (hs : R.2.1 a = (3, n)) (hb : (0 ≤ i ∧ i < n) ∧ 0 ≤ x ∧ x < 2) {N' : NW} (hN : N' = up2 N a i x) (k : AW C Z pc' L st (N', R) kc ks) : AW C Z pc L (vi x :: vi i :: vr (some a) :: st) (N, R) kc ks := by sorry
set_option maxRecDepth 100000 in
theorem n_bast {a n : Nat} {i x : Int} (hd : DI C.2.2.2.1 pc pc' .bastore 1) (ha : xK ≤ a) (hs : R.2.1 a = (1, n)) (hb : (0 ≤ i ∧ i < n) ∧ -128 ≤ x ∧ x < 128) {N' : NW} (hN : N' = up2 N a i x) (k : AW C Z pc' L st (N', R) kc ks) : AW C Z pc L (vi x :: vi i :: vr (some a) :: st) (N, R) kc ks := by sorry
set_option maxRecDepth 100000 in
theorem n_last {a n : Nat} {i x : Int} (hd : DI C.2.2.2.1 pc pc' .lastore 1) (ha : xK ≤ a) (hs : R.2.1 a = (2, n)) (hb : 0 ≤ i ∧ i < n) {N' : NW} (hN : N' = up2 N a i x) (k : AW C Z pc' L st (N', R) kc ks) : AW C Z pc L (vl x :: vi i :: vr (some a) :: st) (N, R) kc ks := by sorry
set_option maxRecDepth 100000 in
theorem n_geti {a ci n k idx : Nat} {ty : FieldType} (hF : FL C.2.2.1 idx ci n k ty) (hd : DI C.2.2.2.1 pc pc' (.getfield idx) 3) (hs : R.2.1 a = (ci + 8, n)) (ht : tI ty = true) {z : Int} (hz : (k : Int) = z) (kk : AW C Z pc' L (vi (N a z) :: st) (N, R) kc ks) : AW C Z pc L (vr (some a) :: st) (N, R) kc ks := by sorry
set_option maxRecDepth 100000 in
theorem n_getl {a ci n k idx : Nat} (hF : FL C.2.2.1 idx ci n k .long) (hd : DI C.2.2.2.1 pc pc' (.getfield idx) 3) (hs : R.2.1 a = (ci + 8, n)) {z : Int} (hz : (k : Int) = z) (kk : AW C Z pc' L (vl (N a z) :: st) (N, R) kc ks) : AW C Z pc L (vr (some a) :: st) (N, R) kc ks := by sorry
set_option maxRecDepth 100000 in
theorem n_getr {a ci n k idx c : Nat} {ty : FieldType} (hF : FL C.2.2.1 idx ci n k ty) (hd : DI C.2.2.2.1 pc pc' (.getfield idx) 3) (hs : R.2.1 a = (ci + 8, n)) (ht : tR ty = true) (hr : R.1 a k = some c) (kk : AW C Z pc' L (vr (some c) :: st) (N, R) kc ks) : AW C Z pc L (vr (some a) :: st) (N, R) kc ks := by sorry
set_option maxRecDepth 100000 in
theorem n_puti {a ci n k idx : Nat} {ty : FieldType} {x : Int} (hF : FM C.2.2.1 idx ci n k ty) (hd : DI C.2.2.2.1 pc pc' (.putfield idx) 3) (ha : xK ≤ a) (hs : R.2.1 a = (ci + 8, n)) (ht : tI ty = true) (hok : okN ty x) {z : Int} (hz : (k : Int) = z) {N' : NW} (hN : N' = up2 N a z x) (kk : AW C Z pc' L st (N', R) kc ks) : AW C Z pc L (vi x :: vr (some a) :: st) (N, R) kc ks := by sorry
set_option maxRecDepth 100000 in
theorem n_put32 {a ci n k idx : Nat} {x : Int} (hF : FM C.2.2.1 idx ci n k .int) (hd : DI C.2.2.2.1 pc pc' (.putfield idx) 3) (ha : xK ≤ a) (hs : R.2.1 a = (ci + 8, n)) {z : Int} (hz : (k : Int) = z) {N' : NW} (hN : N' = up2 N a z x) (kk : AW C Z pc' L st (N', R) kc ks) : AW C Z pc L (vi x :: vr (some a) :: st) (N, R) kc ks := by sorry
end RN
set_option maxRecDepth 100000 in
theorem kb {a : Nat} (h : Nat.ble xK a = true) : xK ≤ a := by sorry
set_option maxRecDepth 100000 in
theorem ite01 (c : Prop) [Decidable c] {a b : Int} (ha : 0 ≤ a ∧ a < 2 := by decide) (hb : 0 ≤ b ∧ b < 2 := by decide) : 0 ≤ (if c then a else b) ∧ (if c then a else b) < 2 := by sorry
end

section
set_option maxRecDepth 100000
def mShL : List (Nat × Nat) := [(31, 170), (0, 60000), (0, 30100), (0, 1001), (0, 1001), (0, 1501), (0, 1501), (0, 4096), (0, 4096), (3, 1001), (3, 1001), (0, 1001), (0, 1001), (3, 1001), (0, 1501), (0, 1501), (0, 1501), (0, 30400), (0, 30400), (0, 1501), (0, 1501), (0, 90100), (0, 1501), (0, 1501), (0, 20000), (0, 20000), (0, 1501), (0, 1501), (0, 20001), (3, 20001), (0, 20001), (2, 36024), (0, 1001), (0, 1501), (0, 1001), (0, 1001), (2, 16016), (0, 51), (0, 51), (0, 51), (0, 1001), (3, 1001), (0, 300), (0, 202), (0, 202), (0, 202), (0, 42000), (0, 300), (0, 300), (0, 300), (0, 42000), (0, 1001), (0, 1001), (0, 1002), (3, 1001), (3, 1001), (3, 1001), (0, 1001), (0, 1001), (0, 20001), (0, 20001), (0, 120000), (2, 20001), (0, 24002), (0, 24000), (0, 20001), (0, 20001), (0, 20001), (0, 20001), (0, 40002), (0, 40002), (0, 1501), (0, 1501), (0, 65536), (0, 40002), (0, 1001), (0, 64), (0, 64), (0, 64), (0, 372100), (0, 372100), (2, 6200), (2, 6200), (0, 30002), (0, 30002), (0, 30002), (0, 30002), (0, 30002), (0, 30002), (0, 30002), (2, 30002), (2, 30002), (0, 1501), (0, 3800), (0, 60000), (0, 60000), (0, 60000), (0, 60000), (0, 60000), (0, 120000), (0, 101), (0, 101), (0, 1501), (2, 36024), (0, 1501), (3, 1501), (0, 1501), (3, 1501), (0, 1501), (0, 1501), (0, 460000), (0, 1300), (0, 64), (0, 1001), (0, 1001), (0, 40002)]
def mRfL : List (Option Nat) := [some 644, none, none, some 645, none, some 646, some 647, none, some 648, some 649, some 650, some 651, some 652, some 653, some 654, some 655, some 656, none, none, some 657, some 658, some 659, some 660, some 661, none, some 662, some 663, some 664, none, some 665, some 666, some 667, some 668, none, some 669, some 670, some 671, some 672, some 673, none, some 674, none, none, some 675, none, some 676, none, some 677, some 678, none, some 679, none, some 680, some 681, some 682, none, none, none, none, none, none, some 683, none, some 684, none, none, some 685, none, none, none, none, none, some 686, some 687, some 688, none, some 689, none, some 690, some 691, some 692, none, some 693, none, some 694, some 695, some 696, none, none, some 697, some 698, some 699, some 700, some 701, some 702, some 703, some 704, none, none, none, some 705, some 706, none, some 707, none, some 708, some 709, some 710, some 711, none, some 712, some 713, none, some 714, some 715, none, some 716, some 717, none, some 718, some 719, none, some 720, some 721, some 722, none, some 723, some 724, some 725, some 726, some 727, some 728, some 729, some 730, some 731, some 732, some 733, some 734, none, some 735, none, none, none, some 736, some 737, some 738, some 739, some 740, some 741, some 742, none, none, some 743, some 744, some 745, some 746, some 747, some 748, some 749, some 750, some 751, some 752, some 753, none, some 754, none, some 755, some 756, some 757, some 758]
def mSh (c : Nat) : Nat × Nat := mShL.getD (c - 643) (7, 0)
def mL (c : Nat) : Nat := (mSh c).2
def LyM (R : RW_) : Prop := (∀ c, 643 ≤ c → c < 759 → R.2.1 c = mSh c) ∧ ∀ k : Nat, k < 170 → R.1 643 k = mRfL.getD k none
end
