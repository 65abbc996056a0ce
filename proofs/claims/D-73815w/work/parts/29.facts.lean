/-! FACTS that hold all through a run, beyond lw_all: nest mates, casts, declarations, interfaces, statics, text constants -/
def zNf : List (String × Nat × String × String × String × String) := [("java/util/ArrayList$Itr", 28, "java/util/ArrayList", "size", "I", "java/util/ArrayList"), ("QuotientRows", 162, "QuotientRows$State", "vars", "I", "QuotientRows"), ("QuotientRows", 151, "QuotientRows$State", "generators", "Ljava/util/List;", "QuotientRows"), ("QuotientRows", 165, "QuotientRows$State", "row", "[I", "QuotientRows"), ("QuotientRows$Scan", 36, "QuotientRows", "tape", "[B", "QuotientRows"), ("QuotientRows$State", 32, "QuotientRows$Mono", "power", "[I", "QuotientRows"), ("QuotientRows", 196, "QuotientRows$Mono", "power", "[I", "QuotientRows"), ("QuotientRows$State", 115, "QuotientRows$Mono", "degree", "I", "QuotientRows"), ("QuotientRows", 211, "QuotientRows$Mono", "degree", "I", "QuotientRows")]
def zNm : List (String × Nat × MethodName × String) := [("QuotientRows$Scan", 44, ⟨"QuotientRows", "isIn", "(JJJ)Z"⟩, "QuotientRows"), ("QuotientRows$Mono", 22, ⟨"QuotientRows", "laysOne", "([IIII)V"⟩, "QuotientRows"), ("QuotientRows$Mono", 26, ⟨"QuotientRows", "numberOf", "([III)I"⟩, "QuotientRows"), ("QuotientRows$State", 88, ⟨"QuotientRows", "flag", "(Z)I"⟩, "QuotientRows"), ("QuotientRows$Expansion", 26, ⟨"QuotientRows", "waysHeld", "(JJ)J"⟩, "QuotientRows"), ("QuotientRows$Expansion", 34, ⟨"QuotientRows", "ways", "(JJ)J"⟩, "QuotientRows")]
def zNc : List (String × String) := [("[B", "java/lang/Cloneable"), ("QuotientRows$Fault", "QuotientRows$Fault"), ("java/util/ArrayList", "java/util/List"), ("java/util/ArrayList$Itr", "java/util/Iterator"), ("java/lang/ArithmeticException", "java/lang/ArithmeticException"), ("QuotientRows$State", "java/lang/Object"), ("QuotientRows", "java/lang/Object"), ("java/util/ArrayList", "java/lang/Object"), ("QuotientRowsModel", "java/lang/Object"), ("QuotientRows$Scan", "java/lang/Object"), ("java/lang/StringBuilder", "java/lang/Object"), ("java/lang/String", "java/lang/Object"), ("QuotientRows$Fault", "java/lang/Object"), ("QuotientRows$Mono", "java/lang/Object"), ("java/util/ArrayList$Itr", "java/lang/Object"), ("java/lang/ArithmeticException", "java/lang/Object"), ("QuotientRows$Expansion", "java/lang/Object"), ("java/lang/Throwable", "java/lang/Object"), ("[B", "java/lang/Object"), ("[I", "java/lang/Object"), ("[LQuotientRows$State;", "java/lang/Object"), ("[Ljava/lang/Object;", "java/lang/Object"), ("[J", "java/lang/Object"), ("[Z", "java/lang/Object"), ("[[I", "java/lang/Object")]
def zNd : List MethodName := [⟨"java/lang/Exception", "<init>", "()V"⟩, ⟨"java/lang/Exception", "<init>", "(Ljava/lang/String;)V"⟩, ⟨"java/lang/Throwable", "<init>", "()V"⟩, ⟨"java/lang/Throwable", "<init>", "(Ljava/lang/String;)V"⟩, ⟨"java/util/List", "size", "()I"⟩, ⟨"java/util/List", "add", "(Ljava/lang/Object;)Z"⟩, ⟨"java/util/List", "iterator", "()Ljava/util/Iterator;"⟩, ⟨"java/util/Iterator", "hasNext", "()Z"⟩, ⟨"java/util/Iterator", "next", "()Ljava/lang/Object;"⟩, ⟨"java/util/List", "get", "(I)Ljava/lang/Object;"⟩, ⟨"java/util/List", "remove", "(I)Ljava/lang/Object;"⟩, ⟨"java/util/List", "add", "(ILjava/lang/Object;)V"⟩, ⟨"QuotientRows$Asked", "isSo", "([I)Z"⟩, ⟨"java/lang/RuntimeException", "<init>", "()V"⟩, ⟨"java/lang/RuntimeException", "<init>", "(Ljava/lang/String;)V"⟩, ⟨"java/util/List", "isEmpty", "()Z"⟩, ⟨"QuotientRows$Made", "of", "(LQuotientRows$Mono;LQuotientRows$Mono;)LQuotientRows$Mono;"⟩, ⟨"java/lang/Object", "getClass", "()Ljava/lang/Class;"⟩]
def zFw : List (String × MethodName × MethodName) := [("java/util/ArrayList", ⟨"java/util/List", "size", "()I"⟩, ⟨"java/util/ArrayList", "size", "()I"⟩), ("java/util/ArrayList", ⟨"java/util/List", "add", "(Ljava/lang/Object;)Z"⟩, ⟨"java/util/ArrayList", "add", "(Ljava/lang/Object;)Z"⟩), ("java/util/ArrayList", ⟨"java/util/List", "iterator", "()Ljava/util/Iterator;"⟩, ⟨"java/util/ArrayList", "iterator", "()Ljava/util/Iterator;"⟩), ("java/util/ArrayList", ⟨"java/util/List", "get", "(I)Ljava/lang/Object;"⟩, ⟨"java/util/ArrayList", "get", "(I)Ljava/lang/Object;"⟩), ("java/util/ArrayList", ⟨"java/util/List", "remove", "(I)Ljava/lang/Object;"⟩, ⟨"java/util/ArrayList", "remove", "(I)Ljava/lang/Object;"⟩), ("java/util/ArrayList", ⟨"java/util/List", "add", "(ILjava/lang/Object;)V"⟩, ⟨"java/util/ArrayList", "add", "(ILjava/lang/Object;)V"⟩), ("java/util/ArrayList", ⟨"java/util/List", "isEmpty", "()Z"⟩, ⟨"java/util/ArrayList", "isEmpty", "()Z"⟩), ("java/util/ArrayList$Itr", ⟨"java/util/Iterator", "hasNext", "()Z"⟩, ⟨"java/util/ArrayList$Itr", "hasNext", "()Z"⟩), ("java/util/ArrayList$Itr", ⟨"java/util/Iterator", "next", "()Ljava/lang/Object;"⟩, ⟨"java/util/ArrayList$Itr", "next", "()Ljava/lang/Object;"⟩)]
def zSt : List (String × String × String × Nat) := [("QuotientRows", "CHOOSE", "[[I", 0), ("java/util/ArrayList", "EMPTY_ELEMENTDATA", "[Ljava/lang/Object;", 1), ("java/util/ArrayList", "DEFAULTCAPACITY_EMPTY_ELEMENTDATA", "[Ljava/lang/Object;", 2), ("java/lang/Throwable", "UNASSIGNED_STACK", "[Ljava/lang/StackTraceElement;", 3), ("java/lang/Throwable", "SUPPRESSED_SENTINEL", "Ljava/util/List;", 4)]
def zStr : List (String × Nat × String × Nat) := [("QuotientRows$Scan", 137, "vars", 5), ("QuotientRows$Scan", 124, "gen", 6), ("QuotientRows$Scan", 133, "row", 7), ("QuotientRows$Scan", 68, "", 8), ("java/lang/Math", 116, "long overflow", 9)]
def zFacts (z : Nat) (adr : Nat → Option Nat) (U : State) (H : Heap) : Prop :=
  (∀ q ∈ zNf, va_Nw (.fieldLinkNest q.1 q.2.1 q.2.2.1 q.2.2.2.1 q.2.2.2.2.1 q.2.2.2.2.2) U) ∧ (∀ q ∈ zNm, va_Nw (.methodLinkNest q.1 q.2.1 q.2.2.1 q.2.2.2) U) ∧ (∀ q ∈ zNc, va_Nw (.castable q.1 q.2) U) ∧ (∀ q ∈ zNd, va_Nw (.declares q) U) ∧
  (∀ q ∈ zFw, va_Fw q.1 q.2.1 q.2.2 U) ∧ va_AO "java/lang/Object" U ∧ va_AO "QuotientRows$State" U ∧ (∀ q ∈ zSt, va_Z q.1 q.2.1 q.2.2.1 (va_rf (adr q.2.2.2)) (fun a => z ≤ a) U H) ∧ va_Z "java/lang/String" "COMPACT_STRINGS" "Z" (.int 1) (fun a => z ≤ a) U H ∧
  (∀ q ∈ zStr, ∃ b, adr q.2.2.2 = some b ∧ vk_R q.1 q.2.1 q.2.2.1 b U) ∧ (∃ b, adr 10 = some b ∧ va_Mi "[Ljava/lang/Object;" b U) ∧ vx_L "java/lang/Throwable" "UNASSIGNED_STACK" "[Ljava/lang/StackTraceElement;" (fun a => z ≤ a) U H ∧ vx_L "java/lang/Throwable" "SUPPRESSED_SENTINEL" "Ljava/util/List;" (fun a => z ≤ a) U H
theorem zFw_ok : ∀ q ∈ zFw, q.2.1.cls ≠ "java/lang/invoke/MethodHandle" ∧ q.2.1.cls ≠ "java/lang/invoke/VarHandle" := by decide +kernel
theorem zFacts.moved {z : Nat} {adr : Nat → Option Nat} {u U : State} {H : Heap} (hW : u.WarmedH U.vm) (h : zFacts z adr u H) : zFacts z adr U H := by
  obtain ⟨h1, h2, h3, h4, h5, h6, h7, h8, h9, h10, h11, h12, h13⟩ := h
  refine ⟨fun q hq => (h1 q hq).warmF hW, fun q hq => (h2 q hq).warmM hW, fun q hq => (h3 q hq).warmC hW, fun q hq => (h4 q hq).warmD hW, fun q hq => va_Fw.moved (zFw_ok q hq) hW.alike (h5 q hq), h6.moved hW.alike, h7.moved hW.alike, fun q hq => (h8 q hq).moved hW.alike, h9.moved hW.alike, fun q hq => ?_, ?_, h12.moved hW.alike, h13.moved hW.alike⟩
  · obtain ⟨b, e1, e2⟩ := h10 q hq
    exact ⟨b, e1, vk_R.warm hW e2⟩
  · obtain ⟨b, e1, e2⟩ := h11
    exact ⟨b, e1, e2.moved hW.alike⟩
theorem zFacts.kept {z : Nat} {adr : Nat → Option Nat} {U : State} {H H1 : Heap} (hq : ∀ a : Nat, a < z → H1[a]? = H[a]?) (h : zFacts z adr U H) : zFacts z adr U H1 := by
  obtain ⟨h1, h2, h3, h4, h5, h6, h7, h8, h9, h10, h11, h12, h13⟩ := h
  have hq' : ∀ a : Nat, a < H.size → ¬ z ≤ a → H1[a]? = H[a]? := fun a _ h => hq a (Nat.not_le.mp h)
  exact ⟨h1, h2, h3, h4, h5, h6, h7, fun q h => (h8 q h).kept hq', h9.kept hq', h10, h11, h12.kept hq', h13.kept hq'⟩
def zPv : List MethodName := [⟨"java/lang/AbstractStringBuilder", "ensureCapacityInternal", "(I)V"⟩, ⟨"java/lang/AbstractStringBuilder", "newCapacity", "(I)I"⟩, ⟨"java/lang/AbstractStringBuilder", "inflate", "()V"⟩]
def zLam (adr : Nat → Option Nat) (lam : Nat → ClassId) (U : State) : Prop := ∀ q ∈ zPv, va_Nw (.privateMethod q) U
theorem zLam.moved {adr : Nat → Option Nat} {lam : Nat → ClassId} {u U : State} (hW : u.WarmedH U.vm) (h : zLam adr lam u) : zLam adr lam U := fun q hq => va_tabs rfl (rfl : (u.setVm U.vm).vm = U.vm) (by rw [Cond.privateMethod_setVm hW.alike]; exact h q hq)
def zAll (z : Nat) (adr : Nat → Option Nat) (lam : Nat → ClassId) (U : State) (H : Heap) : Prop := zFacts z adr U H ∧ zLam adr lam U
theorem zAll_ok {G : XG} (h : G.2.2.2.2 = zAll G.1.1 G.1.2.2.2 G.2.2.2.1) : xZ G := by
  unfold xZ
  rw [h]
  exact ⟨fun u U H hW hz => ⟨hz.1.moved hW, hz.2.moved hW⟩, fun U H H1 hq hz => ⟨hz.1.kept hq, hz.2⟩⟩
section
variable {z : Nat} {adr : Nat → Option Nat} {lam : Nat → ClassId} {U : State} {H : Heap}
theorem zf_q190 (h : zAll z adr lam U H) : va_Nw (.fieldLinkNest "java/util/ArrayList$Itr" 28 "java/util/ArrayList" "size" "I" "java/util/ArrayList") U := h.1.1 ("java/util/ArrayList$Itr", 28, "java/util/ArrayList", "size", "I", "java/util/ArrayList") (List.mem_of_getElem? (i := 0) rfl)
theorem zf_q206 (h : zAll z adr lam U H) : va_Nw (.fieldLinkNest "QuotientRows" 162 "QuotientRows$State" "vars" "I" "QuotientRows") U := h.1.1 ("QuotientRows", 162, "QuotientRows$State", "vars", "I", "QuotientRows") (List.mem_of_getElem? (i := 1) rfl)
theorem zf_q208 (h : zAll z adr lam U H) : va_Nw (.fieldLinkNest "QuotientRows" 151 "QuotientRows$State" "generators" "Ljava/util/List;" "QuotientRows") U := h.1.1 ("QuotientRows", 151, "QuotientRows$State", "generators", "Ljava/util/List;", "QuotientRows") (List.mem_of_getElem? (i := 2) rfl)
theorem zf_q210 (h : zAll z adr lam U H) : va_Nw (.fieldLinkNest "QuotientRows" 165 "QuotientRows$State" "row" "[I" "QuotientRows") U := h.1.1 ("QuotientRows", 165, "QuotientRows$State", "row", "[I", "QuotientRows") (List.mem_of_getElem? (i := 3) rfl)
theorem zf_q231 (h : zAll z adr lam U H) : va_Nw (.fieldLinkNest "QuotientRows$Scan" 36 "QuotientRows" "tape" "[B" "QuotientRows") U := h.1.1 ("QuotientRows$Scan", 36, "QuotientRows", "tape", "[B", "QuotientRows") (List.mem_of_getElem? (i := 4) rfl)
theorem zf_q707 (h : zAll z adr lam U H) : va_Nw (.fieldLinkNest "QuotientRows$State" 32 "QuotientRows$Mono" "power" "[I" "QuotientRows") U := h.1.1 ("QuotientRows$State", 32, "QuotientRows$Mono", "power", "[I", "QuotientRows") (List.mem_of_getElem? (i := 5) rfl)
theorem zf_q708 (h : zAll z adr lam U H) : va_Nw (.fieldLinkNest "QuotientRows" 196 "QuotientRows$Mono" "power" "[I" "QuotientRows") U := h.1.1 ("QuotientRows", 196, "QuotientRows$Mono", "power", "[I", "QuotientRows") (List.mem_of_getElem? (i := 6) rfl)
theorem zf_q710 (h : zAll z adr lam U H) : va_Nw (.fieldLinkNest "QuotientRows$State" 115 "QuotientRows$Mono" "degree" "I" "QuotientRows") U := h.1.1 ("QuotientRows$State", 115, "QuotientRows$Mono", "degree", "I", "QuotientRows") (List.mem_of_getElem? (i := 7) rfl)
theorem zf_q711 (h : zAll z adr lam U H) : va_Nw (.fieldLinkNest "QuotientRows" 211 "QuotientRows$Mono" "degree" "I" "QuotientRows") U := h.1.1 ("QuotientRows", 211, "QuotientRows$Mono", "degree", "I", "QuotientRows") (List.mem_of_getElem? (i := 8) rfl)
theorem zm_q385 (h : zAll z adr lam U H) : va_Nw (.methodLinkNest "QuotientRows$Scan" 44 ⟨"QuotientRows", "isIn", "(JJJ)Z"⟩ "QuotientRows") U := h.1.2.1 ("QuotientRows$Scan", 44, ⟨"QuotientRows", "isIn", "(JJJ)Z"⟩, "QuotientRows") (List.mem_of_getElem? (i := 0) rfl)
theorem zm_q950 (h : zAll z adr lam U H) : va_Nw (.methodLinkNest "QuotientRows$Mono" 22 ⟨"QuotientRows", "laysOne", "([IIII)V"⟩ "QuotientRows") U := h.1.2.1 ("QuotientRows$Mono", 22, ⟨"QuotientRows", "laysOne", "([IIII)V"⟩, "QuotientRows") (List.mem_of_getElem? (i := 1) rfl)
theorem zm_q966 (h : zAll z adr lam U H) : va_Nw (.methodLinkNest "QuotientRows$Mono" 26 ⟨"QuotientRows", "numberOf", "([III)I"⟩ "QuotientRows") U := h.1.2.1 ("QuotientRows$Mono", 26, ⟨"QuotientRows", "numberOf", "([III)I"⟩, "QuotientRows") (List.mem_of_getElem? (i := 2) rfl)
theorem zm_q999 (h : zAll z adr lam U H) : va_Nw (.methodLinkNest "QuotientRows$State" 88 ⟨"QuotientRows", "flag", "(Z)I"⟩ "QuotientRows") U := h.1.2.1 ("QuotientRows$State", 88, ⟨"QuotientRows", "flag", "(Z)I"⟩, "QuotientRows") (List.mem_of_getElem? (i := 3) rfl)
theorem zm_q1075 (h : zAll z adr lam U H) : va_Nw (.methodLinkNest "QuotientRows$Expansion" 26 ⟨"QuotientRows", "waysHeld", "(JJ)J"⟩ "QuotientRows") U := h.1.2.1 ("QuotientRows$Expansion", 26, ⟨"QuotientRows", "waysHeld", "(JJ)J"⟩, "QuotientRows") (List.mem_of_getElem? (i := 4) rfl)
theorem zm_q1099 (h : zAll z adr lam U H) : va_Nw (.methodLinkNest "QuotientRows$Expansion" 34 ⟨"QuotientRows", "ways", "(JJ)J"⟩ "QuotientRows") U := h.1.2.1 ("QuotientRows$Expansion", 34, ⟨"QuotientRows", "ways", "(JJ)J"⟩, "QuotientRows") (List.mem_of_getElem? (i := 5) rfl)
theorem zc_q452 (h : zAll z adr lam U H) : va_Nw (.castable "[B" "java/lang/Cloneable") U := h.1.2.2.1 ("[B", "java/lang/Cloneable") (List.mem_of_getElem? (i := 0) rfl)
theorem zc_q610 (h : zAll z adr lam U H) : va_Nw (.castable "QuotientRows$Fault" "QuotientRows$Fault") U := h.1.2.2.1 ("QuotientRows$Fault", "QuotientRows$Fault") (List.mem_of_getElem? (i := 1) rfl)
theorem zc_q694 (h : zAll z adr lam U H) : va_Nw (.castable "java/util/ArrayList" "java/util/List") U := h.1.2.2.1 ("java/util/ArrayList", "java/util/List") (List.mem_of_getElem? (i := 2) rfl)
theorem zc_q810 (h : zAll z adr lam U H) : va_Nw (.castable "java/util/ArrayList$Itr" "java/util/Iterator") U := h.1.2.2.1 ("java/util/ArrayList$Itr", "java/util/Iterator") (List.mem_of_getElem? (i := 3) rfl)
theorem zc_q1061 (h : zAll z adr lam U H) : va_Nw (.castable "java/lang/ArithmeticException" "java/lang/ArithmeticException") U := h.1.2.2.1 ("java/lang/ArithmeticException", "java/lang/ArithmeticException") (List.mem_of_getElem? (i := 4) rfl)
theorem zc_q2105 (h : zAll z adr lam U H) : va_Nw (.castable "QuotientRows$State" "java/lang/Object") U := h.1.2.2.1 ("QuotientRows$State", "java/lang/Object") (List.mem_of_getElem? (i := 5) rfl)
theorem zc_q2106 (h : zAll z adr lam U H) : va_Nw (.castable "QuotientRows" "java/lang/Object") U := h.1.2.2.1 ("QuotientRows", "java/lang/Object") (List.mem_of_getElem? (i := 6) rfl)
theorem zc_q2107 (h : zAll z adr lam U H) : va_Nw (.castable "java/util/ArrayList" "java/lang/Object") U := h.1.2.2.1 ("java/util/ArrayList", "java/lang/Object") (List.mem_of_getElem? (i := 7) rfl)
theorem zc_q2108 (h : zAll z adr lam U H) : va_Nw (.castable "QuotientRowsModel" "java/lang/Object") U := h.1.2.2.1 ("QuotientRowsModel", "java/lang/Object") (List.mem_of_getElem? (i := 8) rfl)
theorem zc_q2109 (h : zAll z adr lam U H) : va_Nw (.castable "QuotientRows$Scan" "java/lang/Object") U := h.1.2.2.1 ("QuotientRows$Scan", "java/lang/Object") (List.mem_of_getElem? (i := 9) rfl)
theorem zc_q2110 (h : zAll z adr lam U H) : va_Nw (.castable "java/lang/StringBuilder" "java/lang/Object") U := h.1.2.2.1 ("java/lang/StringBuilder", "java/lang/Object") (List.mem_of_getElem? (i := 10) rfl)
theorem zc_q2111 (h : zAll z adr lam U H) : va_Nw (.castable "java/lang/String" "java/lang/Object") U := h.1.2.2.1 ("java/lang/String", "java/lang/Object") (List.mem_of_getElem? (i := 11) rfl)
theorem zc_q2112 (h : zAll z adr lam U H) : va_Nw (.castable "QuotientRows$Fault" "java/lang/Object") U := h.1.2.2.1 ("QuotientRows$Fault", "java/lang/Object") (List.mem_of_getElem? (i := 12) rfl)
theorem zc_q2113 (h : zAll z adr lam U H) : va_Nw (.castable "QuotientRows$Mono" "java/lang/Object") U := h.1.2.2.1 ("QuotientRows$Mono", "java/lang/Object") (List.mem_of_getElem? (i := 13) rfl)
theorem zc_q2114 (h : zAll z adr lam U H) : va_Nw (.castable "java/util/ArrayList$Itr" "java/lang/Object") U := h.1.2.2.1 ("java/util/ArrayList$Itr", "java/lang/Object") (List.mem_of_getElem? (i := 14) rfl)
theorem zc_q2115 (h : zAll z adr lam U H) : va_Nw (.castable "java/lang/ArithmeticException" "java/lang/Object") U := h.1.2.2.1 ("java/lang/ArithmeticException", "java/lang/Object") (List.mem_of_getElem? (i := 15) rfl)
theorem zc_q2116 (h : zAll z adr lam U H) : va_Nw (.castable "QuotientRows$Expansion" "java/lang/Object") U := h.1.2.2.1 ("QuotientRows$Expansion", "java/lang/Object") (List.mem_of_getElem? (i := 16) rfl)
theorem zc_q2117 (h : zAll z adr lam U H) : va_Nw (.castable "java/lang/Throwable" "java/lang/Object") U := h.1.2.2.1 ("java/lang/Throwable", "java/lang/Object") (List.mem_of_getElem? (i := 17) rfl)
theorem zc_q2121 (h : zAll z adr lam U H) : va_Nw (.castable "[B" "java/lang/Object") U := h.1.2.2.1 ("[B", "java/lang/Object") (List.mem_of_getElem? (i := 18) rfl)
theorem zc_q2122 (h : zAll z adr lam U H) : va_Nw (.castable "[I" "java/lang/Object") U := h.1.2.2.1 ("[I", "java/lang/Object") (List.mem_of_getElem? (i := 19) rfl)
theorem zc_q2123 (h : zAll z adr lam U H) : va_Nw (.castable "[LQuotientRows$State;" "java/lang/Object") U := h.1.2.2.1 ("[LQuotientRows$State;", "java/lang/Object") (List.mem_of_getElem? (i := 20) rfl)
theorem zc_q2124 (h : zAll z adr lam U H) : va_Nw (.castable "[Ljava/lang/Object;" "java/lang/Object") U := h.1.2.2.1 ("[Ljava/lang/Object;", "java/lang/Object") (List.mem_of_getElem? (i := 21) rfl)
theorem zc_q2125 (h : zAll z adr lam U H) : va_Nw (.castable "[J" "java/lang/Object") U := h.1.2.2.1 ("[J", "java/lang/Object") (List.mem_of_getElem? (i := 22) rfl)
theorem zc_q2126 (h : zAll z adr lam U H) : va_Nw (.castable "[Z" "java/lang/Object") U := h.1.2.2.1 ("[Z", "java/lang/Object") (List.mem_of_getElem? (i := 23) rfl)
theorem zc_q2127 (h : zAll z adr lam U H) : va_Nw (.castable "[[I" "java/lang/Object") U := h.1.2.2.1 ("[[I", "java/lang/Object") (List.mem_of_getElem? (i := 24) rfl)
theorem zw_0 (h : zAll z adr lam U H) : va_Fw "java/util/ArrayList" ⟨"java/util/List", "size", "()I"⟩ ⟨"java/util/ArrayList", "size", "()I"⟩ U := h.1.2.2.2.2.1 ("java/util/ArrayList", ⟨"java/util/List", "size", "()I"⟩, ⟨"java/util/ArrayList", "size", "()I"⟩) (List.mem_of_getElem? (i := 0) rfl)
theorem zw_1 (h : zAll z adr lam U H) : va_Fw "java/util/ArrayList" ⟨"java/util/List", "add", "(Ljava/lang/Object;)Z"⟩ ⟨"java/util/ArrayList", "add", "(Ljava/lang/Object;)Z"⟩ U := h.1.2.2.2.2.1 ("java/util/ArrayList", ⟨"java/util/List", "add", "(Ljava/lang/Object;)Z"⟩, ⟨"java/util/ArrayList", "add", "(Ljava/lang/Object;)Z"⟩) (List.mem_of_getElem? (i := 1) rfl)
theorem zw_2 (h : zAll z adr lam U H) : va_Fw "java/util/ArrayList" ⟨"java/util/List", "iterator", "()Ljava/util/Iterator;"⟩ ⟨"java/util/ArrayList", "iterator", "()Ljava/util/Iterator;"⟩ U := h.1.2.2.2.2.1 ("java/util/ArrayList", ⟨"java/util/List", "iterator", "()Ljava/util/Iterator;"⟩, ⟨"java/util/ArrayList", "iterator", "()Ljava/util/Iterator;"⟩) (List.mem_of_getElem? (i := 2) rfl)
theorem zw_3 (h : zAll z adr lam U H) : va_Fw "java/util/ArrayList" ⟨"java/util/List", "get", "(I)Ljava/lang/Object;"⟩ ⟨"java/util/ArrayList", "get", "(I)Ljava/lang/Object;"⟩ U := h.1.2.2.2.2.1 ("java/util/ArrayList", ⟨"java/util/List", "get", "(I)Ljava/lang/Object;"⟩, ⟨"java/util/ArrayList", "get", "(I)Ljava/lang/Object;"⟩) (List.mem_of_getElem? (i := 3) rfl)
theorem zw_4 (h : zAll z adr lam U H) : va_Fw "java/util/ArrayList" ⟨"java/util/List", "remove", "(I)Ljava/lang/Object;"⟩ ⟨"java/util/ArrayList", "remove", "(I)Ljava/lang/Object;"⟩ U := h.1.2.2.2.2.1 ("java/util/ArrayList", ⟨"java/util/List", "remove", "(I)Ljava/lang/Object;"⟩, ⟨"java/util/ArrayList", "remove", "(I)Ljava/lang/Object;"⟩) (List.mem_of_getElem? (i := 4) rfl)
theorem zw_5 (h : zAll z adr lam U H) : va_Fw "java/util/ArrayList" ⟨"java/util/List", "add", "(ILjava/lang/Object;)V"⟩ ⟨"java/util/ArrayList", "add", "(ILjava/lang/Object;)V"⟩ U := h.1.2.2.2.2.1 ("java/util/ArrayList", ⟨"java/util/List", "add", "(ILjava/lang/Object;)V"⟩, ⟨"java/util/ArrayList", "add", "(ILjava/lang/Object;)V"⟩) (List.mem_of_getElem? (i := 5) rfl)
theorem zw_6 (h : zAll z adr lam U H) : va_Fw "java/util/ArrayList" ⟨"java/util/List", "isEmpty", "()Z"⟩ ⟨"java/util/ArrayList", "isEmpty", "()Z"⟩ U := h.1.2.2.2.2.1 ("java/util/ArrayList", ⟨"java/util/List", "isEmpty", "()Z"⟩, ⟨"java/util/ArrayList", "isEmpty", "()Z"⟩) (List.mem_of_getElem? (i := 6) rfl)
theorem zw_7 (h : zAll z adr lam U H) : va_Fw "java/util/ArrayList$Itr" ⟨"java/util/Iterator", "hasNext", "()Z"⟩ ⟨"java/util/ArrayList$Itr", "hasNext", "()Z"⟩ U := h.1.2.2.2.2.1 ("java/util/ArrayList$Itr", ⟨"java/util/Iterator", "hasNext", "()Z"⟩, ⟨"java/util/ArrayList$Itr", "hasNext", "()Z"⟩) (List.mem_of_getElem? (i := 7) rfl)
theorem zw_8 (h : zAll z adr lam U H) : va_Fw "java/util/ArrayList$Itr" ⟨"java/util/Iterator", "next", "()Ljava/lang/Object;"⟩ ⟨"java/util/ArrayList$Itr", "next", "()Ljava/lang/Object;"⟩ U := h.1.2.2.2.2.1 ("java/util/ArrayList$Itr", ⟨"java/util/Iterator", "next", "()Ljava/lang/Object;"⟩, ⟨"java/util/ArrayList$Itr", "next", "()Ljava/lang/Object;"⟩) (List.mem_of_getElem? (i := 8) rfl)
theorem zs_0 (h : zAll z adr lam U H) : va_Z "QuotientRows" "CHOOSE" "[[I" (va_rf (adr 0)) (fun a => z ≤ a) U H := h.1.2.2.2.2.2.2.2.1 ("QuotientRows", "CHOOSE", "[[I", 0) (List.mem_of_getElem? (i := 0) rfl)
theorem zs_1 (h : zAll z adr lam U H) : va_Z "java/util/ArrayList" "EMPTY_ELEMENTDATA" "[Ljava/lang/Object;" (va_rf (adr 1)) (fun a => z ≤ a) U H := h.1.2.2.2.2.2.2.2.1 ("java/util/ArrayList", "EMPTY_ELEMENTDATA", "[Ljava/lang/Object;", 1) (List.mem_of_getElem? (i := 1) rfl)
theorem zs_2 (h : zAll z adr lam U H) : va_Z "java/util/ArrayList" "DEFAULTCAPACITY_EMPTY_ELEMENTDATA" "[Ljava/lang/Object;" (va_rf (adr 2)) (fun a => z ≤ a) U H := h.1.2.2.2.2.2.2.2.1 ("java/util/ArrayList", "DEFAULTCAPACITY_EMPTY_ELEMENTDATA", "[Ljava/lang/Object;", 2) (List.mem_of_getElem? (i := 2) rfl)
theorem zs_3 (h : zAll z adr lam U H) : va_Z "java/lang/Throwable" "UNASSIGNED_STACK" "[Ljava/lang/StackTraceElement;" (va_rf (adr 3)) (fun a => z ≤ a) U H := h.1.2.2.2.2.2.2.2.1 ("java/lang/Throwable", "UNASSIGNED_STACK", "[Ljava/lang/StackTraceElement;", 3) (List.mem_of_getElem? (i := 3) rfl)
theorem zs_4 (h : zAll z adr lam U H) : va_Z "java/lang/Throwable" "SUPPRESSED_SENTINEL" "Ljava/util/List;" (va_rf (adr 4)) (fun a => z ≤ a) U H := h.1.2.2.2.2.2.2.2.1 ("java/lang/Throwable", "SUPPRESSED_SENTINEL", "Ljava/util/List;", 4) (List.mem_of_getElem? (i := 4) rfl)
theorem zt_0 (h : zAll z adr lam U H) : ∃ b, adr 5 = some b ∧ vk_R "QuotientRows$Scan" 137 "vars" b U := h.1.2.2.2.2.2.2.2.2.2.1 ("QuotientRows$Scan", 137, "vars", 5) (List.mem_of_getElem? (i := 0) rfl)
theorem zt_1 (h : zAll z adr lam U H) : ∃ b, adr 6 = some b ∧ vk_R "QuotientRows$Scan" 124 "gen" b U := h.1.2.2.2.2.2.2.2.2.2.1 ("QuotientRows$Scan", 124, "gen", 6) (List.mem_of_getElem? (i := 1) rfl)
theorem zt_2 (h : zAll z adr lam U H) : ∃ b, adr 7 = some b ∧ vk_R "QuotientRows$Scan" 133 "row" b U := h.1.2.2.2.2.2.2.2.2.2.1 ("QuotientRows$Scan", 133, "row", 7) (List.mem_of_getElem? (i := 2) rfl)
theorem zt_3 (h : zAll z adr lam U H) : ∃ b, adr 8 = some b ∧ vk_R "QuotientRows$Scan" 68 "" b U := h.1.2.2.2.2.2.2.2.2.2.1 ("QuotientRows$Scan", 68, "", 8) (List.mem_of_getElem? (i := 3) rfl)
theorem zt_4 (h : zAll z adr lam U H) : ∃ b, adr 9 = some b ∧ vk_R "java/lang/Math" 116 "long overflow" b U := h.1.2.2.2.2.2.2.2.2.2.1 ("java/lang/Math", 116, "long overflow", 9) (List.mem_of_getElem? (i := 4) rfl)
theorem zo_0 (h : zAll z adr lam U H) : va_AO "java/lang/Object" U := h.1.2.2.2.2.2.1
theorem zo_1 (h : zAll z adr lam U H) : va_AO "QuotientRows$State" U := h.1.2.2.2.2.2.2.1
theorem zz_cs (h : zAll z adr lam U H) : va_Z "java/lang/String" "COMPACT_STRINGS" "Z" (.int 1) (fun a => z ≤ a) U H := h.1.2.2.2.2.2.2.2.2.1
theorem zz_mi (h : zAll z adr lam U H) : ∃ b, adr 10 = some b ∧ va_Mi "[Ljava/lang/Object;" b U := h.1.2.2.2.2.2.2.2.2.2.2.1
/-- objects of one class may stand where the other is asked -/
def xAsg (C T : String) (U : State) : Prop := ∀ c t : ClassId, U.vm.findClass C = some c → U.vm.findClass T = some t → U.vm.assignable c t = true
theorem xAsg.of {C T : String} (h : va_Nw (.castable C T) U) : xAsg C T U := by
  intro c t h1 h2
  obtain ⟨c0, t1, f1, f2, f3⟩ := Cond.castable_spec (va_Nw.use (A := #[]) rfl h)
  cases h1.symm.trans f1
  cases h2.symm.trans f2
  exact f3
theorem xAsg.self {C : String} {cC : ClassId} (h : ClassAt U C cC) : xAsg C C U := by
  intro c t h1 h2
  cases h.1.symm.trans h1
  cases h1.symm.trans h2
  exact va_assign h
theorem zcast4 (h : zAll z adr lam U H) : ∀ ci r, xcl[ci]? = some r → (ci == 1) || ((4 : Nat) == 4 && ci == 5) → xAsg r.1 "java/lang/Object" U := by
  intro ci r hr hc
  by_cases h1 : ci = 1
  · subst h1; cases hr; exact xAsg.of (zc_q2105 h)
  · by_cases h5 : ci = 5
    · subst h5; cases hr; exact xAsg.of (zc_q2113 h)
    · simp [h1, h5] at hc
theorem zcast5 {G : XG} (hK : xK G U) : ∀ ci r, xcl[ci]? = some r → (ci == 1) || ((5 : Nat) == 4 && ci == 5) → xAsg r.1 "QuotientRows$State" U := by
  intro ci r hr hc
  by_cases h1 : ci = 1
  · subst h1; cases hr; exact xAsg.self (hK.1.1 1 _ rfl).2
  · simp [h1] at hc
theorem nmQ (C : String) (r : Option Nat) : narrow (.object C) (va_rf r) = va_rf r := by cases r <;> rfl
theorem ftQ (C : String) (r : Option Nat) : fits (.object C) (va_rf r) = true := by cases r <;> rfl
theorem nmA (t : FieldType) (r : Option Nat) : narrow (.array t) (va_rf r) = va_rf r := by cases r <;> rfl
theorem ftA (t : FieldType) (r : Option Nat) : fits (.array t) (va_rf r) = true := by cases r <;> rfl
end
