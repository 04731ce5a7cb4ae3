/-! interface calls of the tables -/
def xfw : List (String × MethodName × MethodName) := [("java/util/ArrayList", ⟨"java/util/List", "size", "()I"⟩, ⟨"java/util/ArrayList", "size", "()I"⟩), ("java/util/LinkedList", ⟨"java/util/List", "size", "()I"⟩, ⟨"java/util/LinkedList", "size", "()I"⟩), ("java/util/ArrayList", ⟨"java/util/List", "iterator", "()Ljava/util/Iterator;"⟩, ⟨"java/util/ArrayList", "iterator", "()Ljava/util/Iterator;"⟩), ("java/util/LinkedList", ⟨"java/util/List", "iterator", "()Ljava/util/Iterator;"⟩, ⟨"java/util/AbstractSequentialList", "iterator", "()Ljava/util/Iterator;"⟩), ("java/util/ArrayList$Itr", ⟨"java/util/Iterator", "hasNext", "()Z"⟩, ⟨"java/util/ArrayList$Itr", "hasNext", "()Z"⟩), ("java/util/LinkedList$ListItr", ⟨"java/util/Iterator", "hasNext", "()Z"⟩, ⟨"java/util/LinkedList$ListItr", "hasNext", "()Z"⟩), ("java/util/ArrayList$Itr", ⟨"java/util/Iterator", "next", "()Ljava/lang/Object;"⟩, ⟨"java/util/ArrayList$Itr", "next", "()Ljava/lang/Object;"⟩), ("java/util/LinkedList$ListItr", ⟨"java/util/Iterator", "next", "()Ljava/lang/Object;"⟩, ⟨"java/util/LinkedList$ListItr", "next", "()Ljava/lang/Object;"⟩), ("PayMatch$Invoice", ⟨"PayMatch$Paper", "copy", "()LPayMatch$Paper;"⟩, ⟨"PayMatch$Invoice", "copy", "()LPayMatch$Paper;"⟩), ("PayMatch$Line", ⟨"PayMatch$Paper", "copy", "()LPayMatch$Paper;"⟩, ⟨"PayMatch$Line", "copy", "()LPayMatch$Paper;"⟩), ("PayMatch$Order", ⟨"PayMatch$Paper", "copy", "()LPayMatch$Paper;"⟩, ⟨"PayMatch$Order", "copy", "()LPayMatch$Paper;"⟩), ("PayMatch$Supplier", ⟨"PayMatch$Paper", "copy", "()LPayMatch$Paper;"⟩, ⟨"PayMatch$Supplier", "copy", "()LPayMatch$Paper;"⟩), ("java/util/ArrayList", ⟨"java/util/List", "add", "(Ljava/lang/Object;)Z"⟩, ⟨"java/util/ArrayList", "add", "(Ljava/lang/Object;)Z"⟩), ("java/util/LinkedList", ⟨"java/util/List", "add", "(Ljava/lang/Object;)Z"⟩, ⟨"java/util/LinkedList", "add", "(Ljava/lang/Object;)Z"⟩), ("java/util/ArrayList", ⟨"java/util/List", "get", "(I)Ljava/lang/Object;"⟩, ⟨"java/util/ArrayList", "get", "(I)Ljava/lang/Object;"⟩), ("java/util/LinkedList", ⟨"java/util/List", "get", "(I)Ljava/lang/Object;"⟩, ⟨"java/util/LinkedList", "get", "(I)Ljava/lang/Object;"⟩), ("PayMatch$Book", ⟨"java/lang/Iterable", "iterator", "()Ljava/util/Iterator;"⟩, ⟨"PayMatch$Book", "iterator", "()Ljava/util/Iterator;"⟩), ("java/util/ArrayDeque", ⟨"java/lang/Iterable", "iterator", "()Ljava/util/Iterator;"⟩, ⟨"java/util/ArrayDeque", "iterator", "()Ljava/util/Iterator;"⟩), ("java/util/ArrayList", ⟨"java/lang/Iterable", "iterator", "()Ljava/util/Iterator;"⟩, ⟨"java/util/ArrayList", "iterator", "()Ljava/util/Iterator;"⟩), ("java/util/LinkedList", ⟨"java/lang/Iterable", "iterator", "()Ljava/util/Iterator;"⟩, ⟨"java/util/AbstractSequentialList", "iterator", "()Ljava/util/Iterator;"⟩), ("PayMatch$Line", ⟨"PayMatch$Paper", "weight", "()I"⟩, ⟨"PayMatch$Line", "weight", "()I"⟩), ("PayMatch$Order", ⟨"PayMatch$Paper", "weight", "()I"⟩, ⟨"PayMatch$Order", "weight", "()I"⟩), ("PayMatch$Supplier", ⟨"PayMatch$Paper", "weight", "()I"⟩, ⟨"PayMatch$Supplier", "weight", "()I"⟩), ("java/lang/StringBuilder", ⟨"java/lang/CharSequence", "length", "()I"⟩, ⟨"java/lang/StringBuilder", "length", "()I"⟩), ("java/lang/StringBuilder", ⟨"java/lang/CharSequence", "charAt", "(I)C"⟩, ⟨"java/lang/StringBuilder", "charAt", "(I)C"⟩)]
theorem xfw_ok : ∀ q ∈ xfw, q.2.1.cls ≠ "java/lang/invoke/MethodHandle" ∧ q.2.1.cls ≠ "java/lang/invoke/VarHandle" := by decide +kernel
theorem xfw_of {A : Array Value} {U : State} (h : ∀ w ∈ lw_tbl, w.before A U = true) : ∀ q ∈ xfw, va_Fw q.1 q.2.1 q.2.2 U := by
  intro q hq
  simp only [xfw, List.mem_cons, List.not_mem_nil, or_false] at hq
  rcases hq with rfl | rfl | rfl | rfl | rfl | rfl | rfl | rfl | rfl | rfl | rfl | rfl | rfl | rfl | rfl | rfl | rfl | rfl | rfl | rfl | rfl | rfl | rfl | rfl | rfl
  · exact va_Fw.of (h _ q310) (h _ q309) (h _ q315) (h _ q313) (h _ q311)
  · exact va_Fw.of (h _ q310) (h _ q309) (h _ q321) (h _ q319) (h _ q317)
  · exact va_Fw.of (h _ q338) (h _ q337) (h _ q342) (h _ q340) (h _ q311)
  · exact va_Fw.of (h _ q338) (h _ q337) (h _ q368) (h _ q366) (h _ q317)
  · exact va_Fw.of (h _ q441) (h _ q440) (h _ q463) (h _ q461) (h _ q459)
  · exact va_Fw.of (h _ q441) (h _ q440) (h _ q472) (h _ q470) (h _ q468)
  · exact va_Fw.of (h _ q477) (h _ q476) (h _ q831) (h _ q829) (h _ q459)
  · exact va_Fw.of (h _ q477) (h _ q476) (h _ q844) (h _ q842) (h _ q468)
  · exact va_Fw.of (h _ q855) (h _ q854) (h _ q860) (h _ q858) (h _ q856)
  · exact va_Fw.of (h _ q855) (h _ q854) (h _ q942) (h _ q940) (h _ q938)
  · exact va_Fw.of (h _ q855) (h _ q854) (h _ q1001) (h _ q999) (h _ q997)
  · exact va_Fw.of (h _ q855) (h _ q854) (h _ q1043) (h _ q1041) (h _ q1039)
  · exact va_Fw.of (h _ q1103) (h _ q1102) (h _ q1107) (h _ q1105) (h _ q311)
  · exact va_Fw.of (h _ q1103) (h _ q1102) (h _ q1136) (h _ q1134) (h _ q317)
  · exact va_Fw.of (h _ q1256) (h _ q1255) (h _ q1259) (h _ q1258) (h _ q311)
  · exact va_Fw.of (h _ q1256) (h _ q1255) (h _ q1262) (h _ q1261) (h _ q317)
  · exact va_Fw.of (h _ q1342) (h _ q1341) (h _ q1346) (h _ q1345) (h _ q1343)
  · exact va_Fw.of (h _ q1342) (h _ q1341) (h _ q1351) (h _ q1349) (h _ q1347)
  · exact va_Fw.of (h _ q1342) (h _ q1341) (h _ q342) (h _ q340) (h _ q1373)
  · exact va_Fw.of (h _ q1342) (h _ q1341) (h _ q368) (h _ q366) (h _ q1375)
  · exact va_Fw.of (h _ q1385) (h _ q1384) (h _ q1393) (h _ q1391) (h _ q938)
  · exact va_Fw.of (h _ q1385) (h _ q1384) (h _ q1398) (h _ q1397) (h _ q997)
  · exact va_Fw.of (h _ q1385) (h _ q1384) (h _ q1402) (h _ q1400) (h _ q1039)
  · exact va_Fw.of (h _ q1597) (h _ q1596) (h _ q1605) (h _ q1604) (h _ q1602)
  · exact va_Fw.of (h _ q1609) (h _ q1608) (h _ q1636) (h _ q1634) (h _ q1602)
theorem xfw_0 : (("java/util/ArrayList", ⟨"java/util/List", "size", "()I"⟩, ⟨"java/util/ArrayList", "size", "()I"⟩) : String × MethodName × MethodName) ∈ xfw := List.mem_of_getElem? (i := 0) rfl
theorem xfw_1 : (("java/util/LinkedList", ⟨"java/util/List", "size", "()I"⟩, ⟨"java/util/LinkedList", "size", "()I"⟩) : String × MethodName × MethodName) ∈ xfw := List.mem_of_getElem? (i := 1) rfl
theorem xfw_2 : (("java/util/ArrayList", ⟨"java/util/List", "iterator", "()Ljava/util/Iterator;"⟩, ⟨"java/util/ArrayList", "iterator", "()Ljava/util/Iterator;"⟩) : String × MethodName × MethodName) ∈ xfw := List.mem_of_getElem? (i := 2) rfl
theorem xfw_3 : (("java/util/LinkedList", ⟨"java/util/List", "iterator", "()Ljava/util/Iterator;"⟩, ⟨"java/util/AbstractSequentialList", "iterator", "()Ljava/util/Iterator;"⟩) : String × MethodName × MethodName) ∈ xfw := List.mem_of_getElem? (i := 3) rfl
theorem xfw_4 : (("java/util/ArrayList$Itr", ⟨"java/util/Iterator", "hasNext", "()Z"⟩, ⟨"java/util/ArrayList$Itr", "hasNext", "()Z"⟩) : String × MethodName × MethodName) ∈ xfw := List.mem_of_getElem? (i := 4) rfl
theorem xfw_5 : (("java/util/LinkedList$ListItr", ⟨"java/util/Iterator", "hasNext", "()Z"⟩, ⟨"java/util/LinkedList$ListItr", "hasNext", "()Z"⟩) : String × MethodName × MethodName) ∈ xfw := List.mem_of_getElem? (i := 5) rfl
theorem xfw_6 : (("java/util/ArrayList$Itr", ⟨"java/util/Iterator", "next", "()Ljava/lang/Object;"⟩, ⟨"java/util/ArrayList$Itr", "next", "()Ljava/lang/Object;"⟩) : String × MethodName × MethodName) ∈ xfw := List.mem_of_getElem? (i := 6) rfl
theorem xfw_7 : (("java/util/LinkedList$ListItr", ⟨"java/util/Iterator", "next", "()Ljava/lang/Object;"⟩, ⟨"java/util/LinkedList$ListItr", "next", "()Ljava/lang/Object;"⟩) : String × MethodName × MethodName) ∈ xfw := List.mem_of_getElem? (i := 7) rfl
theorem xfw_8 : (("PayMatch$Invoice", ⟨"PayMatch$Paper", "copy", "()LPayMatch$Paper;"⟩, ⟨"PayMatch$Invoice", "copy", "()LPayMatch$Paper;"⟩) : String × MethodName × MethodName) ∈ xfw := List.mem_of_getElem? (i := 8) rfl
theorem xfw_9 : (("PayMatch$Line", ⟨"PayMatch$Paper", "copy", "()LPayMatch$Paper;"⟩, ⟨"PayMatch$Line", "copy", "()LPayMatch$Paper;"⟩) : String × MethodName × MethodName) ∈ xfw := List.mem_of_getElem? (i := 9) rfl
theorem xfw_10 : (("PayMatch$Order", ⟨"PayMatch$Paper", "copy", "()LPayMatch$Paper;"⟩, ⟨"PayMatch$Order", "copy", "()LPayMatch$Paper;"⟩) : String × MethodName × MethodName) ∈ xfw := List.mem_of_getElem? (i := 10) rfl
theorem xfw_11 : (("PayMatch$Supplier", ⟨"PayMatch$Paper", "copy", "()LPayMatch$Paper;"⟩, ⟨"PayMatch$Supplier", "copy", "()LPayMatch$Paper;"⟩) : String × MethodName × MethodName) ∈ xfw := List.mem_of_getElem? (i := 11) rfl
theorem xfw_12 : (("java/util/ArrayList", ⟨"java/util/List", "add", "(Ljava/lang/Object;)Z"⟩, ⟨"java/util/ArrayList", "add", "(Ljava/lang/Object;)Z"⟩) : String × MethodName × MethodName) ∈ xfw := List.mem_of_getElem? (i := 12) rfl
theorem xfw_13 : (("java/util/LinkedList", ⟨"java/util/List", "add", "(Ljava/lang/Object;)Z"⟩, ⟨"java/util/LinkedList", "add", "(Ljava/lang/Object;)Z"⟩) : String × MethodName × MethodName) ∈ xfw := List.mem_of_getElem? (i := 13) rfl
theorem xfw_14 : (("java/util/ArrayList", ⟨"java/util/List", "get", "(I)Ljava/lang/Object;"⟩, ⟨"java/util/ArrayList", "get", "(I)Ljava/lang/Object;"⟩) : String × MethodName × MethodName) ∈ xfw := List.mem_of_getElem? (i := 14) rfl
theorem xfw_15 : (("java/util/LinkedList", ⟨"java/util/List", "get", "(I)Ljava/lang/Object;"⟩, ⟨"java/util/LinkedList", "get", "(I)Ljava/lang/Object;"⟩) : String × MethodName × MethodName) ∈ xfw := List.mem_of_getElem? (i := 15) rfl
theorem xfw_16 : (("PayMatch$Book", ⟨"java/lang/Iterable", "iterator", "()Ljava/util/Iterator;"⟩, ⟨"PayMatch$Book", "iterator", "()Ljava/util/Iterator;"⟩) : String × MethodName × MethodName) ∈ xfw := List.mem_of_getElem? (i := 16) rfl
theorem xfw_17 : (("java/util/ArrayDeque", ⟨"java/lang/Iterable", "iterator", "()Ljava/util/Iterator;"⟩, ⟨"java/util/ArrayDeque", "iterator", "()Ljava/util/Iterator;"⟩) : String × MethodName × MethodName) ∈ xfw := List.mem_of_getElem? (i := 17) rfl
theorem xfw_18 : (("java/util/ArrayList", ⟨"java/lang/Iterable", "iterator", "()Ljava/util/Iterator;"⟩, ⟨"java/util/ArrayList", "iterator", "()Ljava/util/Iterator;"⟩) : String × MethodName × MethodName) ∈ xfw := List.mem_of_getElem? (i := 18) rfl
theorem xfw_19 : (("java/util/LinkedList", ⟨"java/lang/Iterable", "iterator", "()Ljava/util/Iterator;"⟩, ⟨"java/util/AbstractSequentialList", "iterator", "()Ljava/util/Iterator;"⟩) : String × MethodName × MethodName) ∈ xfw := List.mem_of_getElem? (i := 19) rfl
theorem xfw_20 : (("PayMatch$Line", ⟨"PayMatch$Paper", "weight", "()I"⟩, ⟨"PayMatch$Line", "weight", "()I"⟩) : String × MethodName × MethodName) ∈ xfw := List.mem_of_getElem? (i := 20) rfl
theorem xfw_21 : (("PayMatch$Order", ⟨"PayMatch$Paper", "weight", "()I"⟩, ⟨"PayMatch$Order", "weight", "()I"⟩) : String × MethodName × MethodName) ∈ xfw := List.mem_of_getElem? (i := 21) rfl
theorem xfw_22 : (("PayMatch$Supplier", ⟨"PayMatch$Paper", "weight", "()I"⟩, ⟨"PayMatch$Supplier", "weight", "()I"⟩) : String × MethodName × MethodName) ∈ xfw := List.mem_of_getElem? (i := 22) rfl
theorem xfw_23 : (("java/lang/StringBuilder", ⟨"java/lang/CharSequence", "length", "()I"⟩, ⟨"java/lang/StringBuilder", "length", "()I"⟩) : String × MethodName × MethodName) ∈ xfw := List.mem_of_getElem? (i := 23) rfl
theorem xfw_24 : (("java/lang/StringBuilder", ⟨"java/lang/CharSequence", "charAt", "(I)C"⟩, ⟨"java/lang/StringBuilder", "charAt", "(I)C"⟩) : String × MethodName × MethodName) ∈ xfw := List.mem_of_getElem? (i := 24) rfl
/-! THE SHALLOW LAYER: what a picture says of the machine -/
set_option maxRecDepth 100000
/-- of a Fault only its own field is kept -/
def xTF : u_T := fun _ => ("PayMatch$Fault", "place", "I", true)
abbrev xcl : List vw_C := [(RX0, TX0, 4), (RX1, TX1, 9), (RX2, TX2, 1), (RX3, TX3, 12), (RX4, TX4, 13), (RX5, TX5, 9), (RX6, TX6, 5), (RX7, TX7, 9), (RX9, TX9, 4), (RX10, TX10, 3), (RX11, TX11, 5), ("PayMatch$Fault", xTF, 1), (RJ2, TJ2, 3), (RJ4, TJ4, 4), (RJ5, TJ5, 3), (RJ7, TJ7, 4), (RJ10, TJ10, 4), (RJ13, TJ13, 5), (RJ24, TJ24, 3), (RJ26, TJ26, 6)]
/-- the run's numbers: classes and their slots, array classes, the first address that may be written -/
abbrev xE : Type := va_G × (Nat → ClassId) × Nat
def xA (E : xE) : Nat → Prop := fun q => E.2.2 ≤ q
def xcv (E : xE) (c : xC) : va_E := match c with
  | .inl o => .inr o
  | .inr a => .inl (E.2.1 a.1, a.2)
def xRp (E : xE) (σ : xS) (H : Heap) : Prop := H.size = σ.2.1 ∧ ∀ (q : Nat) (c : xC), σ.1 q = some c → (c = xem ∧ q = σ.2.2.2) ∨ (va_at E.1 xcl (q, xcv E c) H ∧ E.2.2 ≤ q ∧ ∀ a, c = .inr a → a.1 < 7)
def xty : Nat → FieldType := fun t => match t with
  | 0 => .int
  | 1 => .long
  | 2 => .byte
  | 3 => .object "java/lang/Object"
  | 4 => .object "PayMatch$Entry"
  | 5 => .object "PayMatch$Order"
  | _ => .object "PayMatch$Invoice"
def xtyn : Nat → String := fun t => match t with
  | 3 => "java/lang/Object"
  | 4 => "PayMatch$Entry"
  | 5 => "PayMatch$Order"
  | _ => "PayMatch$Invoice"
abbrev xtys (E : xE) : List (ClassId × FieldType) := [(E.2.1 0, .int), (E.2.1 1, .long), (E.2.1 2, .byte), (E.2.1 3, .object "java/lang/Object"), (E.2.1 4, .object "PayMatch$Entry"), (E.2.1 5, .object "PayMatch$Order"), (E.2.1 6, .object "PayMatch$Invoice")]
theorem xtys_at (E : xE) {t : Nat} (h : t < 7) : (xtys E)[t]? = some (E.2.1 t, xty t) := by
  rcases (by omega : t = 0 ∨ t = 1 ∨ t = 2 ∨ t = 3 ∨ t = 4 ∨ t = 5 ∨ t = 6) with rfl | rfl | rfl | rfl | rfl | rfl | rfl <;> rfl
/-- words of the tables that the lists don't carry -/
def xbw (w : Cond) : Bool := match w with
  | .fieldLinkNest .. => true
  | .methodLinkNest .. => true
  | .castable .. => true
  | .declares .. => true
  | _ => false
def xAsg (s : State) (c t : Nat) : Prop := ∀ (r : vw_C) (comp c0 : ClassId), xcl[c]? = some r → s.vm.findClass (xtyn t) = some comp → s.vm.findClass r.1 = some c0 → s.vm.assignable c0 comp = true
/-- private methods of a class above, selected on the class below -/
def xsl : List (String × MethodName) := [("java/lang/StringBuilder", yJ6_ensureCapacityInternal), ("java/lang/StringBuilder", yJ6_inflate)]
def xN (s : State) : Prop := (∀ w ∈ lw_tbl, xbw w = true → va_Nw w s) ∧ (∀ q ∈ xfw, va_Fw q.1 q.2.1 q.2.2 s) ∧ (va_AO "java/lang/Object" s ∧ va_AO "PayMatch$Entry" s ∧ va_AO "PayMatch$Order" s ∧ va_AO "PayMatch$Invoice" s) ∧ (∃ mi, va_Mi "[Ljava/lang/Object;" mi s) ∧ va_Dc s ∧ (∀ c t, xcast c t = true → xAsg s c t) ∧ (∀ q ∈ xsl, va_Nw (.selects q.1 q.2 q.2) s) ∧ va_Nc "PayMatch$Invoice" "PayMatch$Order" s ∧ va_Nc "PayMatch$Order" "PayMatch$Invoice" s
theorem xNw_moved {w : Cond} {s U : State} (hW : s.WarmedH U.vm) (hb : xbw w = true) (h : va_Nw w s) : va_Nw w U := by
  cases w with
  | fieldLinkNest a i b n d h' => exact va_Nw.warmF hW h
  | methodLinkNest a i x h' => exact va_Nw.warmM hW h
  | castable a b => exact va_Nw.warmC hW h
  | declares x => exact va_Nw.warmD hW h
  | _ => cases hb
theorem xN.moved {s U : State} (hW : s.WarmedH U.vm) (h : xN s) : xN U := by
  obtain ⟨h1, h2, ⟨h3, h4, h5, h6⟩, ⟨mi, h7⟩, h8, h9, h10, h11, h12⟩ := h
  have hv := hW.alike
  refine ⟨fun w hw hb => xNw_moved hW hb (h1 w hw hb), fun q hq => (h2 q hq).moved (xfw_ok q hq) hv, ⟨h3.moved hv, h4.moved hv, h5.moved hv, h6.moved hv⟩, ⟨mi, h7.moved hv⟩, h8.moved hv, ?_, (fun q hq => word_at hW (Or.inl rfl) (h10 q hq)), h11.moved hv, h12.moved hv⟩
  intro c t hc r comp c0 e1 e2 e3
  rw [hv.assignable]
  rw [hv.findClass] at e2 e3
  exact h9 c t hc r comp c0 e1 e2 e3
def xK (E : xE) (s : State) : Prop := va_K E.1 xcl (xtys E) s ∧ xN s
theorem xK.moved {E : xE} {s U : State} (hW : s.WarmedH U.vm) (h : xK E s) : xK E U := ⟨h.1.moved hW.alike, h.2.moved hW⟩
/-- statics that nobody writes -/
def xZ1 (A : Nat → Prop) (e0 : Nat) (U : State) (H : Heap) : Prop := va_Z "java/util/ArrayList" "DEFAULTCAPACITY_EMPTY_ELEMENTDATA" "[Ljava/lang/Object;" (.ref e0) A U H ∧ va_T (.object "java/lang/Object") e0 0 (fun _ => .null) A U H ∧ va_Z "java/lang/String" "COMPACT_STRINGS" "Z" (.int 1) A U H ∧ va_Z "java/lang/StringUTF16" "HI_BYTE_SHIFT" "I" (.int 0) A U H ∧ va_Z "java/lang/StringUTF16" "LO_BYTE_SHIFT" "I" (.int 8) A U H ∧ va_Z "java/lang/StringUTF16" "$assertionsDisabled" "Z" (.int 1) A U H
def xZ2 (A : Nat → Prop) (U : State) (H : Heap) : Prop := va_Zq "jdk/internal/util/Preconditions" "SIOOBE_FORMATTER" "Ljava/util/function/BiFunction;" A U H ∧ vx_Zq Bundle.tN "UNASSIGNED_STACK" Bundle.steD A U H ∧ vx_Zq Bundle.tN "SUPPRESSED_SENTINEL" Bundle.listD A U H
def xZ (E : xE) (e0 : Nat) (s : State) : Prop := xZ1 (xA E) e0 s s.heap ∧ xZ2 (xA E) s s.heap
theorem xZ.to {E : xE} {e0 : Nat} {s U : State} {H : Heap} {locs : List Loc} (h : xZ E e0 s) (hS : va_S (xA E) s.heap H locs) (hU : U.heap = H) (hW : s.WarmedH U.vm) : xZ E e0 U := by
  obtain ⟨⟨h1, h2, h3, h4, h5, h6⟩, h7⟩ := h
  have hv := hW.alike
  have hq : ∀ a : Nat, a < s.heap.size → ¬ xA E a → U.heap[a]? = s.heap[a]? := fun a x y => by rw [hU]; exact hS.2.1 a x y
  exact ⟨⟨(h1.kept hq).moved hv, (h2.kept hq).moved hv, (h3.kept hq).moved hv, (h4.kept hq).moved hv, (h5.kept hq).moved hv, (h6.kept hq).moved hv⟩, va_Zq.moved hv (va_Zq.kept h7.1 hq), vx_Zq.moved hv (vx_Zq.kept h7.2.1 hq), vx_Zq.moved hv (vx_Zq.kept h7.2.2 hq)⟩
/-- what holds all through a method -/
def xX (E : xE) (R : Room) (p : Program) (m : MethodId) (c : Code) (cc : ByteArray) (nL : Nat) (s : State) (args : Array Value) (own : String) (nm : String) (meth : Method) (ret : Option FieldType) (fr lc : Nat) (σ0 σ9 : xS) : Prop :=
  CallFix p m c cc nL s args lw_all own ∧ xK E s ∧ xZ E σ0.2.2.2 s ∧ (σ9.2.1 - σ0.2.1 ≤ R.cells ∧ σ9.2.2.1 - σ0.2.2.1 ≤ R.slots ∧ fr ≤ R.frames ∧ lc ≤ R.locals) ∧ s.heap.size = σ0.2.1 ∧ E.2.2 ≤ σ0.2.1 ∧ meth.name = nm ∧ meth.sig.returnType = ret ∧ meth.locks = false ∧ σ9.2.2.2 = σ0.2.2.2
/-- the picture now -/
def xI (E : xE) (σ0 σ : xS) (s : State) (H : Heap) (locs : List Loc) (cells slots : Nat) : Prop :=
  xRp E σ H ∧ va_S (xA E) s.heap H locs ∧ cells = σ.2.1 - σ0.2.1 ∧ slots = σ.2.2.1 - σ0.2.2.1 ∧ σ0.2.1 ≤ σ.2.1 ∧ σ0.2.2.1 ≤ σ.2.2.1 ∧ σ.2.2.2 = σ0.2.2.2
/-- a method's start and end -/
def xPc (E : xE) (σ : xS) (av : List Value) : Array Value → State → Prop := fun a U => a = av.toArray ∧ xRp E σ U.heap ∧ xK E U ∧ xZ E σ.2.2.2 U ∧ E.2.2 ≤ U.heap.size
def xQ (E : xE) (σ : xS) (v : Option Value) : Array Value → State → Outcome → State → Prop := fun _ st o t => o = .returned v ∧ xRp E σ t.heap ∧ va_F (xA E) st t
abbrev xrm (fr lc : Nat) (σ σ' : xS) : Room := { frames := fr, cells := σ'.2.1 - σ.2.1, slots := σ'.2.2.1 - σ.2.2.1, locals := lc }
/-- THE CONTRACT of a method, whatever it does: from the picture σ it comes to the picture σ', with the answer v -/
def xMet (E : xE) (l : Launch) (y : MethodName) (ws : List Cond) (fr lc : Nat) (av : List Value) (σ σ' : xS) (v : Option Value) : Prop :=
  Met l y ws (xrm fr lc σ σ') (xPc E σ av) (xQ E σ' v) (σ'.2.1 - σ.2.1) (σ'.2.2.1 - σ.2.2.1) (xA E)
abbrev xMQ (E : xE) (below : List Frame) (args : Array Value) (s : State) (σ0 σ9 : xS) (v : Option Value) : State → Prop := MQ below (xQ E σ9 v) args s (σ9.2.1 - σ0.2.1) (σ9.2.2.1 - σ0.2.2.1) (xA E)
theorem xstart {E : xE} {l : Launch} {y : MethodName} {cc : ByteArray} {maxL : Nat} {ret : Option FieldType} {fr lc : Nat} {av : List Value} {σ σ' : xS} {v : Option Value} (hy : plainFor y = true) (hm : σ.2.1 ≤ σ'.2.1 ∧ σ.2.2.1 ≤ σ'.2.2.1 ∧ σ'.2.2.2 = σ.2.2.2) (hle : (lg_sl av).length ≤ maxL)
    (body : ∀ (p : Program) (e : Env) (s : State) (m : MethodId) (args : Array Value) (below : List Frame) (meth : Method) (c : Code) (H : Heap) (locs : List Loc) (cells slots : Nat) (ls : Array Slot) (R : Room), xX E R p m c cc maxL s args y.cls y.name meth ret fr lc σ σ' → xI E σ σ s H locs cells slots → lv_has ls maxL (lv_args 0 av) →
      W p l e R s m args below meth c H locs cells slots (xMQ E below args s σ σ' v) (F0 m 0 ls [])) : xMet E l y (ws_ y cc maxL ret) fr lc av σ σ' v := by
  refine va_MetF (cc := cc) (maxL := maxL) (ret := ret) hy rfl ?_
  intro p e s m args below meth c s₁ B hml hv
  obtain ⟨rfl, hR, hK, hZ, hb0⟩ := hv
  have hts := atoms_spec (ws := ws_ y cc maxL ret) B.pre
  have hts : ∀ w ∈ lw_all, w.before _ s = true := fun w h => hts w (List.mem_cons_of_mem _ h)
  have hown : s.vm.findClass y.cls = some m.cls := findClass_of_methodNamed B.named
  have hin : meth.name = y.name := (name_of_methodNamed B.named B.method).1
  have hl := lv_entry av (n := maxL) hle
  rw [lg_entry_eq]
  generalize (lg_sl av ++ List.replicate (maxL - (lg_sl av).length) Slot.unset).toArray = ls at hl ⊢
  exact body p e s m av.toArray below meth c s.heap [] 0 0 ls (xrm fr lc σ σ') ⟨⟨B.exec, B.bytes, hml, hown, hts⟩, hK, hZ, ⟨Nat.le_refl _, Nat.le_refl _, Nat.le_refl _, Nat.le_refl _⟩, hR.1, by rw [← hR.1]; exact hb0, hin, B.returns, B.notSynchronized, hm.2.2⟩ ⟨hR, va_S.rf, (Nat.sub_self _).symm, (Nat.sub_self _).symm, Nat.le_refl _, Nat.le_refl _, rfl⟩ hl
/-- links of fields -/
def xCls (c : Nat) (C : String) (T : u_T) (N : Nat) (tyf : Nat → FieldType) : Prop := xcl[c]? = some (C, T, N) ∧ (∀ w ∈ u_ws C T N, w ∈ lw_all) ∧ (∀ k, k < N → parseFieldDescriptor (T k).2.2.1 = some (tyf k)) ∧ ∀ a, a < N → ∀ b, b < N → a ≠ b → (T a).2.1 ≠ (T b).2.1
def xLk (own : String) (idx c k : Nat) (ty : FieldType) (fin : Bool) : Prop := ∃ (C : String) (T : u_T) (N : Nat) (tyf : Nat → FieldType) (ref : String), xCls c C T N tyf ∧ k < N ∧ tyf k = ty ∧ (T k).2.2.2 = fin ∧ (fin = true → (T k).1 = own) ∧ (Cond.fieldLink own idx ref (T k).2.1 (T k).2.2.1 ∈ lw_all ∨ (fin = false ∧ ∃ host, Cond.fieldLinkNest own idx ref (T k).2.1 (T k).2.2.1 host ∈ lw_tbl)) ∧ (ref = (T k).1 ∨ Cond.sameField ref (T k).1 (T k).2.1 (T k).2.2.1 ∈ lw_all)
theorem xLk.link {own : String} {idx c k : Nat} {C : String} {T : u_T} {N : Nat} {tyf : Nat → FieldType} (hC : xCls c C T N tyf) (hk : k < N) (h : Cond.fieldLink own idx (T k).1 (T k).2.1 (T k).2.2.1 ∈ lw_all) (hf : (T k).2.2.2 = true → (T k).1 = own) : xLk own idx c k (tyf k) (T k).2.2.2 := ⟨C, T, N, tyf, _, hC, hk, rfl, rfl, hf, Or.inl h, Or.inl rfl⟩
theorem xLk.nest {own host : String} {idx c k : Nat} {C : String} {T : u_T} {N : Nat} {tyf : Nat → FieldType} (hC : xCls c C T N tyf) (hk : k < N) (h : Cond.fieldLinkNest own idx (T k).1 (T k).2.1 (T k).2.2.1 host ∈ lw_tbl) (hf : (T k).2.2.2 = false) : xLk own idx c k (tyf k) false := ⟨C, T, N, tyf, _, hC, hk, rfl, hf, (fun h => Bool.noConfusion h), Or.inr ⟨rfl, host, h⟩, Or.inl rfl⟩
theorem xLk.up {own ref : String} {idx c k : Nat} {C : String} {T : u_T} {N : Nat} {tyf : Nat → FieldType} (hC : xCls c C T N tyf) (hk : k < N) (h : Cond.fieldLink own idx ref (T k).2.1 (T k).2.2.1 ∈ lw_all) (hf : (T k).2.2.2 = false) (hs : Cond.sameField ref (T k).1 (T k).2.1 (T k).2.2.1 ∈ lw_all) : xLk own idx c k (tyf k) false := ⟨C, T, N, tyf, _, hC, hk, rfl, hf, (fun h => Bool.noConfusion h), Or.inl h, Or.inr hs⟩
/-- a link of a field that is only read, through a nest mate, final or not -/
def xLg (own : String) (idx c k : Nat) : Prop := ∃ (C : String) (T : u_T) (N : Nat) (tyf : Nat → FieldType) (ref : String), xCls c C T N tyf ∧ k < N ∧ (Cond.fieldLink own idx ref (T k).2.1 (T k).2.2.1 ∈ lw_all ∨ ∃ host, Cond.fieldLinkNest own idx ref (T k).2.1 (T k).2.2.1 host ∈ lw_tbl) ∧ (ref = (T k).1 ∨ Cond.sameField ref (T k).1 (T k).2.1 (T k).2.2.1 ∈ lw_all)
theorem xLk.g {own : String} {idx c k : Nat} {ty : FieldType} {fin : Bool} (h : xLk own idx c k ty fin) : xLg own idx c k := by
  obtain ⟨C, T, N, tyf, ref, h1, h2, h3, h4, h5, h6, h7⟩ := h
  exact ⟨C, T, N, tyf, ref, h1, h2, h6.elim Or.inl (fun h => Or.inr h.2), h7⟩
theorem xLg.nest {own host : String} {idx c k : Nat} {C : String} {T : u_T} {N : Nat} {tyf : Nat → FieldType} (hC : xCls c C T N tyf) (hk : k < N) (h : Cond.fieldLinkNest own idx (T k).1 (T k).2.1 (T k).2.2.1 host ∈ lw_tbl) : xLg own idx c k := ⟨C, T, N, tyf, _, hC, hk, Or.inr ⟨host, h⟩, Or.inl rfl⟩
/-- links of classes that are made -/
def xLn (own : String) (idx c : Nat) (fs : List Value) : Prop := ∃ (C : String) (T : u_T) (N : Nat) (tyf : Nat → FieldType), xCls c C T N tyf ∧ Cond.classLink own idx C ∈ lw_all ∧ Cond.instantiable C N ∈ lw_all ∧ Cond.initialized C ∈ lw_all ∧ fs.length = N ∧ ∀ j, j < N → defaultValue (tyf j) = vp_V fs j
