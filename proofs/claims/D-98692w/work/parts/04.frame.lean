/-! THE ENVIRONMENT of the run: static fields, String constants, and the words that do not ride in lw_all -/
set_option maxRecDepth 100000
def hx_sts : List (Nat × String × String × String) := [(0, "java/util/ArrayList", "DEFAULTCAPACITY_EMPTY_ELEMENTDATA", "[Ljava/lang/Object;"), (1, "java/lang/Throwable", "UNASSIGNED_STACK", "[Ljava/lang/StackTraceElement;"), (2, "java/lang/Throwable", "SUPPRESSED_SENTINEL", "Ljava/util/List;"), (3, "jdk/internal/util/Preconditions", "SIOOBE_FORMATTER", "Ljava/util/function/BiFunction;"), (4, "java/lang/String", "COMPACT_STRINGS", "Z"), (5, "java/lang/StringUTF16", "$assertionsDisabled", "Z"), (6, "java/lang/StringUTF16", "HI_BYTE_SHIFT", "I"), (7, "java/lang/StringUTF16", "LO_BYTE_SHIFT", "I"), (8, "BeastsChoose", "OWN", "[Ljava/lang/String;"), (9, "BeastsChoose$Asked", "WORDS", "[Ljava/lang/String;")]
def hx_strs : List (Nat × String × Nat × String) := [(100, "java/lang/String", 7, ""), (101, "BeastsChoose$Scan", 315, "beast"), (102, "BeastsChoose$Scan", 279, "wakes"), (103, "BeastsChoose$Scan", 258, "to"), (104, "BeastsChoose$Scan", 285, "at"), (105, "BeastsChoose$Scan", 319, "guest"), (106, "BeastsChoose$Scan", 300, "comes"), (107, "BeastsChoose$Scan", 323, "taste"), (108, "BeastsChoose$Scan", 327, "fears"), (109, "BeastsChoose$Scan", 330, "likes"), (110, "BeastsChoose$Scan", 232, "if"), (111, "BeastsChoose$Scan", 151, "not"), (112, "BeastsChoose$Scan", 172, "all"), (113, "BeastsChoose$Scan", 149, "and"), (114, "BeastsChoose$Scan", 130, "or"), (115, "BeastsChoose$Scan", 237, "min"), (116, "BeastsChoose$Scan", 239, "max"), (117, "BeastsChoose$Scan", 335, "may"), (118, "BeastsChoose$Scan", 343, "ushers"), (119, "BeastsChoose$Scan", 347, "bores"), (120, "BeastsChoose$Scan", 351, "keeps"), (121, "BeastsChoose$Scan", 355, "fee"), (122, "BeastsChoose$Scan", 359, "rain"), (123, "BeastsChoose", 516, "beast"), (124, "BeastsChoose", 518, "wakes"), (125, "BeastsChoose", 520, "to"), (126, "BeastsChoose", 521, "at"), (127, "BeastsChoose", 522, "taste"), (128, "BeastsChoose", 523, "guest"), (129, "BeastsChoose", 525, "comes"), (130, "BeastsChoose", 527, "fears"), (131, "BeastsChoose", 528, "likes"), (132, "BeastsChoose", 529, "may"), (133, "BeastsChoose", 530, "ushers"), (134, "BeastsChoose", 531, "bores"), (135, "BeastsChoose", 532, "keeps"), (136, "BeastsChoose", 533, "fee"), (137, "BeastsChoose", 534, "rain"), (138, "BeastsChoose", 535, "suits"), (139, "BeastsChoose", 536, "saw"), (140, "BeastsChoose", 537, "hour"), (141, "BeastsChoose", 539, "looks"), (142, "BeastsChoose", 541, "smell"), (143, "BeastsChoose", 543, "talk"), (144, "BeastsChoose", 545, "liking"), (145, "BeastsChoose", 547, "free"), (146, "BeastsChoose", 549, "if"), (147, "BeastsChoose", 551, "or"), (148, "BeastsChoose", 553, "and"), (149, "BeastsChoose", 555, "not"), (150, "BeastsChoose", 557, "all"), (151, "BeastsChoose", 559, "min"), (152, "BeastsChoose", 560, "max"), (153, "BeastsChoose$Asked", 21, "suits"), (154, "BeastsChoose$Asked", 23, "saw"), (155, "BeastsChoose$Asked", 25, "hour"), (156, "BeastsChoose$Asked", 27, "looks"), (157, "BeastsChoose$Asked", 29, "smell"), (158, "BeastsChoose$Asked", 31, "talk"), (159, "BeastsChoose$Asked", 33, "liking"), (160, "BeastsChoose$Asked", 35, "fears"), (161, "BeastsChoose$Asked", 37, "free")]
def hx_nest : List Cond := [
  (Jvm.Cond.methodLinkNest "BeastsChoose" (19 : Nat) ({ cls := "BeastsChoose$Zoo", name := "<init>", desc := "()V" } : Jvm.MethodName) "BeastsChoose"),
  (Jvm.Cond.methodLinkNest "BeastsChoose" (37 : Nat) ({ cls := "BeastsChoose$Asking", name := "<init>", desc := "()V" } : Jvm.MethodName) "BeastsChoose"),
  (Jvm.Cond.methodLinkNest "BeastsChoose" (60 : Nat) ({ cls := "BeastsChoose$Bringing", name := "<init>", desc := "(LBeastsChoose;)V" } : Jvm.MethodName) "BeastsChoose"),
  (Jvm.Cond.fieldLinkNest "BeastsChoose" (425 : Nat) "BeastsChoose$Bringing" "most" "[[I" "BeastsChoose"),
  (Jvm.Cond.fieldLinkNest "BeastsChoose$Scan" (39 : Nat) "BeastsChoose" "tape" "[C" "BeastsChoose"),
  (Jvm.Cond.fieldLinkNest "BeastsChoose$Rounds" (31 : Nat) "BeastsChoose" "park" "LBeastsChoose$Zoo;" "BeastsChoose"),
  (Jvm.Cond.fieldLinkNest "BeastsChoose$Bringing" (23 : Nat) "BeastsChoose" "park" "LBeastsChoose$Zoo;" "BeastsChoose"),
  (Jvm.Cond.fieldLinkNest "BeastsChoose$Bringing" (62 : Nat) "BeastsChoose" "hourNow" "I" "BeastsChoose"),
  (Jvm.Cond.fieldLinkNest "BeastsChoose$Act" (30 : Nat) "BeastsChoose" "told" "Ljava/util/ArrayList;" "BeastsChoose"),
  (Jvm.Cond.methodLinkNest "BeastsChoose$Scan" (17 : Nat) ({ cls := "BeastsChoose$Zoo", name := "<init>", desc := "()V" } : Jvm.MethodName) "BeastsChoose"),
  (Jvm.Cond.castable "BeastsChoose$Fault" "BeastsChoose$Fault"),
  (Jvm.Cond.declares ({ cls := "java/lang/Exception", name := "<init>", desc := "()V" } : Jvm.MethodName)),
  (Jvm.Cond.declares ({ cls := "java/lang/Exception", name := "<init>", desc := "(Ljava/lang/String;)V" } : Jvm.MethodName)),
  (Jvm.Cond.declares ({ cls := "java/lang/Throwable", name := "<init>", desc := "()V" } : Jvm.MethodName)),
  (Jvm.Cond.declares ({ cls := "java/lang/Throwable", name := "<init>", desc := "(Ljava/lang/String;)V" } : Jvm.MethodName)),
  (Jvm.Cond.methodLinkNest "BeastsChoose$Scan" (75 : Nat) ({ cls := "BeastsChoose", name := "isOwn", desc := "(Ljava/lang/String;)Z" } : Jvm.MethodName) "BeastsChoose"),
  (Jvm.Cond.methodLinkNest "BeastsChoose$Scan" (79 : Nat) ({ cls := "BeastsChoose", name := "digitsOf", desc := "(Ljava/lang/String;)I" } : Jvm.MethodName) "BeastsChoose"),
  (Jvm.Cond.methodLinkNest "BeastsChoose$Scan" (108 : Nat) ({ cls := "BeastsChoose", name := "isIn", desc := "(JJJ)Z" } : Jvm.MethodName) "BeastsChoose"),
  (Jvm.Cond.methodLinkNest "BeastsChoose$Scan" (249 : Nat) ({ cls := "BeastsChoose$Zoo", name := "in", desc := "(Ljava/util/ArrayList;Ljava/lang/String;)LBeastsChoose$Named;" } : Jvm.MethodName) "BeastsChoose"),
  (Jvm.Cond.fieldLinkNest "BeastsChoose$Scan" (222 : Nat) "BeastsChoose$Asked" "WORDS" "[Ljava/lang/String;" "BeastsChoose"),
  (Jvm.Cond.methodLinkNest "BeastsChoose$Scan" (176 : Nat) ({ cls := "BeastsChoose$Always", name := "<init>", desc := "()V" } : Jvm.MethodName) "BeastsChoose"),
  (Jvm.Cond.declares ({ cls := "BeastsChoose$Test", name := "not", desc := "()LBeastsChoose$Test;" } : Jvm.MethodName)),
  (Jvm.Cond.castable "BeastsChoose$Against" "BeastsChoose$Test"),
  (Jvm.Cond.castable "BeastsChoose$Always" "BeastsChoose$Test"),
  (Jvm.Cond.castable "BeastsChoose$Not" "BeastsChoose$Test"),
  (Jvm.Cond.castable "BeastsChoose$Several" "BeastsChoose$Test"),
  (Jvm.Cond.fieldLinkNest "BeastsChoose$Scan" (137 : Nat) "BeastsChoose$Several" "tests" "Ljava/util/ArrayList;" "BeastsChoose"),
  (Jvm.Cond.methodLinkNest "BeastsChoose$Scan" (194 : Nat) ({ cls := "BeastsChoose$Chain", name := "<init>", desc := "()V" } : Jvm.MethodName) "BeastsChoose"),
  (Jvm.Cond.castable "[B" "java/lang/Cloneable"),
  (Jvm.Cond.methodLinkNest "BeastsChoose$Act" (46 : Nat) ({ cls := "BeastsChoose", name := "reads", desc := "([I)V" } : Jvm.MethodName) "BeastsChoose"),
  (Jvm.Cond.methodLinkNest "BeastsChoose$Act" (13 : Nat) ({ cls := "BeastsChoose", name := "written", desc := "()[I" } : Jvm.MethodName) "BeastsChoose"),
  (Jvm.Cond.declares ({ cls := "BeastsChoose$Named", name := "isThere", desc := "(I)Z" } : Jvm.MethodName)),
  (Jvm.Cond.methodLinkNest "BeastsChoose$Named" (33 : Nat) ({ cls := "BeastsChoose", name := "isIn", desc := "(JJJ)Z" } : Jvm.MethodName) "BeastsChoose"),
  (Jvm.Cond.declares ({ cls := "BeastsChoose$Sum", name := "of", desc := "(LBeastsChoose$Asking;)J" } : Jvm.MethodName)),
  (Jvm.Cond.castable "BeastsChoose$Asked" "BeastsChoose$Sum"),
  (Jvm.Cond.castable "BeastsChoose$Chain" "BeastsChoose$Sum"),
  (Jvm.Cond.castable "BeastsChoose$Chosen" "BeastsChoose$Sum"),
  (Jvm.Cond.declares ({ cls := "BeastsChoose$Test", name := "holds", desc := "(LBeastsChoose$Asking;)Z" } : Jvm.MethodName)),
  (Jvm.Cond.castable "BeastsChoose$Ends" "BeastsChoose$Sum"),
  (Jvm.Cond.castable "BeastsChoose$Plain" "BeastsChoose$Sum"),
  (Jvm.Cond.methodLinkNest "BeastsChoose$Chain" (31 : Nat) ({ cls := "BeastsChoose", name := "clip", desc := "(J)J" } : Jvm.MethodName) "BeastsChoose"),
  (Jvm.Cond.declares ({ cls := "BeastsChoose$Meant", name := "is", desc := "(LBeastsChoose$Guest;)Z" } : Jvm.MethodName)),
  (Jvm.Cond.methodLinkNest "BeastsChoose$Bringing" (70 : Nat) ({ cls := "BeastsChoose", name := "canCome", desc := "(LBeastsChoose$Beast;LBeastsChoose$Guest;)Z" } : Jvm.MethodName) "BeastsChoose"),
  (Jvm.Cond.methodLinkNest "BeastsChoose$Bringing" (78 : Nat) ({ cls := "BeastsChoose", name := "likes", desc := "(LBeastsChoose$Beast;LBeastsChoose$Guest;)I" } : Jvm.MethodName) "BeastsChoose"),
  (Jvm.Cond.declares ({ cls := "BeastsChoose$Tasted", name := "is", desc := "([I)V" } : Jvm.MethodName)),
  (Jvm.Cond.methodLinkNest "BeastsChoose$Rounds" (63 : Nat) ({ cls := "BeastsChoose", name := "wanted", desc := "(LBeastsChoose$Beast;II)LBeastsChoose$Guest;" } : Jvm.MethodName) "BeastsChoose"),
  (Jvm.Cond.methodLinkNest "BeastsChoose$Rounds" (71 : Nat) ({ cls := "BeastsChoose", name := "likes", desc := "(LBeastsChoose$Beast;LBeastsChoose$Guest;)I" } : Jvm.MethodName) "BeastsChoose"),
  (Jvm.Cond.fieldLinkNest "BeastsChoose" (482 : Nat) "BeastsChoose$Rounds" "holds" "[LBeastsChoose$Guest;" "BeastsChoose"),
  (Jvm.Cond.fieldLinkNest "BeastsChoose" (473 : Nat) "BeastsChoose$Rounds" "gets" "[LBeastsChoose$Guest;" "BeastsChoose"),
  (Jvm.Cond.fieldLinkNest "BeastsChoose" (479 : Nat) "BeastsChoose$Rounds" "left" "[I" "BeastsChoose"),
  (Jvm.Cond.castable "BeastsChoose$Beast" "BeastsChoose$Named"),
  (Jvm.Cond.castable "BeastsChoose$Guest" "BeastsChoose$Named"),
  (Jvm.Cond.castable "BeastsChoose$Guest" "java/lang/Object"),
  (Jvm.Cond.castable "java/lang/String" "java/lang/Object"),
  (Jvm.Cond.castable "BeastsChoose" "java/lang/Object"),
  (Jvm.Cond.castable "BeastsChoose$Zoo" "java/lang/Object"),
  (Jvm.Cond.castable "java/util/ArrayList" "java/lang/Object"),
  (Jvm.Cond.castable "BeastsChoose$Asking" "java/lang/Object"),
  (Jvm.Cond.castable "BeastsChoose$Bringing" "java/lang/Object"),
  (Jvm.Cond.castable "BeastsChooseModel" "java/lang/Object"),
  (Jvm.Cond.castable "BeastsChoose$Scan" "java/lang/Object"),
  (Jvm.Cond.castable "BeastsChoose$Fault" "java/lang/Object"),
  (Jvm.Cond.castable "BeastsChoose$Beast" "java/lang/Object"),
  (Jvm.Cond.castable "BeastsChoose$Plain" "java/lang/Object"),
  (Jvm.Cond.castable "BeastsChoose$Asked" "java/lang/Object"),
  (Jvm.Cond.castable "BeastsChoose$Always" "java/lang/Object"),
  (Jvm.Cond.castable "BeastsChoose$Against" "java/lang/Object"),
  (Jvm.Cond.castable "BeastsChoose$Not" "java/lang/Object"),
  (Jvm.Cond.castable "BeastsChoose$Several" "java/lang/Object"),
  (Jvm.Cond.castable "BeastsChoose$Chosen" "java/lang/Object"),
  (Jvm.Cond.castable "BeastsChoose$Ends" "java/lang/Object"),
  (Jvm.Cond.castable "BeastsChoose$Chain" "java/lang/Object"),
  (Jvm.Cond.castable "java/lang/StringBuilder" "java/lang/Object"),
  (Jvm.Cond.castable "BeastsChoose$Rounds" "java/lang/Object"),
  (Jvm.Cond.castable "BeastsChoose$Act" "java/lang/Object"),
  (Jvm.Cond.castable "java/lang/Throwable" "java/lang/Object"),
  (Jvm.Cond.declares ({ cls := "java/lang/Object", name := "getClass", desc := "()Ljava/lang/Class;" } : Jvm.MethodName)),
  (Jvm.Cond.castable "[C" "java/lang/Object"),
  (Jvm.Cond.castable "[I" "java/lang/Object"),
  (Jvm.Cond.castable "[J" "java/lang/Object"),
  (Jvm.Cond.castable "[LBeastsChoose$Guest;" "java/lang/Object"),
  (Jvm.Cond.castable "[[I" "java/lang/Object"),
  (Jvm.Cond.castable "[B" "java/lang/Object"),
  (Jvm.Cond.castable "[Ljava/lang/Object;" "java/lang/Object"),
  (Jvm.Cond.castable "[Z" "java/lang/Object"),
  (Jvm.Cond.castable "[Ljava/lang/String;" "java/lang/Object")]
def hx_ifs : List (String × MethodName × MethodName) := [("BeastsChoose$Asked", ⟨"BeastsChoose$Sum", "of", "(LBeastsChoose$Asking;)J"⟩, ⟨"BeastsChoose$Asked", "of", "(LBeastsChoose$Asking;)J"⟩), ("BeastsChoose$Chain", ⟨"BeastsChoose$Sum", "of", "(LBeastsChoose$Asking;)J"⟩, ⟨"BeastsChoose$Chain", "of", "(LBeastsChoose$Asking;)J"⟩), ("BeastsChoose$Chosen", ⟨"BeastsChoose$Sum", "of", "(LBeastsChoose$Asking;)J"⟩, ⟨"BeastsChoose$Chosen", "of", "(LBeastsChoose$Asking;)J"⟩), ("BeastsChoose$Ends", ⟨"BeastsChoose$Sum", "of", "(LBeastsChoose$Asking;)J"⟩, ⟨"BeastsChoose$Ends", "of", "(LBeastsChoose$Asking;)J"⟩), ("BeastsChoose$Plain", ⟨"BeastsChoose$Sum", "of", "(LBeastsChoose$Asking;)J"⟩, ⟨"BeastsChoose$Plain", "of", "(LBeastsChoose$Asking;)J"⟩), ("BeastsChoose$Against", ⟨"BeastsChoose$Test", "holds", "(LBeastsChoose$Asking;)Z"⟩, ⟨"BeastsChoose$Against", "holds", "(LBeastsChoose$Asking;)Z"⟩), ("BeastsChoose$Always", ⟨"BeastsChoose$Test", "holds", "(LBeastsChoose$Asking;)Z"⟩, ⟨"BeastsChoose$Always", "holds", "(LBeastsChoose$Asking;)Z"⟩), ("BeastsChoose$Not", ⟨"BeastsChoose$Test", "holds", "(LBeastsChoose$Asking;)Z"⟩, ⟨"BeastsChoose$Not", "holds", "(LBeastsChoose$Asking;)Z"⟩), ("BeastsChoose$Several", ⟨"BeastsChoose$Test", "holds", "(LBeastsChoose$Asking;)Z"⟩, ⟨"BeastsChoose$Several", "holds", "(LBeastsChoose$Asking;)Z"⟩), ("BeastsChoose$Not", ⟨"BeastsChoose$Test", "not", "()LBeastsChoose$Test;"⟩, ⟨"BeastsChoose$Not", "not", "()LBeastsChoose$Test;"⟩)]
/-- a private method of a superclass, called on an object of the subclass -/
def hx_sel2 : List Cond := [.selects "java/lang/StringBuilder" ⟨"java/lang/AbstractStringBuilder", "ensureCapacityInternal", "(I)V"⟩ ⟨"java/lang/AbstractStringBuilder", "ensureCapacityInternal", "(I)V"⟩, .selects "java/lang/StringBuilder" ⟨"java/lang/AbstractStringBuilder", "newCapacity", "(I)I"⟩ ⟨"java/lang/AbstractStringBuilder", "newCapacity", "(I)I"⟩]
/-- a cell: its tag (a class' number, or from 100 on a kind of array), how many places, what they hold -/
abbrev hx_C : Type := Nat × Nat × (Nat → Value)
/-- a heap: how many cells, how many slots in all, what is known of a cell -/
abbrev hx_S : Type := Nat × Nat × (Nat → Option hx_C)
/-- classes, slots of fields, classes of arrays -/
abbrev hx_G : Type := (Nat → ClassId) × (Nat → Nat → Nat) × (Nat → ClassId)
/-- what a run holds fast: the classes; the heap at its start, of which no cell is written; the most cells, the most slots; what static fields and String constants hold -/
abbrev hx_V : Type := hx_G × Heap × Nat × Nat × (Nat → Value)
def hx_aty : Nat → FieldType := fun t => match t with
  | 100 => .int
  | 101 => .char
  | 102 => .byte
  | 103 => .boolean
  | 104 => .long
  | 105 => .object "java/lang/Object"
  | 106 => .object "BeastsChoose$Guest"
  | 107 => .object "java/lang/String"
  | _ => .array .int
def hx_at (D : hx_G) (B q : Nat) (x : hx_C) (H : Heap) : Prop :=
  ∃ cell : Cell, H[q]? = some cell ∧ cell.vm ≠ .unknown ∧ (∀ k, cell.vm ≠ .statics k) ∧ (B ≤ q → cell.vm = .none) ∧
    ((x.1 < 100 ∧ cell.cls = D.1 x.1 ∧ ∀ k, k < x.2.1 → cell.slots[D.2.1 x.1 k]? = some (x.2.2 k)) ∨
     (100 ≤ x.1 ∧ cell.cls = D.2.2 x.1 ∧ cell.slots.size = x.2.1 ∧ ∀ k, k < x.2.1 → cell.slots[k]? = some (x.2.2 k)))
def hx_tot (H : Heap) : Nat := (H.toList.map (fun c => c.slots.size)).sum
def hx_R (V : hx_V) (h : hx_S) (H : Heap) : Prop := H.size = h.1 ∧ hx_tot H = h.2.1 ∧ (∀ (q : Nat) (x : hx_C), h.2.2 q = some x → hx_at V.1 V.2.1.size q x H) ∧ V.2.1.size ≤ H.size ∧ ∀ q : Nat, q < V.2.1.size → H[q]? = V.2.1[q]?
/-- what the tables say: of the classes, the classes of arrays, words, static fields, String constants -/
def hx_K (V : hx_V) (U : State) : Prop :=
  (∀ (c : Nat) (q : vw_C), hx_cls c = some q → u_Kn U q.1 q.2.1 q.2.2 (V.1.1 c) (V.1.2.1 c)) ∧
  (∀ t : Nat, 100 ≤ t → t < 109 → (∃ (k : Class) (comp : ClassId), U.vm.classes[V.1.2.2 t]? = some k ∧ k.kind = .array comp (hx_aty t) ∧ (∀ C : String, hx_aty t = .object C → U.vm.findClass C = some comp) ∧ (∀ y : FieldType, hx_aty t = .array y → U.vm.findClass (FieldType.array y).toString = some comp)) ∧ U.vm.findClass ("[" ++ (hx_aty t).toString) = some (V.1.2.2 t)) ∧
  (∀ w ∈ hx_nest, va_Nw w U) ∧
  (∀ q ∈ hx_ifs, va_Fw q.1 q.2.1 q.2.2 U) ∧
  ((∀ C ∈ ["java/lang/Object", "BeastsChoose$Guest", "java/lang/String"], va_AO C U) ∧ (∀ w ∈ hx_sel2, va_Nw w U) ∧ ∃ mi : Nat, V.2.2.2.2 90 = .ref mi ∧ va_Mi "[Ljava/lang/Object;" mi U) ∧
  (∀ q ∈ hx_sts, va_Z q.2.1 q.2.2.1 q.2.2.2 (V.2.2.2.2 q.1) (fun a => V.2.1.size ≤ a) U V.2.1) ∧
  (∀ q ∈ hx_strs, ∃ a : Nat, V.2.2.2.2 q.1 = .ref a ∧ vk_R q.2.1 q.2.2.1 q.2.2.2 a U)
def hx_nk : Cond → Bool
  | .fieldLinkNest .. => true
  | .methodLinkNest .. => true
  | .castable .. => true
  | .declares .. => true
  | _ => false
theorem hx_nk_all : ∀ w ∈ hx_nest, hx_nk w = true := by decide
theorem hx_nk_on {w : Cond} (h : hx_nk w = true) : w.onTables = true := by cases w <;> first | rfl | cases h
theorem hx_nk_warm {w : Cond} (h : hx_nk w = true) {s U : State} (hW : s.WarmedH U.vm) (hZ : va_Nw w s) : va_Nw w U := by
  cases w <;> first | exact va_Nw.warmF hW hZ | exact va_Nw.warmM hW hZ | exact va_Nw.warmC hW hZ | exact va_Nw.warmD hW hZ | cases h
theorem hx_if_mh : ∀ q ∈ hx_ifs, q.2.1.cls ≠ "java/lang/invoke/MethodHandle" ∧ q.2.1.cls ≠ "java/lang/invoke/VarHandle" := by decide
theorem hx_sel2_good : ∀ w ∈ hx_sel2, goodWord w = true ∧ w.onTables = true := by decide
theorem hx_K.core {V : hx_V} {u U : State} (hvm : u.vm.Alike U.vm) (h : hx_K V u) (h3 : ∀ w ∈ hx_nest, va_Nw w U) (h8 : ∀ w ∈ hx_sel2, va_Nw w U) (h7 : ∀ q ∈ hx_strs, ∃ a : Nat, V.2.2.2.2 q.1 = .ref a ∧ vk_R q.2.1 q.2.2.1 q.2.2.2 a U) : hx_K V U := by
  refine ⟨fun c q hq => u_Kn_moved hvm (h.1 c q hq), fun t h1 h2 => ?_, h3, fun q hq => va_Fw.moved (hx_if_mh q hq) hvm (h.2.2.2.1 q hq), ⟨fun C hC => va_AO.moved hvm (h.2.2.2.2.1.1 C hC), h8, by obtain ⟨mi, e1, e2⟩ := h.2.2.2.2.1.2.2; exact ⟨mi, e1, va_Mi.moved hvm e2⟩⟩, fun q hq => va_Z.moved hvm (h.2.2.2.2.2.1 q hq), h7⟩
  obtain ⟨⟨k, comp, e1, e2, e3, e5⟩, e4⟩ := h.2.1 t h1 h2
  obtain ⟨k', hk', he⟩ := hvm.2.2 _ _ e1
  exact ⟨⟨k', comp, hk', by rw [he]; exact e2, fun C hC => by rw [hvm.findClass]; exact e3 C hC, fun C hC => by rw [hvm.findClass]; exact e5 C hC⟩, by rw [hvm.findClass]; exact e4⟩
theorem hx_K.same {V : hx_V} {u U : State} (hv : U.vm = u.vm) (h : hx_K V u) : hx_K V U :=
  hx_K.core (by rw [hv]; exact Vm.Alike.refl _) h (fun w hw => va_Nw.same (hx_nk_on (hx_nk_all w hw)) hv.symm (h.2.2.1 w hw)) (fun w hw => va_Nw.same (hx_sel2_good w hw).2 hv.symm (h.2.2.2.2.1.2.1 w hw)) (fun q hq => by obtain ⟨a, e1, e2⟩ := h.2.2.2.2.2.2 q hq; exact ⟨a, e1, vk_R.same hv e2⟩)
theorem hx_K.warm {V : hx_V} {u U : State} (hW : u.WarmedH U.vm) (h : hx_K V u) : hx_K V U :=
  hx_K.core hW.alike h (fun w hw => hx_nk_warm (hx_nk_all w hw) hW (h.2.2.1 w hw)) (fun w hw => word_at hW (good_of_word (hx_sel2_good w hw).1) (h.2.2.2.2.1.2.1 w hw)) (fun q hq => by obtain ⟨a, e1, e2⟩ := h.2.2.2.2.2.2 q hq; exact ⟨a, e1, vk_R.warm hW e2⟩)
theorem hx_at.kept {D : hx_G} {B q : Nat} {x : hx_C} {H H1 : Heap} (h : hx_at D B q x H) (e : H1[q]? = H[q]?) : hx_at D B q x H1 := by
  obtain ⟨cell, h1, h2⟩ := h
  exact ⟨cell, by rw [e]; exact h1, h2⟩
theorem hx_at.lt {D : hx_G} {B q : Nat} {x : hx_C} {H : Heap} (h : hx_at D B q x H) : q < H.size := by
  obtain ⟨cell, h1, -⟩ := h
  exact (Array.getElem?_eq_some_iff.mp h1).1
/-- one cell changed -/
def hx_set (h : hx_S) (q : Nat) (x : hx_C) : hx_S := (h.1, h.2.1, fun j => if j = q then some x else h.2.2 j)
/-- one cell more, of n slots -/
def hx_push (h : hx_S) (n : Nat) (x : hx_C) : hx_S := (h.1 + 1, h.2.1 + n, fun j => if j = h.1 then some x else h.2.2 j)
theorem hx_tot_push (H : Heap) (c : Cell) : hx_tot (H.push c) = hx_tot H + c.slots.size := by simp [hx_tot]
theorem hx_tot_eq {H H1 : Heap} (hs : H1.size = H.size) (he : ∀ (q : Nat) (c c' : Cell), H[q]? = some c → H1[q]? = some c' → c'.slots.size = c.slots.size) : hx_tot H1 = hx_tot H := by
  unfold hx_tot
  congr 1
  apply List.ext_getElem?
  intro i
  simp only [List.getElem?_map, Array.getElem?_toList]
  cases h1 : H[i]? with
  | none =>
    have : H1[i]? = none := by
      rw [Array.getElem?_eq_none_iff] at h1 ⊢
      omega
    rw [this]
  | some c =>
    have hlt := (Array.getElem?_eq_some_iff.mp h1).1
    cases h2 : H1[i]? with
    | none =>
      rw [Array.getElem?_eq_none_iff] at h2
      omega
    | some c' => simp [he i c c' h1 h2]
theorem hx_tot_set {H H1 : Heap} {a : Nat} {c c' : Cell} (hs : H1.size = H.size) (h0 : H[a]? = some c) (h1 : H1[a]? = some c') (hz : c'.slots.size = c.slots.size) (hk : ∀ q, q ≠ a → H1[q]? = H[q]?) : hx_tot H1 = hx_tot H := by
  refine hx_tot_eq hs (fun q x x' e1 e2 => ?_)
  by_cases hq : q = a
  · subst hq
    cases h0.symm.trans e1
    cases h1.symm.trans e2
    exact hz
  · rw [hk q hq] at e2
    cases e1.symm.trans e2
    rfl
theorem hx_tot_old {s T : Heap} {P : Nat → Cell → Cell → Prop} (hle : s.size ≤ T.size) (h : ∀ (a : Nat) (c : Cell), s[a]? = some c → ∃ c', T[a]? = some c' ∧ c'.slots.size = c.slots.size) :
    ((T.toList.drop s.size).map (fun c => c.slots.size)).sum + hx_tot s = hx_tot T := by
  have e1 : (T.toList.take s.size).map (fun c => c.slots.size) = s.toList.map (fun c => c.slots.size) := by
    apply List.ext_getElem?
    intro i
    simp only [List.getElem?_map, List.getElem?_take, Array.getElem?_toList]
    by_cases hi : i < s.size
    · rw [if_pos hi]
      obtain ⟨c, hc⟩ : ∃ c, s[i]? = some c := ⟨_, Array.getElem?_eq_getElem hi⟩
      obtain ⟨c', q1, q2⟩ := h i c hc
      rw [hc, q1]
      simp [q2]
    · rw [if_neg hi]
      have : s[i]? = none := by rw [Array.getElem?_eq_none_iff]; omega
      rw [this]
  have e2 : hx_tot T = ((T.toList.take s.size).map (fun c => c.slots.size)).sum + ((T.toList.drop s.size).map (fun c => c.slots.size)).sum := by
    unfold hx_tot
    rw [← List.sum_append, ← List.map_append, List.take_append_drop]
  rw [e2, e1]
  unfold hx_tot
  omega
theorem hx_R.set {V : hx_V} {h : hx_S} {H H1 : Heap} {a : Nat} {x : hx_C} {c c' : Cell} (hR : hx_R V h H) (hB : V.2.1.size ≤ a) (hs : H1.size = H.size) (h0 : H[a]? = some c) (h1 : H1[a]? = some c') (hz : c'.slots.size = c.slots.size) (hk : ∀ q, q ≠ a → H1[q]? = H[q]?) (hx : hx_at V.1 V.2.1.size a x H1) : hx_R V (hx_set h a x) H1 := by
  refine ⟨hs.trans hR.1, (hx_tot_set hs h0 h1 hz hk).trans hR.2.1, fun q y hy => ?_, by rw [hs]; exact hR.2.2.2.1, fun q hq => (hk q (by omega)).trans (hR.2.2.2.2 q hq)⟩
  simp only [hx_set] at hy
  by_cases hq : q = a
  · rw [if_pos hq] at hy
    cases hy
    rw [hq]
    exact hx
  · rw [if_neg hq] at hy
    exact (hR.2.2.1 q y hy).kept (hk q hq)
theorem hx_R.push {V : hx_V} {h : hx_S} {H : Heap} {x : hx_C} {n : Nat} {c : Cell} (hR : hx_R V h H) (hz : c.slots.size = n) (hx : hx_at V.1 V.2.1.size h.1 x (H.push c)) : hx_R V (hx_push h n x) (H.push c) := by
  refine ⟨by rw [Array.size_push, hR.1]; rfl, by rw [hx_tot_push, hR.2.1, hz]; rfl, fun q y hy => ?_, by rw [Array.size_push]; have := hR.2.2.2.1; omega, fun q hq => by have := hR.2.2.2.1; rw [Array.getElem?_push, if_neg (by omega)]; exact hR.2.2.2.2 q hq⟩
  simp only [hx_push] at hy
  by_cases hq : q = h.1
  · rw [if_pos hq] at hy
    cases hy
    rw [hq]
    exact hx
  · rw [if_neg hq] at hy
    have h2 := hR.2.2.1 q y hy
    refine h2.kept ?_
    have := h2.lt
    rw [Array.getElem?_push, if_neg (by omega)]
/-- at the end of an invocation -/
def hx_Q (V : hx_V) (o : Outcome) (h' : hx_S) (below : List Frame) (s : State) (R : Room) : State → Prop := fun t =>
  t.status = .running ∧ Ended t below o ∧ hx_R V h' t.heap ∧ s.WarmedH t.vm ∧ ∃ L, s.sameButNew ({ t with vm := s.vm } : State) L R.cells R.slots ∧ ∀ q ∈ L, V.2.1.size ≤ q.base
/-- what holds all through an invocation -/
def hx_Ctx (V : hx_V) (d : Nat) (y : MethodName) (cc : ByteArray) (nL : Nat) (rt : Option FieldType) (p : Program) (R : Room) (s : State) (m : MethodId) (args : Array Value) (meth : Method) (c : Code) : Prop :=
  (p.tables.exec = Jvm.exec ∧ c.code = cc ∧ c.maxLocals = nL ∧ meth.sig.returnType = rt ∧ meth.locks = false) ∧
  (s.vm.findClass y.cls = some m.cls ∧ meth.name = y.name ∧ (∀ w ∈ lw_all, w.before args s = true) ∧ hx_K V s) ∧
  (R.frames = d ∧ R.locals = 43 * d ∧ s.heap.size + R.cells = V.2.2.1 ∧ hx_tot s.heap + R.slots = V.2.2.2.1 ∧ V.2.1.size ≤ s.heap.size) ∧
  (∀ x ∈ c.exceptionTable.toList, ∀ pc : Nat, covers x pc = false)
/-- what holds here -/
def hx_Dyn (V : hx_V) (s : State) (H : Heap) (h : hx_S) (locs : List Loc) : Prop :=
  hx_R V h H ∧ s.heap.size ≤ h.1 ∧ hx_tot s.heap ≤ h.2.1 ∧ h.1 ≤ V.2.2.1 ∧ h.2.1 ≤ V.2.2.2.1 ∧ ∀ q ∈ locs, V.2.1.size ≤ q.base
/-- THE JUDGEMENT: from pc, with these locals and this operand stack, this heap, the invocation comes to its end: outcome, heap -/
def hx_X (V : hx_V) (d : Nat) (y : MethodName) (cc : ByteArray) (nL : Nat) (rt : Option FieldType) (pc : Nat) (ls : List (Nat × Value)) (st : List Value) (h : hx_S) (r : Outcome × hx_S) : Prop :=
  ∀ (p : Program) (l : Launch) (e : Env) (R : Room) (s : State) (m : MethodId) (args : Array Value) (below : List Frame) (meth : Method) (c : Code) (H : Heap) (locs : List Loc) (A : Array Slot),
    hx_Ctx V d y cc nL rt p R s m args meth c → hx_Dyn V s H h locs → lv_has A nL ls →
    W p l e R s m args below meth c H locs (h.1 - s.heap.size) (h.2.1 - hx_tot s.heap) (hx_Q V r.1 r.2 below s R) (F0 m pc A st)
def hx_P (V : hx_V) (args : List Value) (h : hx_S) : Array Value → State → Prop := fun a U => a = args.toArray ∧ hx_R V h U.heap ∧ hx_K V U ∧ V.2.1.size ≤ U.heap.size
def hx_O (V : hx_V) (o : Outcome) (h h' : hx_S) : Array Value → State → Outcome → State → Prop := fun _ st o2 t =>
  o2 = o ∧ hx_R V h' t.heap ∧ st.WarmedH t.vm ∧ ∃ L, st.sameButNew ({ t with vm := st.vm } : State) L (V.2.2.1 - h.1) (V.2.2.2.1 - h.2.1) ∧ ∀ q ∈ L, V.2.1.size ≤ q.base
def hx_rm (V : hx_V) (d : Nat) (h : hx_S) : Room := { frames := d, cells := V.2.2.1 - h.1, slots := V.2.2.2.1 - h.2.1, locals := 43 * d }
/-- THE CONTRACT OF ONE CALL: method, arguments, heap before; outcome, heap behind; d frames at the most -/
def hx_M (V : hx_V) (d : Nat) (y : MethodName) (cc : ByteArray) (nL : Nat) (rt : Option FieldType) (args : List Value) (h : hx_S) (o : Outcome) (h' : hx_S) : Prop :=
  h.1 ≤ V.2.2.1 → h.2.1 ≤ V.2.2.2.1 → ∀ l, MetFree l y (headSpec (ws_ y cc nL rt) (hx_rm V d h)) (hx_P V args h) (fun _ _ _ _ _ => True) (hx_O V o h h')
theorem hx_tight {p : Program} {l : Launch} {e : Env} {R : Room} {s : State} {m : MethodId} {args : Array Value} {below : List Frame} {meth : Method} {c : Code} {H : Heap} {locs : List Loc} {cells slots : Nat} {Q : State → Prop} {g : JFrame} {cells' slots' : Nat}
    (h1 : H.size ≤ s.heap.size + cells') (h2 : hx_tot H ≤ hx_tot s.heap + slots') (k : W p l e R s m args below meth c H locs cells' slots' Q g) : W p l e R s m args below meth c H locs cells slots Q g := by
  intro T hT X
  refine k T hT { X with same := ?_ }
  obtain ⟨e1, e2, e3, e4, e5, e6⟩ := X.same
  have hT' : (T.setVm s.vm).heap = H := hT
  refine ⟨e1, e2, by rw [hT']; exact h1, e4, ?_, e6⟩
  have hz := hx_tot_old (P := fun _ _ _ => True) e2 (fun a c hc => by obtain ⟨c', q1, q2, q3, q4⟩ := e6 a c hc; exact ⟨c', q1, q3⟩)
  rw [hT'] at hz ⊢
  omega
theorem hx_M.of {V : hx_V} {d : Nat} {y : MethodName} {cc : ByteArray} {nL : Nat} {rt : Option FieldType} {args : List Value} {h : hx_S} {o : Outcome} {h' : hx_S} (hy : plainName y.cls = true) (hn : (lg_sl args).length ≤ nL)
    (k : hx_X V d y cc nL rt 0 (lv_args 0 args) [] h (o, h')) : hx_M V d y cc nL rt args h o h' := by
  intro hc hs l
  refine MetFree.of_bodyS (code := cc) (maxLocals := nL) (ret := rt) hy ?_ ?_
  · intro args s m h hn
    obtain ⟨meth, c, h1, h2, h3, h4, h5, h6, -, -⟩ := Cond.code_spec hn (atoms_spec (ws := ws_ y cc nL rt) h _ List.mem_cons_self)
    exact ⟨meth, c, h1, h2, h3, h4, h5, h6⟩
  · intro p e s m args' below meth c s₁ B hml hP _
    obtain ⟨rfl, hR, hK, hB⟩ := hP
    have hh0 : s₁.heap = s.heap := by rw [B.state]; rfl
    have hts0 := atoms_spec (ws := ws_ y cc nL rt) B.pre
    have hts : ∀ w ∈ lw_all, w.before _ s = true := fun w h => hts0 w (List.mem_cons_of_mem _ h)
    have hemp := B.noHandlers (hts0 _ List.mem_cons_self)
    have e0 : c.exceptionTable.toList = [] := by
      have : c.exceptionTable = #[] := by simpa using hemp
      rw [this]
    have C : hx_Ctx V d y cc nL rt p (hx_rm V d h) s m args.toArray meth c :=
      ⟨⟨B.exec, B.bytes, hml, B.returns, B.notSynchronized⟩, ⟨findClass_of_methodNamed B.named, (name_of_methodNamed B.named B.method).1, hts, hK⟩, ⟨rfl, rfl, by show s.heap.size + (V.2.2.1 - h.1) = _; rw [hR.1]; omega, by show hx_tot s.heap + (V.2.2.2.1 - h.2.1) = _; rw [hR.2.1]; omega, hB⟩, fun x hx => by rw [e0] at hx; cases hx⟩
    have Dn : hx_Dyn V s s.heap h [] := ⟨hR, by rw [hR.1]; exact Nat.le_refl _, by rw [hR.2.1]; exact Nat.le_refl _, hc, hs, fun q hq => by cases hq⟩
    have w := k p l e (hx_rm V d h) s m args.toArray below meth c s.heap [] _ C Dn (lv_entry args hn)
    rw [show h.1 - s.heap.size = 0 by rw [hR.1]; omega, show h.2.1 - hx_tot s.heap = 0 by rw [hR.2.1]; omega] at w
    obtain ⟨t, a1, b1, b2, b3, b4, b5⟩ := w s₁ hh0 (Stand.of_body B)
    refine ⟨t, o, ?_, b1, b2, rfl, b3, b4, b5⟩
    rw [lg_entry_eq]
    exact a1
/-- a call that returns, in the kit's form -/
theorem hx_M.met {V : hx_V} {d : Nat} {y : MethodName} {cc : ByteArray} {nL : Nat} {rt : Option FieldType} {args : List Value} {h : hx_S} {v : Option Value} {h' : hx_S} (M : hx_M V d y cc nL rt args h (.returned v) h') (hc : h.1 ≤ V.2.2.1) (hs : h.2.1 ≤ V.2.2.2.1) (l : Launch) :
    Met l y (ws_ y cc nL rt) (hx_rm V d h) (hx_P V args h) (fun _ _ o t => o = .returned v ∧ hx_R V h' t.heap) (V.2.2.1 - h.1) (V.2.2.2.1 - h.2.1) (fun q => V.2.1.size ≤ q) := by
  intro p e a1 a2 a3 s m args' below a4 a5 a6 a7
  obtain ⟨n, o, b1, b2, b3, b4, b5, b6, L, b7, b8⟩ := M hc hs l p e a1 a2 a3 s m args' below a4 a5 a6 trivial
  exact ⟨n, o, b1, b2, b3, ⟨b4, b5⟩, L, ⟨⟨v, b4⟩, b6, b7⟩, b8⟩
theorem hx_blind (V : hx_V) (args : List Value) (h : hx_S) : FrameBlind (hx_P V args h) := by
  intro a U g mk hp
  obtain ⟨q1, q2, q3, q4⟩ := hp
  exact ⟨q1, q2, hx_K.same (u := U) (U := U.calling g mk a) rfl q3, q4⟩
section HX
variable {V : hx_V} {d d' : Nat} {y : MethodName} {cc : ByteArray} {nL : Nat} {rt : Option FieldType} {pc : Nat} {ls : List (Nat × Value)} {st : List Value} {h h1 : hx_S} {r : Outcome × hx_S}
theorem hx_words {args : Array Value} {s : State} {x : MethodName} {bx : ByteArray} {nx : Nat} {rx : Option FieldType} (ht : ∀ w ∈ lw_all, w.before args s = true) (hc : Cond.code x bx nx rx ∈ lw_all) :
    ∀ w ∈ ws_ x bx nx rx, ∀ (a' : Array Value) (U : State), s.WarmedH U.vm → w.before a' U = true := fun w hw a' U hW => by
  obtain ⟨g1, g2⟩ := lw_meth hc w hw
  exact word_at hW g2 (ht w g1)
/-- a call's back, out of its contract -/
theorem hx_back {p : Program} {l : Launch} {e : Env} {R : Room} {s : State} {m : MethodId} {args : Array Value} {below : List Frame} {meth : Method} {c : Code} {x : MethodName} {bx : ByteArray} {nx : Nat} {rx : Option FieldType} {av : List Value} {v : Option Value} {len : Nat}
    (C : hx_Ctx V (d + 1) y cc nL rt p R s m args meth c) (M : hx_M V d x bx nx rx av h (.returned v) h1) (hc : h.1 ≤ V.2.2.1) (hs : h.2.1 ≤ V.2.2.2.1) (hn : nx ≤ 24) (q1 : Cond.code x bx nx rx ∈ lw_all) (q2 : Cond.initialized x.cls ∈ lw_all) :
    Back l R p e below s args x len 8 (PreOf R (V.2.2.1 - h.1) (V.2.2.2.1 - h.2.1) (hx_P V av h)) (PostOf (fun _ _ o t => o = .returned v ∧ hx_R V h1 t.heap) (V.2.2.1 - h.1) (V.2.2.2.1 - h.2.1) (fun q => V.2.1.size ≤ q)) := by
  obtain ⟨-, ⟨-, -, ht, -⟩, ⟨c1, c2, -⟩, -⟩ := C
  refine back_of (bytes := bx) (maxL := nx) (ret := rx) (M.met hc hs l) (hx_blind V av h) rfl rfl (by rw [c1]; exact Nat.le_refl _) (by rw [c2]; show 8 + (nx + 11) + 43 * d ≤ 43 * (d + 1); omega) (hx_words ht q1) List.mem_cons_self (fun a' U hW => ?_)
  obtain ⟨g1, g2⟩ := lw_self _ q2
  exact word_at hW g2 (ht _ g1)
/-- behind a call -/
theorem hx_behind {p : Program} {l : Launch} {e : Env} {R : Room} {s : State} {m : MethodId} {args : Array Value} {below : List Frame} {meth : Method} {c : Code} {H : Heap} {locs : List Loc} {A : Array Slot} {av : List Value} {v v' : Option Value} {T : State} {vm₁ : Vm} {P : Pt} {pc2 : Nat}
    (C : hx_Ctx V (d + 1) y cc nL rt p R s m args meth c) (Dn : hx_Dyn V s H h locs) (hl : lv_has A nL ls)
    (X' : Stand p l e R s m args below meth c P.U P.locs P.cells P.slots) (hpost : PostOf (fun _ _ o t => o = .returned v ∧ hx_R V h1 t.heap) (V.2.2.1 - h.1) (V.2.2.2.1 - h.2.1) (fun q => V.2.1.size ≤ q) ⟨T.setVm vm₁, locs, h.1 - s.heap.size, h.2.1 - hx_tot s.heap⟩ av.toArray v' P)
    (k : hx_X V (d + 1) y cc nL rt pc2 ls (v.toList ++ st) h1 r) : ∃ t, Steps p.tables e below (P.U.setTop (F0 m pc2 A (v'.toList ++ st))) t ∧ hx_Q V r.1 r.2 below s R t := by
  obtain ⟨g, mk, t, L, p1, p2, ⟨p3, p4⟩, p5, p6, p7, p8⟩ := hpost
  have ev : v' = v := by injection p3
  subst ev
  obtain ⟨d1, d2, d3, d4, d5, d6⟩ := Dn
  obtain ⟨e1, e2, e3, e4, e5, e6⟩ := X'.same
  have e2' : s.heap.size ≤ P.U.heap.size := e2
  have e3' : P.U.heap.size ≤ s.heap.size + P.cells := e3
  have hz : ((P.U.heap.toList.drop s.heap.size).map (fun c => c.slots.size)).sum + hx_tot s.heap = hx_tot P.U.heap := hx_tot_old (P := fun _ _ _ => True) (T := P.U.heap) e2 (fun a c hc => by obtain ⟨c', q1, q2, q3, q4⟩ := e6 a c hc; exact ⟨c', q1, q3⟩)
  have e5' : ((P.U.heap.toList.drop s.heap.size).map (fun c => c.slots.size)).sum ≤ P.slots := e5
  have hR1 : hx_R V h1 P.U.heap := by rw [p1]; exact p4
  have z1 := hR1.1
  have z2 := hR1.2.1
  have p7' : P.cells = (h.1 - s.heap.size) + (V.2.2.1 - h.1) := p7
  have p8' : P.slots = (h.2.1 - hx_tot s.heap) + (V.2.2.2.1 - h.2.1) := p8
  have p5' : P.locs = locs ++ L := p5
  have Dn1 : hx_Dyn V s P.U.heap h1 P.locs := ⟨hR1, by omega, by omega, by omega, by omega, fun q hq => by
    rw [p5'] at hq
    rcases List.mem_append.mp hq with hq | hq
    · exact d6 q hq
    · exact p6 q hq⟩
  have w := k p l e R s m args below meth c P.U.heap P.locs A C Dn1 hl
  have w2 := hx_tight (cells := P.cells) (slots := P.slots) (by omega) (by omega) w
  exact w2 P.U rfl X'
theorem hx_callV {x : MethodName} {bx : ByteArray} {nx : Nat} {rx : Option FieldType} {v : Option Value} {Cn : String} {index b : Nat} {ci N : Nat} {T0 : u_T} {cf : hx_C} (avs : List Value)
    (hd : decode cc pc = .ok (.invokevirtual index, 3)) (M : hx_M V d x bx nx rx (.ref b :: avs) h (.returned v) h1)
    (hb : h.2.2 b = some cf) (hci : cf.1 = ci) (hci2 : ci < 100) (hcl : hx_cls ci = some (Cn, T0, N))
    (q1 : Cond.methodLink y.cls index x ∈ lw_all) (q2 : Cond.instanceMethod x ∈ lw_all) (q3 : Cond.selects Cn x x ∈ lw_all) (q4 : Cond.initialized x.cls ∈ lw_all) (q5 : Cond.code x bx nx rx ∈ lw_all)
    (hp : (x.cls ≠ "java/lang/invoke/MethodHandle" ∧ x.cls ≠ "java/lang/invoke/VarHandle") ∧ (parseMethodDescriptor x.desc).map (fun d => d.parameters.length) = some avs.length) (hn : nx ≤ 24)
    {st0 : List Value} (hst : st0 = avs.reverse ++ .ref b :: st) (hr : (st.map fun v => v.category).sum ≤ 8)
    (k : hx_X V (d + 1) y cc nL rt (pc + 3) ls (v.toList ++ st) h1 r) : hx_X V (d + 1) y cc nL rt pc ls st0 h r := by
  subst hst
  intro p l e R s m args below meth c H locs A C Dn hl T hT X
  obtain ⟨⟨c1, c2, c3, c4, c5⟩, ⟨c6, c7, c8, c9⟩, c10, c11⟩ := id C
  obtain ⟨d1, d2, d3, d4, d5, d6⟩ := id Dn
  have hK := hx_back (l := l) (e := e) (below := below) (len := 3) C M d4 d5 hn q5 q4
  obtain ⟨cell, b1, b2, b3, b4, b5⟩ := d1.2.2.1 b cf hb
  have b5 : cell.cls = V.1.1 ci := by
    rcases b5 with b5 | b5
    · rw [← hci]; exact b5.2.1
    · omega
  have hcls : s.vm.findClass Cn = some cell.cls := by rw [b5]; exact (c9.1 ci _ hcl).2.1
  have z1 : s.heap.size + R.cells = V.2.2.1 := c10.2.2.1
  have z2 : hx_tot s.heap + R.slots = V.2.2.2.1 := c10.2.2.2.1
  have hsize : A.size = c.maxLocals := by rw [c3]; exact hl.1
  have hst : cell.vm.isStatics = false := by
    cases hv : cell.vm <;> first | rfl | exact absurd hv (b3 _)
  have hlen : ∀ sig, parseMethodDescriptor x.desc = some sig → avs.length = sig.parameters.length := by
    intro sig hs
    have h2 := hp.2
    rw [hs] at h2
    exact (Option.some.inj h2).symm
  obtain ⟨v', vm₁, P, w1, X', hpost, hsteps⟩ := callV X c1 (own := y.cls) (C := Cn) (index := index) (y := x) (bytes := bx) (maxL := nx) (ret := rx) c6 (c8 _ q1) (c8 _ q2) (c8 _ q3) (c8 _ q5) hp.1 hK
    (b := b) (cellB := cell) (by rw [hT]; exact b1) hst hcls (g := F0 m pc A (avs.reverse ++ .ref b :: st)) rfl hsize (argsL := avs) (rest := st) hlen rfl (lv_room (m := m) (pc := pc) (ls := A) (rest := avs.reverse ++ .ref b :: st) hr) (by rw [c2]; exact hd)
    (fun vm₁ hw => ⟨by show h.1 - s.heap.size + (V.2.2.1 - h.1) ≤ R.cells; omega, by show h.2.1 - hx_tot s.heap + (V.2.2.2.1 - h.2.1) ≤ R.slots; omega, rfl, by show hx_R V h T.heap; rw [hT]; exact d1, hx_K.warm (u := s) (U := T.setVm vm₁) hw c9, by show V.2.1.size ≤ T.heap.size; rw [hT, d1.1]; have := c10.2.2.2.2; omega⟩)
  obtain ⟨t, a1, a2⟩ := hx_behind (vm₁ := vm₁) (T := T) (av := .ref b :: avs) (pc2 := pc + 3) C Dn hl X' hpost k
  exact ⟨t, hsteps t a1, a2⟩
theorem hx_callS {x : MethodName} {bx : ByteArray} {nx : Nat} {rx : Option FieldType} {v : Option Value} {index : Nat} (avs : List Value)
    (hd : decode cc pc = .ok (.invokestatic index, 3)) (M : hx_M V d x bx nx rx avs h (.returned v) h1)
    (q1 : Cond.methodLink y.cls index x ∈ lw_all) (q2 : Cond.static x ∈ lw_all) (q4 : Cond.initialized x.cls ∈ lw_all) (q5 : Cond.code x bx nx rx ∈ lw_all)
    (hp : (x.cls ≠ "java/lang/invoke/MethodHandle" ∧ x.cls ≠ "java/lang/invoke/VarHandle") ∧ (parseMethodDescriptor x.desc).map (fun d => d.parameters.length) = some avs.length) (hn : nx ≤ 24)
    {st0 : List Value} (hst : st0 = avs.reverse ++ st) (hr : (st.map fun v => v.category).sum ≤ 8)
    (k : hx_X V (d + 1) y cc nL rt (pc + 3) ls (v.toList ++ st) h1 r) : hx_X V (d + 1) y cc nL rt pc ls st0 h r := by
  subst hst
  intro p l e R s m args below meth c H locs A C Dn hl T hT X
  obtain ⟨⟨c1, c2, c3, c4, c5⟩, ⟨c6, c7, c8, c9⟩, c10, c11⟩ := id C
  obtain ⟨d1, d2, d3, d4, d5, d6⟩ := id Dn
  have hK := hx_back (l := l) (e := e) (below := below) (len := 3) C M d4 d5 hn q5 q4
  have z1 : s.heap.size + R.cells = V.2.2.1 := c10.2.2.1
  have z2 : hx_tot s.heap + R.slots = V.2.2.2.1 := c10.2.2.2.1
  have hsize : A.size = c.maxLocals := by rw [c3]; exact hl.1
  have hlen : ∀ sig, parseMethodDescriptor x.desc = some sig → avs.length = sig.parameters.length := by
    intro sig hs
    have h2 := hp.2
    rw [hs] at h2
    exact (Option.some.inj h2).symm
  obtain ⟨v', vm₁, P, w1, X', hpost, hsteps⟩ := callS X c1 (own := y.cls) (index := index) (y := x) (bytes := bx) (maxL := nx) (ret := rx) c6 (c8 _ q1) (c8 _ q2) (c8 _ q4) (c8 _ q5) hp.1 hK
    (g := F0 m pc A (avs.reverse ++ st)) rfl hsize (argsL := avs) (rest := st) hlen rfl (lv_room (m := m) (pc := pc) (ls := A) (rest := avs.reverse ++ st) hr) (by rw [c2]; exact hd)
    (fun vm₁ hw => ⟨by show h.1 - s.heap.size + (V.2.2.1 - h.1) ≤ R.cells; omega, by show h.2.1 - hx_tot s.heap + (V.2.2.2.1 - h.2.1) ≤ R.slots; omega, rfl, by show hx_R V h T.heap; rw [hT]; exact d1, hx_K.warm (u := s) (U := T.setVm vm₁) hw c9, by show V.2.1.size ≤ T.heap.size; rw [hT, d1.1]; have := c10.2.2.2.2; omega⟩)
  obtain ⟨t, a1, a2⟩ := hx_behind (vm₁ := vm₁) (T := T) (av := avs) (pc2 := pc + 3) C Dn hl X' hpost k
  exact ⟨t, hsteps t a1, a2⟩
end HX
section HR
variable {V : hx_V} {d : Nat} {y : MethodName} {cc : ByteArray} {nL : Nat} {rt : Option FieldType} {pc : Nat} {ls : List (Nat × Value)} {st : List Value} {h h1 : hx_S} {r : Outcome × hx_S}
theorem hx_iconst {n : Int} (v : Int32) (hd : decode cc pc = .ok (.iconst n, 1)) (hv : Int32.ofInt n = v) (k : hx_X V d y cc nL rt (pc + 1) ls (.int v :: st) h r) : hx_X V d y cc nL rt pc ls st h r := fun p l e R s m args below meth c H locs A C Dn hl => lv_iconst C.1.1 C.1.2.1 hd hv (k p l e R s m args below meth c H locs A C Dn hl)
theorem hx_bipush {n : Int} (v : Int32) (hd : decode cc pc = .ok (.bipush n, 2)) (hv : (Int8.ofInt n).toInt32 = v) (k : hx_X V d y cc nL rt (pc + 2) ls (.int v :: st) h r) : hx_X V d y cc nL rt pc ls st h r := fun p l e R s m args below meth c H locs A C Dn hl => lv_bipush C.1.1 C.1.2.1 hd hv (k p l e R s m args below meth c H locs A C Dn hl)
theorem hx_sipush {n : Int} (v : Int32) (hd : decode cc pc = .ok (.sipush n, 3)) (hv : (Int16.ofInt n).toInt32 = v) (k : hx_X V d y cc nL rt (pc + 3) ls (.int v :: st) h r) : hx_X V d y cc nL rt pc ls st h r := fun p l e R s m args below meth c H locs A C Dn hl => lv_sipush C.1.1 C.1.2.1 hd hv (k p l e R s m args below meth c H locs A C Dn hl)
theorem hx_lconst {n : Fin 2} (v : Int64) (hd : decode cc pc = .ok (.lconst n, 1)) (hv : Int64.ofNat (n : Nat) = v) (k : hx_X V d y cc nL rt (pc + 1) ls (.long v :: st) h r) : hx_X V d y cc nL rt pc ls st h r := fun p l e R s m args below meth c H locs A C Dn hl => lv_lconst C.1.1 C.1.2.1 hd hv (k p l e R s m args below meth c H locs A C Dn hl)
theorem hx_ldc {index : Nat} (v : Int32) (hd : decode cc pc = .ok (.ldc index, 2)) (hq : Cond.constant y.cls index v ∈ lw_all) (k : hx_X V d y cc nL rt (pc + 2) ls (.int v :: st) h r) : hx_X V d y cc nL rt pc ls st h r := fun p l e R s m args below meth c H locs A C Dn hl => lv_ldc C.1.1 C.1.2.1 C.2.1.1 (C.2.1.2.2.1 _ hq) hd (k p l e R s m args below meth c H locs A C Dn hl)
theorem hx_ldcw {index : Nat} (v : Int32) (hd : decode cc pc = .ok (.ldc_w index, 3)) (hq : Cond.constant y.cls index v ∈ lw_all) (k : hx_X V d y cc nL rt (pc + 3) ls (.int v :: st) h r) : hx_X V d y cc nL rt pc ls st h r := fun p l e R s m args below meth c H locs A C Dn hl => lv_ldcw C.1.1 C.1.2.1 C.2.1.1 (C.2.1.2.2.1 _ hq) hd (k p l e R s m args below meth c H locs A C Dn hl)
theorem hx_ldc2 {index : Nat} (v : Int64) (hd : decode cc pc = .ok (.ldc2_w index, 3)) (hq : Cond.constantLong y.cls index v ∈ lw_all) (k : hx_X V d y cc nL rt (pc + 3) ls (.long v :: st) h r) : hx_X V d y cc nL rt pc ls st h r := fun p l e R s m args below meth c H locs A C Dn hl => lv_ldc2 C.1.1 C.1.2.1 C.2.1.1 (C.2.1.2.2.1 _ hq) hd (k p l e R s m args below meth c H locs A C Dn hl)
theorem hx_iload_n {k0 : Fin 4} {i : Nat} {x : Int32} (j : Nat) (hd : decode cc pc = .ok (.iload_n k0, 1)) (hi : (k0 : Nat) = i) (hj : ls[j]? = some (i, .int x)) (k : hx_X V d y cc nL rt (pc + 1) ls (.int x :: st) h r) : hx_X V d y cc nL rt pc ls st h r := fun p l e R s m args below meth c H locs A C Dn hl => lv_iload_n C.1.1 C.1.2.1 hd hi (lv_at hl j hj) (k p l e R s m args below meth c H locs A C Dn hl)
theorem hx_iload {i : Nat} {x : Int32} (j : Nat) (hd : decode cc pc = .ok (.iload i, 2)) (hj : ls[j]? = some (i, .int x)) (k : hx_X V d y cc nL rt (pc + 2) ls (.int x :: st) h r) : hx_X V d y cc nL rt pc ls st h r := fun p l e R s m args below meth c H locs A C Dn hl => lv_iload C.1.1 C.1.2.1 hd (lv_at hl j hj) (k p l e R s m args below meth c H locs A C Dn hl)
theorem hx_lload_n {k0 : Fin 4} {i : Nat} {x : Int64} (j : Nat) (hd : decode cc pc = .ok (.lload_n k0, 1)) (hi : (k0 : Nat) = i) (hj : ls[j]? = some (i, .long x)) (k : hx_X V d y cc nL rt (pc + 1) ls (.long x :: st) h r) : hx_X V d y cc nL rt pc ls st h r := fun p l e R s m args below meth c H locs A C Dn hl => lv_lload_n C.1.1 C.1.2.1 hd hi (lv_at hl j hj) (k p l e R s m args below meth c H locs A C Dn hl)
theorem hx_lload {i : Nat} {x : Int64} (j : Nat) (hd : decode cc pc = .ok (.lload i, 2)) (hj : ls[j]? = some (i, .long x)) (k : hx_X V d y cc nL rt (pc + 2) ls (.long x :: st) h r) : hx_X V d y cc nL rt pc ls st h r := fun p l e R s m args below meth c H locs A C Dn hl => lv_lload C.1.1 C.1.2.1 hd (lv_at hl j hj) (k p l e R s m args below meth c H locs A C Dn hl)
theorem hx_aload_n {k0 : Fin 4} {i : Nat} {x : Nat} (j : Nat) (hd : decode cc pc = .ok (.aload_n k0, 1)) (hi : (k0 : Nat) = i) (hj : ls[j]? = some (i, .ref x)) (k : hx_X V d y cc nL rt (pc + 1) ls (.ref x :: st) h r) : hx_X V d y cc nL rt pc ls st h r := fun p l e R s m args below meth c H locs A C Dn hl => lv_aload_n C.1.1 C.1.2.1 hd hi (lv_at hl j hj) (k p l e R s m args below meth c H locs A C Dn hl)
theorem hx_aload {i : Nat} {x : Nat} (j : Nat) (hd : decode cc pc = .ok (.aload i, 2)) (hj : ls[j]? = some (i, .ref x)) (k : hx_X V d y cc nL rt (pc + 2) ls (.ref x :: st) h r) : hx_X V d y cc nL rt pc ls st h r := fun p l e R s m args below meth c H locs A C Dn hl => lv_aload C.1.1 C.1.2.1 hd (lv_at hl j hj) (k p l e R s m args below meth c H locs A C Dn hl)
theorem hx_istore_n {k0 : Fin 4} {i : Nat} {x : Int32} {ls2 : List (Nat × Value)} (hd : decode cc pc = .ok (.istore_n k0, 1)) (hi : (k0 : Nat) = i) (hn : i < nL) (he : (i, Value.int x) :: ls.filter (fun q => !(q.1 == i) && !(q.1 + 1 == i && q.2.category == 2)) = ls2) (k : hx_X V d y cc nL rt (pc + 1) ls2 st h r) : hx_X V d y cc nL rt pc ls (.int x :: st) h r := fun p l e R s m args below meth c H locs A C Dn hl => lv_istore_n C.1.1 C.1.2.1 hd hi hl hn he (fun A2 hl2 => k p l e R s m args below meth c H locs A2 C Dn hl2)
theorem hx_istore {i : Nat} {x : Int32} {ls2 : List (Nat × Value)} (hd : decode cc pc = .ok (.istore i, 2)) (hn : i < nL) (he : (i, Value.int x) :: ls.filter (fun q => !(q.1 == i) && !(q.1 + 1 == i && q.2.category == 2)) = ls2) (k : hx_X V d y cc nL rt (pc + 2) ls2 st h r) : hx_X V d y cc nL rt pc ls (.int x :: st) h r := fun p l e R s m args below meth c H locs A C Dn hl => lv_istore C.1.1 C.1.2.1 hd hl hn he (fun A2 hl2 => k p l e R s m args below meth c H locs A2 C Dn hl2)
theorem hx_lstore_n {k0 : Fin 4} {i : Nat} {x : Int64} {ls2 : List (Nat × Value)} (hd : decode cc pc = .ok (.lstore_n k0, 1)) (hi : (k0 : Nat) = i) (hn : i + 1 < nL) (he : (i, Value.long x) :: ls.filter (fun q => !(q.1 == i) && (!(q.1 == i + 1) && !(q.1 + 1 == i && q.2.category == 2))) = ls2) (k : hx_X V d y cc nL rt (pc + 1) ls2 st h r) : hx_X V d y cc nL rt pc ls (.long x :: st) h r := fun p l e R s m args below meth c H locs A C Dn hl => lv_lstore_n C.1.1 C.1.2.1 hd hi hl hn he (fun A2 hl2 => k p l e R s m args below meth c H locs A2 C Dn hl2)
theorem hx_lstore {i : Nat} {x : Int64} {ls2 : List (Nat × Value)} (hd : decode cc pc = .ok (.lstore i, 2)) (hn : i + 1 < nL) (he : (i, Value.long x) :: ls.filter (fun q => !(q.1 == i) && (!(q.1 == i + 1) && !(q.1 + 1 == i && q.2.category == 2))) = ls2) (k : hx_X V d y cc nL rt (pc + 2) ls2 st h r) : hx_X V d y cc nL rt pc ls (.long x :: st) h r := fun p l e R s m args below meth c H locs A C Dn hl => lv_lstore C.1.1 C.1.2.1 hd hl hn he (fun A2 hl2 => k p l e R s m args below meth c H locs A2 C Dn hl2)
theorem hx_astore_n {k0 : Fin 4} {i : Nat} {x : Nat} {ls2 : List (Nat × Value)} (hd : decode cc pc = .ok (.astore_n k0, 1)) (hi : (k0 : Nat) = i) (hn : i < nL) (he : (i, Value.ref x) :: ls.filter (fun q => !(q.1 == i) && !(q.1 + 1 == i && q.2.category == 2)) = ls2) (k : hx_X V d y cc nL rt (pc + 1) ls2 st h r) : hx_X V d y cc nL rt pc ls (.ref x :: st) h r := fun p l e R s m args below meth c H locs A C Dn hl => lv_astore_n C.1.1 C.1.2.1 hd hi hl hn he (fun A2 hl2 => k p l e R s m args below meth c H locs A2 C Dn hl2)
theorem hx_astore {i : Nat} {x : Nat} {ls2 : List (Nat × Value)} (hd : decode cc pc = .ok (.astore i, 2)) (hn : i < nL) (he : (i, Value.ref x) :: ls.filter (fun q => !(q.1 == i) && !(q.1 + 1 == i && q.2.category == 2)) = ls2) (k : hx_X V d y cc nL rt (pc + 2) ls2 st h r) : hx_X V d y cc nL rt pc ls (.ref x :: st) h r := fun p l e R s m args below meth c H locs A C Dn hl => lv_astore C.1.1 C.1.2.1 hd hl hn he (fun A2 hl2 => k p l e R s m args below meth c H locs A2 C Dn hl2)
theorem hx_iinc {i : Nat} {n : Int} {x : Int32} {ls2 : List (Nat × Value)} (j : Nat) (v : Int32) (hd : decode cc pc = .ok (.iinc i n, 3)) (hj : ls[j]? = some (i, .int x)) (hv : x + Int32.ofInt n = v) (hn : i < nL) (he : (i, Value.int v) :: ls.filter (fun q => !(q.1 == i) && !(q.1 + 1 == i && q.2.category == 2)) = ls2) (k : hx_X V d y cc nL rt (pc + 3) ls2 st h r) : hx_X V d y cc nL rt pc ls st h r := fun p l e R s m args below meth c H locs A C Dn hl => lv_iinc C.1.1 C.1.2.1 hd hl hj hv hn he (fun A2 hl2 => k p l e R s m args below meth c H locs A2 C Dn hl2)
theorem hx_iadd {x z : Int32} (hd : decode cc pc = .ok (.iadd, 1))  (k : hx_X V d y cc nL rt (pc + 1) ls (.int (x + z) :: st) h r) : hx_X V d y cc nL rt pc ls (.int z :: .int x :: st) h r := fun p l e R s m args below meth c H locs A C Dn hl => lv_iadd C.1.1 C.1.2.1 hd  (k p l e R s m args below meth c H locs A C Dn hl)
theorem hx_isub {x z : Int32} (hd : decode cc pc = .ok (.isub, 1))  (k : hx_X V d y cc nL rt (pc + 1) ls (.int (x - z) :: st) h r) : hx_X V d y cc nL rt pc ls (.int z :: .int x :: st) h r := fun p l e R s m args below meth c H locs A C Dn hl => lv_isub C.1.1 C.1.2.1 hd  (k p l e R s m args below meth c H locs A C Dn hl)
theorem hx_imul {x z : Int32} (hd : decode cc pc = .ok (.imul, 1))  (k : hx_X V d y cc nL rt (pc + 1) ls (.int (x * z) :: st) h r) : hx_X V d y cc nL rt pc ls (.int z :: .int x :: st) h r := fun p l e R s m args below meth c H locs A C Dn hl => lv_imul C.1.1 C.1.2.1 hd  (k p l e R s m args below meth c H locs A C Dn hl)
theorem hx_iand {x z : Int32} (hd : decode cc pc = .ok (.iand, 1))  (k : hx_X V d y cc nL rt (pc + 1) ls (.int (x &&& z) :: st) h r) : hx_X V d y cc nL rt pc ls (.int z :: .int x :: st) h r := fun p l e R s m args below meth c H locs A C Dn hl => lv_iand C.1.1 C.1.2.1 hd  (k p l e R s m args below meth c H locs A C Dn hl)
theorem hx_ior {x z : Int32} (hd : decode cc pc = .ok (.ior, 1))  (k : hx_X V d y cc nL rt (pc + 1) ls (.int (x ||| z) :: st) h r) : hx_X V d y cc nL rt pc ls (.int z :: .int x :: st) h r := fun p l e R s m args below meth c H locs A C Dn hl => lv_ior C.1.1 C.1.2.1 hd  (k p l e R s m args below meth c H locs A C Dn hl)
theorem hx_ixor {x z : Int32} (hd : decode cc pc = .ok (.ixor, 1))  (k : hx_X V d y cc nL rt (pc + 1) ls (.int (x ^^^ z) :: st) h r) : hx_X V d y cc nL rt pc ls (.int z :: .int x :: st) h r := fun p l e R s m args below meth c H locs A C Dn hl => lv_ixor C.1.1 C.1.2.1 hd  (k p l e R s m args below meth c H locs A C Dn hl)
theorem hx_ishl {x z : Int32} (hd : decode cc pc = .ok (.ishl, 1))  (k : hx_X V d y cc nL rt (pc + 1) ls (.int (x <<< (z &&& 31)) :: st) h r) : hx_X V d y cc nL rt pc ls (.int z :: .int x :: st) h r := fun p l e R s m args below meth c H locs A C Dn hl => lv_ishl C.1.1 C.1.2.1 hd  (k p l e R s m args below meth c H locs A C Dn hl)
theorem hx_ishr {x z : Int32} (hd : decode cc pc = .ok (.ishr, 1))  (k : hx_X V d y cc nL rt (pc + 1) ls (.int (x >>> (z &&& 31)) :: st) h r) : hx_X V d y cc nL rt pc ls (.int z :: .int x :: st) h r := fun p l e R s m args below meth c H locs A C Dn hl => lv_ishr C.1.1 C.1.2.1 hd  (k p l e R s m args below meth c H locs A C Dn hl)
theorem hx_idiv {x z : Int32} (hd : decode cc pc = .ok (.idiv, 1)) (hz : ¬ z = 0) (k : hx_X V d y cc nL rt (pc + 1) ls (.int (x / z) :: st) h r) : hx_X V d y cc nL rt pc ls (.int z :: .int x :: st) h r := fun p l e R s m args below meth c H locs A C Dn hl => lv_idiv C.1.1 C.1.2.1 hd hz (k p l e R s m args below meth c H locs A C Dn hl)
theorem hx_irem {x z : Int32} (hd : decode cc pc = .ok (.irem, 1)) (hz : ¬ z = 0) (k : hx_X V d y cc nL rt (pc + 1) ls (.int (x - x / z * z) :: st) h r) : hx_X V d y cc nL rt pc ls (.int z :: .int x :: st) h r := fun p l e R s m args below meth c H locs A C Dn hl => lv_irem C.1.1 C.1.2.1 hd hz (k p l e R s m args below meth c H locs A C Dn hl)
theorem hx_ladd {x z : Int64} (hd : decode cc pc = .ok (.ladd, 1))  (k : hx_X V d y cc nL rt (pc + 1) ls (.long (x + z) :: st) h r) : hx_X V d y cc nL rt pc ls (.long z :: .long x :: st) h r := fun p l e R s m args below meth c H locs A C Dn hl => lv_ladd C.1.1 C.1.2.1 hd  (k p l e R s m args below meth c H locs A C Dn hl)
theorem hx_lsub {x z : Int64} (hd : decode cc pc = .ok (.lsub, 1))  (k : hx_X V d y cc nL rt (pc + 1) ls (.long (x - z) :: st) h r) : hx_X V d y cc nL rt pc ls (.long z :: .long x :: st) h r := fun p l e R s m args below meth c H locs A C Dn hl => lv_lsub C.1.1 C.1.2.1 hd  (k p l e R s m args below meth c H locs A C Dn hl)
theorem hx_lmul {x z : Int64} (hd : decode cc pc = .ok (.lmul, 1))  (k : hx_X V d y cc nL rt (pc + 1) ls (.long (x * z) :: st) h r) : hx_X V d y cc nL rt pc ls (.long z :: .long x :: st) h r := fun p l e R s m args below meth c H locs A C Dn hl => lv_lmul C.1.1 C.1.2.1 hd  (k p l e R s m args below meth c H locs A C Dn hl)
theorem hx_land {x z : Int64} (hd : decode cc pc = .ok (.land, 1))  (k : hx_X V d y cc nL rt (pc + 1) ls (.long (x &&& z) :: st) h r) : hx_X V d y cc nL rt pc ls (.long z :: .long x :: st) h r := fun p l e R s m args below meth c H locs A C Dn hl => lv_land C.1.1 C.1.2.1 hd  (k p l e R s m args below meth c H locs A C Dn hl)
theorem hx_lor {x z : Int64} (hd : decode cc pc = .ok (.lor, 1))  (k : hx_X V d y cc nL rt (pc + 1) ls (.long (x ||| z) :: st) h r) : hx_X V d y cc nL rt pc ls (.long z :: .long x :: st) h r := fun p l e R s m args below meth c H locs A C Dn hl => lv_lor C.1.1 C.1.2.1 hd  (k p l e R s m args below meth c H locs A C Dn hl)
theorem hx_lxor {x z : Int64} (hd : decode cc pc = .ok (.lxor, 1))  (k : hx_X V d y cc nL rt (pc + 1) ls (.long (x ^^^ z) :: st) h r) : hx_X V d y cc nL rt pc ls (.long z :: .long x :: st) h r := fun p l e R s m args below meth c H locs A C Dn hl => lv_lxor C.1.1 C.1.2.1 hd  (k p l e R s m args below meth c H locs A C Dn hl)
theorem hx_ldiv {x z : Int64} (hd : decode cc pc = .ok (.ldiv, 1)) (hz : ¬ z = 0) (k : hx_X V d y cc nL rt (pc + 1) ls (.long (x / z) :: st) h r) : hx_X V d y cc nL rt pc ls (.long z :: .long x :: st) h r := fun p l e R s m args below meth c H locs A C Dn hl => lv_ldiv C.1.1 C.1.2.1 hd hz (k p l e R s m args below meth c H locs A C Dn hl)
theorem hx_lrem {x z : Int64} (hd : decode cc pc = .ok (.lrem, 1)) (hz : ¬ z = 0) (k : hx_X V d y cc nL rt (pc + 1) ls (.long (x - x / z * z) :: st) h r) : hx_X V d y cc nL rt pc ls (.long z :: .long x :: st) h r := fun p l e R s m args below meth c H locs A C Dn hl => lv_lrem C.1.1 C.1.2.1 hd hz (k p l e R s m args below meth c H locs A C Dn hl)
theorem hx_iushr {x z : Int32} (hd : decode cc pc = .ok (.iushr, 1)) (k : hx_X V d y cc nL rt (pc + 1) ls (.int ((x.toUInt32 >>> (z.toUInt32 &&& Int32.toUInt32 31)).toInt32) :: st) h r) : hx_X V d y cc nL rt pc ls (.int z :: .int x :: st) h r := fun p l e R s m args below meth c H locs A C Dn hl => lv_iushr C.1.1 C.1.2.1 hd rfl (k p l e R s m args below meth c H locs A C Dn hl)
theorem hx_lshl {x : Int64} {z : Int32} (hd : decode cc pc = .ok (.lshl, 1)) (k : hx_X V d y cc nL rt (pc + 1) ls (.long (x <<< (z.toInt64 &&& 63)) :: st) h r) : hx_X V d y cc nL rt pc ls (.int z :: .long x :: st) h r := fun p l e R s m args below meth c H locs A C Dn hl => lv_lshl C.1.1 C.1.2.1 hd rfl (k p l e R s m args below meth c H locs A C Dn hl)
theorem hx_lshr {x : Int64} {z : Int32} (hd : decode cc pc = .ok (.lshr, 1)) (k : hx_X V d y cc nL rt (pc + 1) ls (.long (x >>> (z.toInt64 &&& 63)) :: st) h r) : hx_X V d y cc nL rt pc ls (.int z :: .long x :: st) h r := fun p l e R s m args below meth c H locs A C Dn hl => lv_lshr C.1.1 C.1.2.1 hd rfl (k p l e R s m args below meth c H locs A C Dn hl)
theorem hx_ineg {x : Int32} (hd : decode cc pc = .ok (.ineg, 1)) (k : hx_X V d y cc nL rt (pc + 1) ls (.int (-x) :: st) h r) : hx_X V d y cc nL rt pc ls (.int x :: st) h r := fun p l e R s m args below meth c H locs A C Dn hl => lv_ineg C.1.1 C.1.2.1 hd (k p l e R s m args below meth c H locs A C Dn hl)
theorem hx_lneg {x : Int64} (hd : decode cc pc = .ok (.lneg, 1)) (k : hx_X V d y cc nL rt (pc + 1) ls (.long (-x) :: st) h r) : hx_X V d y cc nL rt pc ls (.long x :: st) h r := fun p l e R s m args below meth c H locs A C Dn hl => lv_lneg C.1.1 C.1.2.1 hd (k p l e R s m args below meth c H locs A C Dn hl)
theorem hx_i2l {x : Int32} (hd : decode cc pc = .ok (.i2l, 1)) (k : hx_X V d y cc nL rt (pc + 1) ls (.long x.toInt64 :: st) h r) : hx_X V d y cc nL rt pc ls (.int x :: st) h r := fun p l e R s m args below meth c H locs A C Dn hl => lv_i2l C.1.1 C.1.2.1 hd rfl (k p l e R s m args below meth c H locs A C Dn hl)
theorem hx_l2i {x : Int64} (hd : decode cc pc = .ok (.l2i, 1)) (k : hx_X V d y cc nL rt (pc + 1) ls (.int x.toInt32 :: st) h r) : hx_X V d y cc nL rt pc ls (.long x :: st) h r := fun p l e R s m args below meth c H locs A C Dn hl => lv_l2i C.1.1 C.1.2.1 hd rfl (k p l e R s m args below meth c H locs A C Dn hl)
theorem hx_i2c {x : Int32} (hd : decode cc pc = .ok (.i2c, 1)) (k : hx_X V d y cc nL rt (pc + 1) ls (.int (x.toUInt32 % 65536).toInt32 :: st) h r) : hx_X V d y cc nL rt pc ls (.int x :: st) h r := fun p l e R s m args below meth c H locs A C Dn hl => lv_i2c C.1.1 C.1.2.1 hd rfl (k p l e R s m args below meth c H locs A C Dn hl)
theorem hx_i2b {x : Int32} (hd : decode cc pc = .ok (.i2b, 1)) (k : hx_X V d y cc nL rt (pc + 1) ls (.int x.toInt8.toInt32 :: st) h r) : hx_X V d y cc nL rt pc ls (.int x :: st) h r := fun p l e R s m args below meth c H locs A C Dn hl => lv_i2b C.1.1 C.1.2.1 hd rfl (k p l e R s m args below meth c H locs A C Dn hl)
theorem hx_lcmp {x z : Int64} (hd : decode cc pc = .ok (.lcmp, 1)) (k : hx_X V d y cc nL rt (pc + 1) ls (.int (lg_cmp x z) :: st) h r) : hx_X V d y cc nL rt pc ls (.long z :: .long x :: st) h r := fun p l e R s m args below meth c H locs A C Dn hl => W.lcmp C.1.1 C.1.2.1 hd (k p l e R s m args below meth c H locs A C Dn hl)
theorem hx_dup {a : Value} (hd : decode cc pc = .ok (.dup, 1)) (ha : a.category = 1) (k : hx_X V d y cc nL rt (pc + 1) ls (a :: a :: st) h r) : hx_X V d y cc nL rt pc ls (a :: st) h r := fun p l e R s m args below meth c H locs A C Dn hl => lv_dup C.1.1 C.1.2.1 hd ha (k p l e R s m args below meth c H locs A C Dn hl)
theorem hx_pop {a : Value} (hd : decode cc pc = .ok (.pop, 1)) (ha : a.category = 1) (k : hx_X V d y cc nL rt (pc + 1) ls st h r) : hx_X V d y cc nL rt pc ls (a :: st) h r := fun p l e R s m args below meth c H locs A C Dn hl => lv_pop C.1.1 C.1.2.1 hd ha (k p l e R s m args below meth c H locs A C Dn hl)
theorem hx_dup_x1 {a b : Value} (hd : decode cc pc = .ok (.dup_x1, 1)) (ha : a.category = 1) (hb : b.category = 1) (k : hx_X V d y cc nL rt (pc + 1) ls (a :: b :: a :: st) h r) : hx_X V d y cc nL rt pc ls (a :: b :: st) h r := fun p l e R s m args below meth c H locs A C Dn hl => lv_dup_x1 C.1.1 C.1.2.1 hd ha hb (k p l e R s m args below meth c H locs A C Dn hl)
theorem hx_dup_x2 {a b g : Value} (hd : decode cc pc = .ok (.dup_x2, 1)) (ha : a.category = 1) (hb : b.category = 1) (hg : g.category = 1) (k : hx_X V d y cc nL rt (pc + 1) ls (a :: b :: g :: a :: st) h r) : hx_X V d y cc nL rt pc ls (a :: b :: g :: st) h r := fun p l e R s m args below meth c H locs A C Dn hl => lv_dup_x2 C.1.1 C.1.2.1 hd ha hb hg (k p l e R s m args below meth c H locs A C Dn hl)
theorem hx_dup2_11 {a b : Value} (hd : decode cc pc = .ok (.dup2, 1)) (ha : a.category = 1) (hb : b.category = 1) (k : hx_X V d y cc nL rt (pc + 1) ls (a :: b :: a :: b :: st) h r) : hx_X V d y cc nL rt pc ls (a :: b :: st) h r := fun p l e R s m args below meth c H locs A C Dn hl => lv_dup2_11 C.1.1 C.1.2.1 hd ha hb (k p l e R s m args below meth c H locs A C Dn hl)
theorem hx_dup2_2 {a : Value} (hd : decode cc pc = .ok (.dup2, 1)) (ha : a.category = 2) (k : hx_X V d y cc nL rt (pc + 1) ls (a :: a :: st) h r) : hx_X V d y cc nL rt pc ls (a :: st) h r := fun p l e R s m args below meth c H locs A C Dn hl => lv_dup2_2 C.1.1 C.1.2.1 hd ha (k p l e R s m args below meth c H locs A C Dn hl)
theorem hx_if_eq {x : Int32} {off : Int} (tgt : Nat) (hd : decode cc pc = .ok (.ifCond .eq off, 3)) (ht : (pc : Int) + off = (tgt : Int)) (kt : x = 0 → hx_X V d y cc nL rt tgt ls st h r) (kf : ¬ x = 0 → hx_X V d y cc nL rt (pc + 3) ls st h r) : hx_X V d y cc nL rt pc ls (.int x :: st) h r := fun p l e R s m args below meth c H locs A C Dn hl => lv_if_eq C.1.1 C.1.2.1 hd ht (fun q => kt q p l e R s m args below meth c H locs A C Dn hl) (fun q => kf q p l e R s m args below meth c H locs A C Dn hl)
theorem hx_icmp_eq {x z : Int32} {off : Int} (tgt : Nat) (hd : decode cc pc = .ok (.if_icmp .eq off, 3)) (ht : (pc : Int) + off = (tgt : Int)) (kt : x = z → hx_X V d y cc nL rt tgt ls st h r) (kf : ¬ x = z → hx_X V d y cc nL rt (pc + 3) ls st h r) : hx_X V d y cc nL rt pc ls (.int z :: .int x :: st) h r := fun p l e R s m args below meth c H locs A C Dn hl => lv_icmp_eq C.1.1 C.1.2.1 hd ht (fun q => kt q p l e R s m args below meth c H locs A C Dn hl) (fun q => kf q p l e R s m args below meth c H locs A C Dn hl)
theorem hx_if_ne {x : Int32} {off : Int} (tgt : Nat) (hd : decode cc pc = .ok (.ifCond .ne off, 3)) (ht : (pc : Int) + off = (tgt : Int)) (kt : ¬ x = 0 → hx_X V d y cc nL rt tgt ls st h r) (kf : x = 0 → hx_X V d y cc nL rt (pc + 3) ls st h r) : hx_X V d y cc nL rt pc ls (.int x :: st) h r := fun p l e R s m args below meth c H locs A C Dn hl => lv_if_ne C.1.1 C.1.2.1 hd ht (fun q => kt q p l e R s m args below meth c H locs A C Dn hl) (fun q => kf q p l e R s m args below meth c H locs A C Dn hl)
theorem hx_icmp_ne {x z : Int32} {off : Int} (tgt : Nat) (hd : decode cc pc = .ok (.if_icmp .ne off, 3)) (ht : (pc : Int) + off = (tgt : Int)) (kt : ¬ x = z → hx_X V d y cc nL rt tgt ls st h r) (kf : x = z → hx_X V d y cc nL rt (pc + 3) ls st h r) : hx_X V d y cc nL rt pc ls (.int z :: .int x :: st) h r := fun p l e R s m args below meth c H locs A C Dn hl => lv_icmp_ne C.1.1 C.1.2.1 hd ht (fun q => kt q p l e R s m args below meth c H locs A C Dn hl) (fun q => kf q p l e R s m args below meth c H locs A C Dn hl)
theorem hx_if_lt {x : Int32} {off : Int} (tgt : Nat) (hd : decode cc pc = .ok (.ifCond .lt off, 3)) (ht : (pc : Int) + off = (tgt : Int)) (kt : x < 0 → hx_X V d y cc nL rt tgt ls st h r) (kf : ¬ x < 0 → hx_X V d y cc nL rt (pc + 3) ls st h r) : hx_X V d y cc nL rt pc ls (.int x :: st) h r := fun p l e R s m args below meth c H locs A C Dn hl => lv_if_lt C.1.1 C.1.2.1 hd ht (fun q => kt q p l e R s m args below meth c H locs A C Dn hl) (fun q => kf q p l e R s m args below meth c H locs A C Dn hl)
theorem hx_icmp_lt {x z : Int32} {off : Int} (tgt : Nat) (hd : decode cc pc = .ok (.if_icmp .lt off, 3)) (ht : (pc : Int) + off = (tgt : Int)) (kt : x < z → hx_X V d y cc nL rt tgt ls st h r) (kf : ¬ x < z → hx_X V d y cc nL rt (pc + 3) ls st h r) : hx_X V d y cc nL rt pc ls (.int z :: .int x :: st) h r := fun p l e R s m args below meth c H locs A C Dn hl => lv_icmp_lt C.1.1 C.1.2.1 hd ht (fun q => kt q p l e R s m args below meth c H locs A C Dn hl) (fun q => kf q p l e R s m args below meth c H locs A C Dn hl)
theorem hx_if_ge {x : Int32} {off : Int} (tgt : Nat) (hd : decode cc pc = .ok (.ifCond .ge off, 3)) (ht : (pc : Int) + off = (tgt : Int)) (kt : 0 ≤ x → hx_X V d y cc nL rt tgt ls st h r) (kf : ¬ 0 ≤ x → hx_X V d y cc nL rt (pc + 3) ls st h r) : hx_X V d y cc nL rt pc ls (.int x :: st) h r := fun p l e R s m args below meth c H locs A C Dn hl => lv_if_ge C.1.1 C.1.2.1 hd ht (fun q => kt q p l e R s m args below meth c H locs A C Dn hl) (fun q => kf q p l e R s m args below meth c H locs A C Dn hl)
theorem hx_icmp_ge {x z : Int32} {off : Int} (tgt : Nat) (hd : decode cc pc = .ok (.if_icmp .ge off, 3)) (ht : (pc : Int) + off = (tgt : Int)) (kt : z ≤ x → hx_X V d y cc nL rt tgt ls st h r) (kf : ¬ z ≤ x → hx_X V d y cc nL rt (pc + 3) ls st h r) : hx_X V d y cc nL rt pc ls (.int z :: .int x :: st) h r := fun p l e R s m args below meth c H locs A C Dn hl => lv_icmp_ge C.1.1 C.1.2.1 hd ht (fun q => kt q p l e R s m args below meth c H locs A C Dn hl) (fun q => kf q p l e R s m args below meth c H locs A C Dn hl)
theorem hx_if_gt {x : Int32} {off : Int} (tgt : Nat) (hd : decode cc pc = .ok (.ifCond .gt off, 3)) (ht : (pc : Int) + off = (tgt : Int)) (kt : 0 < x → hx_X V d y cc nL rt tgt ls st h r) (kf : ¬ 0 < x → hx_X V d y cc nL rt (pc + 3) ls st h r) : hx_X V d y cc nL rt pc ls (.int x :: st) h r := fun p l e R s m args below meth c H locs A C Dn hl => lv_if_gt C.1.1 C.1.2.1 hd ht (fun q => kt q p l e R s m args below meth c H locs A C Dn hl) (fun q => kf q p l e R s m args below meth c H locs A C Dn hl)
theorem hx_icmp_gt {x z : Int32} {off : Int} (tgt : Nat) (hd : decode cc pc = .ok (.if_icmp .gt off, 3)) (ht : (pc : Int) + off = (tgt : Int)) (kt : z < x → hx_X V d y cc nL rt tgt ls st h r) (kf : ¬ z < x → hx_X V d y cc nL rt (pc + 3) ls st h r) : hx_X V d y cc nL rt pc ls (.int z :: .int x :: st) h r := fun p l e R s m args below meth c H locs A C Dn hl => lv_icmp_gt C.1.1 C.1.2.1 hd ht (fun q => kt q p l e R s m args below meth c H locs A C Dn hl) (fun q => kf q p l e R s m args below meth c H locs A C Dn hl)
theorem hx_if_le {x : Int32} {off : Int} (tgt : Nat) (hd : decode cc pc = .ok (.ifCond .le off, 3)) (ht : (pc : Int) + off = (tgt : Int)) (kt : x ≤ 0 → hx_X V d y cc nL rt tgt ls st h r) (kf : ¬ x ≤ 0 → hx_X V d y cc nL rt (pc + 3) ls st h r) : hx_X V d y cc nL rt pc ls (.int x :: st) h r := fun p l e R s m args below meth c H locs A C Dn hl => lv_if_le C.1.1 C.1.2.1 hd ht (fun q => kt q p l e R s m args below meth c H locs A C Dn hl) (fun q => kf q p l e R s m args below meth c H locs A C Dn hl)
theorem hx_icmp_le {x z : Int32} {off : Int} (tgt : Nat) (hd : decode cc pc = .ok (.if_icmp .le off, 3)) (ht : (pc : Int) + off = (tgt : Int)) (kt : x ≤ z → hx_X V d y cc nL rt tgt ls st h r) (kf : ¬ x ≤ z → hx_X V d y cc nL rt (pc + 3) ls st h r) : hx_X V d y cc nL rt pc ls (.int z :: .int x :: st) h r := fun p l e R s m args below meth c H locs A C Dn hl => lv_icmp_le C.1.1 C.1.2.1 hd ht (fun q => kt q p l e R s m args below meth c H locs A C Dn hl) (fun q => kf q p l e R s m args below meth c H locs A C Dn hl)
theorem hx_goto {off : Int} (tgt : Nat) (hd : decode cc pc = .ok (.goto off, 3)) (ht : (pc : Int) + off = (tgt : Int)) (k : hx_X V d y cc nL rt tgt ls st h r) : hx_X V d y cc nL rt pc ls st h r := fun p l e R s m args below meth c H locs A C Dn hl => lv_goto C.1.1 C.1.2.1 hd ht (k p l e R s m args below meth c H locs A C Dn hl)
theorem hx_tableIn {dflt lo hi off : Int} {offs : Array Int} {len : Nat} {x : Int32} (tgt : Nat) (hd : decode cc pc = .ok (.tableswitch dflt lo hi offs, len)) (h1 : ¬ x.toInt < lo) (h2 : ¬ hi < x.toInt) (ho : offs[(x.toInt - lo).toNat]? = some off) (ht : (pc : Int) + off = (tgt : Int)) (k : hx_X V d y cc nL rt tgt ls st h r) : hx_X V d y cc nL rt pc ls (.int x :: st) h r := fun p l e R s m args below meth c H locs A C Dn hl => lv_tableIn C.1.1 C.1.2.1 hd h1 h2 ho ht (k p l e R s m args below meth c H locs A C Dn hl)
theorem hx_tableOut {dflt lo hi : Int} {offs : Array Int} {len : Nat} {x : Int32} (tgt : Nat) (hd : decode cc pc = .ok (.tableswitch dflt lo hi offs, len)) (h1 : x.toInt < lo ∨ hi < x.toInt) (ht : (pc : Int) + dflt = (tgt : Int)) (k : hx_X V d y cc nL rt tgt ls st h r) : hx_X V d y cc nL rt pc ls (.int x :: st) h r := fun p l e R s m args below meth c H locs A C Dn hl => lv_tableOut C.1.1 C.1.2.1 hd h1 ht (k p l e R s m args below meth c H locs A C Dn hl)
theorem hx_perm {ls2 : List (Nat × Value)} (ks : List Nat) (he : lv_pick ls ks = ls2) (k : hx_X V d y cc nL rt pc ls2 st h r) : hx_X V d y cc nL rt pc ls st h r := fun p l e R s m args below meth c H locs A C Dn hl => k p l e R s m args below meth c H locs A C Dn (lv_sub hl ks he)
end HR
section HH
variable {V : hx_V} {d : Nat} {y : MethodName} {cc : ByteArray} {nL : Nat} {rt : Option FieldType} {pc : Nat} {ls : List (Nat × Value)} {st : List Value} {h h1 : hx_S} {r : Outcome × hx_S}
theorem hx_Wmono {p : Program} {l : Launch} {e : Env} {R : Room} {s : State} {m : MethodId} {args : Array Value} {below : List Frame} {meth : Method} {c : Code} {H : Heap} {locs : List Loc} {cells slots : Nat} {Q Q' : State → Prop} {g : JFrame} (hq : ∀ t, Q t → Q' t) (k : W p l e R s m args below meth c H locs cells slots Q g) : W p l e R s m args below meth c H locs cells slots Q' g := by
  intro T hT X
  obtain ⟨t, a, b⟩ := k T hT X
  exact ⟨t, a, hq t b⟩
/-- the end by a return -/
theorem hx_end {p : Program} {R : Room} {s : State} {m : MethodId} {args : Array Value} {below : List Frame} {meth : Method} {c : Code} {H : Heap} {locs : List Loc} {v : Option Value} (C : hx_Ctx V d y cc nL rt p R s m args meth c) (Dn : hx_Dyn V s H h locs) (t : State)
    (q : MQ below (fun _ _ o t => o = .returned v ∧ t.heap = H) args s (h.1 - s.heap.size) (h.2.1 - hx_tot s.heap) (fun q => V.2.1.size ≤ q) t) : hx_Q V (.returned v) h below s R t := by
  obtain ⟨o, q1, q2, ⟨rfl, q4⟩, L, ⟨-, q5, q6⟩, q7⟩ := q
  obtain ⟨d1, d2, d3, d4, d5, d6⟩ := Dn
  have z1 : s.heap.size + R.cells = V.2.2.1 := C.2.2.1.2.2.1
  have z2 : hx_tot s.heap + R.slots = V.2.2.2.1 := C.2.2.1.2.2.2.1
  exact ⟨q1, q2, by rw [q4]; exact d1, q5, L, q6.mono (by omega) (by omega), q7⟩
theorem hx_iret {x : Int32} (hd : decode cc pc = .ok (.ireturn, 1)) : hx_X V d y cc nL (some .int) pc ls [.int x] h (.returned (some (.int x)), h) := fun p l e R s m args below meth c H locs A C Dn hl =>
  hx_Wmono (hx_end C Dn) (W.iret C.1.1 C.1.2.1 C.1.2.2.2.1 (fun t ht _ => ⟨rfl, ht⟩) Dn.2.2.2.2.2 hd C.1.2.2.2.2)
theorem hx_zret {ty : FieldType} {x : Int32} (hn : narrow ty (.int x) = .int x) (hd : decode cc pc = .ok (.ireturn, 1)) : hx_X V d y cc nL (some ty) pc ls [.int x] h (.returned (some (.int x)), h) := fun p l e R s m args below meth c H locs A C Dn hl =>
  hx_Wmono (hx_end C Dn) (W.zret C.1.1 C.1.2.1 C.1.2.2.2.1 hn (fun t ht _ => ⟨rfl, ht⟩) Dn.2.2.2.2.2 hd C.1.2.2.2.2)
theorem hx_lret {x : Int64} (hd : decode cc pc = .ok (.lreturn, 1)) : hx_X V d y cc nL (some .long) pc ls [.long x] h (.returned (some (.long x)), h) := fun p l e R s m args below meth c H locs A C Dn hl =>
  hx_Wmono (hx_end C Dn) (W.lret C.1.1 C.1.2.1 C.1.2.2.2.1 (fun t ht _ => ⟨rfl, ht⟩) Dn.2.2.2.2.2 hd C.1.2.2.2.2)
theorem hx_vret (hd : decode cc pc = .ok (.return_, 1)) : hx_X V d y cc nL none pc ls [] h (.returned none, h) := fun p l e R s m args below meth c H locs A C Dn hl =>
  hx_Wmono (hx_end C Dn) (W.vret C.1.1 C.1.2.1 C.1.2.2.2.1 (fun t ht _ => ⟨rfl, ht⟩) Dn.2.2.2.2.2 hd C.1.2.2.2.2)
theorem hx_aret {v : Value} {ty : FieldType} (hrt : (∃ n, ty = .object n) ∨ ∃ t, ty = .array t) (hv : v = .null ∨ ∃ a, v = .ref a) (hd : decode cc pc = .ok (.areturn, 1)) : hx_X V d y cc nL (some ty) pc ls [v] h (.returned (some v), h) := fun p l e R s m args below meth c H locs A C Dn hl =>
  hx_Wmono (hx_end C Dn) (W.aret C.1.1 C.1.2.1 C.1.2.2.2.1 hrt hv (fun t ht _ => ⟨rfl, ht⟩) Dn.2.2.2.2.2 hd C.1.2.2.2.2)
/-- a word of one's own list -/
theorem hx_lays {s : State} {args : Array Value} {C : String} {T : u_T} {N k : Nat} (ht : ∀ w ∈ lw_all, w.before args s = true) (hin : ∀ w ∈ u_ws C T N, w ∈ lw_all) (hk : k < N) : (Cond.lays C (T k).1 (T k).2.1 (T k).2.2.1).before args s = true ∨ (Cond.laysFinal C (T k).1 (T k).2.1 (T k).2.2.1).before args s = true := u_lays ht hin hk
theorem hx_getf {Cn : String} {T0 : u_T} {N0 ci N index a k : Nat} {f : Nat → Value} {ref : String} (hd : decode cc pc = .ok (.getfield index, 3)) (ha : h.2.2 a = some (ci, N, f)) (hk : k < N) (hcl : hx_cls ci = some (Cn, T0, N0)) (hk0 : k < N0) (hin : ∀ w ∈ u_ws Cn T0 N0, w ∈ lw_all) (hci : ci < 100)
    (q1 : Cond.fieldLink y.cls index ref (T0 k).2.1 (T0 k).2.2.1 ∈ lw_all) (hsame : ref = (T0 k).1 ∨ Cond.sameField ref (T0 k).1 (T0 k).2.1 (T0 k).2.2.1 ∈ lw_all)
    (kk : hx_X V d y cc nL rt (pc + 3) ls (f k :: st) h r) : hx_X V d y cc nL rt pc ls (.ref a :: st) h r := fun p l e R s m args below meth c H locs A C Dn hl => by
  obtain ⟨⟨c1, c2, c3, c4, c5⟩, ⟨c6, c7, c8, c9⟩, c10, c11⟩ := id C
  obtain ⟨cell, b1, b2, b3, b4, b5⟩ := Dn.1.2.2.1 a _ ha
  have b5 : cell.slots[V.1.2.1 ci k]? = some (f k) := by
    rcases b5 with b5 | b5
    · exact b5.2.2 k hk
    · have := b5.1; simp only at this; omega
  obtain ⟨hS, hfc, kC, hkC, hkind⟩ := c9.1 ci _ hcl
  obtain ⟨cf, kf, fi, fd, hi, hsl⟩ := hS k hk0
  have hi2 : s.fieldFound? ref (T0 k).2.1 (T0 k).2.2.1 = some (cf, kf, fi, fd) := by
    rcases hsame with e | e
    · rw [e]; exact hi
    · exact u_same (c8 _ e) _ hi
  exact W.getf c1 c2 c6 (c8 _ q1) hi2 (u_facts hfc hkC (u_lays c8 hin hk0) hi).1 b1 b2 (v := f k) (by rw [hsl]; exact b5) rfl rfl hd (kk p l e R s m args below meth c H locs A C Dn hl)
/-- what a put needs of a field -/
theorem hx_apart {s : State} {args : Array Value} {V : hx_V} {Cn : String} {T0 : u_T} {N0 ci : Nat} (ht : ∀ w ∈ lw_all, w.before args s = true) (hin : ∀ w ∈ u_ws Cn T0 N0, w ∈ lw_all) (ty : Nat → FieldType) (hty : ∀ k, k < N0 → parseFieldDescriptor (T0 k).2.2.1 = some (ty k)) (hnm : ∀ a, a < N0 → ∀ b, b < N0 → a ≠ b → (T0 a).2.1 ≠ (T0 b).2.1) (hK : hx_K V s) (hc : hx_cls ci = some (Cn, T0, N0)) : ∀ x y, x < N0 → y < N0 → x ≠ y → (V.1.2.1 ci) x ≠ (V.1.2.1 ci) y := by
  intro x y hx hy hne
  obtain ⟨hS, -⟩ := hK.1 ci _ hc
  obtain ⟨_, _, _, fa, hia, ea⟩ := hS x hx
  obtain ⟨_, _, _, fb, hib, eb⟩ := hS y hy
  rw [← ea, ← eb]
  refine u_apart (u_lays ht hin hx) (u_lays ht hin hy) hia hib ?_
  rw [(State.fieldFound?_type hia (hty x hx)).1, (State.fieldFound?_type hib (hty y hy)).1]
  exact hnm x hx y hy hne
theorem hx_Dyn.put {s : State} {H H1 : Heap} {locs : List Loc} {a i : Nat} {x : hx_C} (Dn : hx_Dyn V s H h locs) (hR : hx_R V (hx_set h a x) H1) (ha : V.2.1.size ≤ a) : hx_Dyn V s H1 (hx_set h a x) (locs ++ [⟨a, i⟩]) := by
  obtain ⟨d1, d2, d3, d4, d5, d6⟩ := Dn
  refine ⟨hR, d2, d3, d4, d5, fun q hq => ?_⟩
  rcases List.mem_append.mp hq with hq | hq
  · exact d6 q hq
  · rw [List.mem_singleton.mp hq]
    exact ha
theorem hx_setslot {cell : Cell} {i : Nat} {v : Value} : (cell.setSlot i v).slots.size = cell.slots.size := by simp [Cell.setSlot]
theorem hx_setslot_get {cell : Cell} {i j : Nat} {v : Value} (hi : i < cell.slots.size) : (cell.setSlot i v).slots[j]? = if j = i then some v else cell.slots[j]? := by
  simp only [Cell.setSlot]
  by_cases e : j = i
  · subst e
    rw [if_pos rfl, Array.getElem?_setIfInBounds]
    simp [hi]
  · rw [if_neg e, Array.getElem?_setIfInBounds]
    simp [Ne.symm e]
/-- an object's field written -/
def hx_putv (x : hx_C) (k : Nat) (v : Value) : hx_C := (x.1, x.2.1, updV x.2.2 k v)
theorem hx_at.put {D : hx_G} {B a k : Nat} {H1 : Heap} {ci N : Nat} {f : Nat → Value} {v : Value} {cell : Cell} (hb : B ≤ a) (b1 : cell.vm = .none) (hcls : cell.cls = D.1 ci) (hsl : ∀ j, j < N → cell.slots[D.2.1 ci j]? = some (f j)) (hci : ci < 100) (hk : k < N) (hap : ∀ j, j < N → j ≠ k → D.2.1 ci j ≠ D.2.1 ci k) (e1 : H1[a]? = some (cell.setSlot (D.2.1 ci k) v)) : hx_at D B a (hx_putv (ci, N, f) k v) H1 := by
  have hlt : D.2.1 ci k < cell.slots.size := (Array.getElem?_eq_some_iff.mp (hsl k hk)).1
  refine ⟨_, e1, (by show cell.vm ≠ _; rw [b1]; exact (fun q => by cases q)), (fun j => by show cell.vm ≠ _; rw [b1]; exact (fun q => by cases q)), fun _ => b1, Or.inl ⟨hci, hcls, fun j hj => ?_⟩⟩
  show (cell.setSlot (D.2.1 ci k) v).slots[D.2.1 ci j]? = some (updV f k v j)
  rw [hx_setslot_get hlt]
  by_cases e : j = k
  · subst e
    simp [updV]
  · rw [if_neg (hap j hj e), hsl j hj]
    simp [updV, e]
theorem hx_putf {Cn : String} {T0 : u_T} {N0 ci N index a k : Nat} {f : Nat → Value} {ref : String} {v : Value} {ty0 : Nat → FieldType} (hd : decode cc pc = .ok (.putfield index, 3)) (ha : h.2.2 a = some (ci, N, f)) (hB : V.2.1.size ≤ a) (hk : k < N) (hcl : hx_cls ci = some (Cn, T0, N0)) (hN : N = N0) (hin : ∀ w ∈ u_ws Cn T0 N0, w ∈ lw_all) (hty : ∀ k, k < N0 → parseFieldDescriptor (T0 k).2.2.1 = some (ty0 k)) (hnm : ∀ a, a < N0 → ∀ b, b < N0 → a ≠ b → (T0 a).2.1 ≠ (T0 b).2.1) (hci : ci < 100)
    (q1 : Cond.fieldLink y.cls index ref (T0 k).2.1 (T0 k).2.2.1 ∈ lw_all) (hsame : ref = (T0 k).1 ∨ Cond.sameField ref (T0 k).1 (T0 k).2.1 (T0 k).2.2.1 ∈ lw_all) (hfin : (T0 k).2.2.2 = false ∨ ((T0 k).2.2.2 = true ∧ y.name = "<init>" ∧ (T0 k).1 = y.cls)) (hnw : narrow (ty0 k) v = v) (hft : fits (ty0 k) v = true)
    (kk : hx_X V d y cc nL rt (pc + 3) ls st (hx_set h a (hx_putv (ci, N, f) k v)) r) : hx_X V d y cc nL rt pc ls (v :: .ref a :: st) h r := fun p l e R s m args below meth c H locs A C Dn hl => by
  subst hN
  obtain ⟨⟨c1, c2, c3, c4, c5⟩, ⟨c6, c7, c8, c9⟩, c10, c11⟩ := id C
  obtain ⟨cell, b1, b2, b3, b4, b5⟩ := Dn.1.2.2.1 a _ ha
  obtain ⟨b6, b7⟩ : cell.cls = V.1.1 ci ∧ ∀ k, k < N → cell.slots[V.1.2.1 ci k]? = some (f k) := by
    rcases b5 with b5 | b5
    · exact b5.2
    · have := b5.1; simp only at this; omega
  obtain ⟨hS, hfc, kC, hkC, hkind⟩ := c9.1 ci _ hcl
  obtain ⟨cf, kf, fi, fd, hi, hsl⟩ := hS k hk
  have hi2 : s.fieldFound? ref (T0 k).2.1 (T0 k).2.2.1 = some (cf, kf, fi, fd) := by
    rcases hsame with e | e
    · rw [e]; exact hi
    · exact u_same (c8 _ e) _ hi
  have hap := hx_apart c8 hin ty0 hty hnm c9 hcl
  have hst := (u_facts hfc hkC (u_lays c8 hin hk) hi).1
  have hfs := u_fits hfc hkC hkind (u_lays c8 hin hk) hi (hty k hk) hnw hft
  have hlt : fd.slot < cell.slots.size := by rw [hsl]; exact (Array.getElem?_eq_some_iff.mp (b7 k hk)).1
  have fin : ∀ H' : Heap, H'[a]? = some (cell.setSlot fd.slot v) → H'.size = H.size → (∀ q, q ≠ a → H'[q]? = H[q]?) → W p l e R s m args below meth c H' (locs ++ [⟨a, fd.slot⟩]) (h.1 - s.heap.size) (h.2.1 - hx_tot s.heap) (hx_Q V r.1 r.2 below s R) (F0 m (pc + 3) A st) := by
    intro H' e1 e2 e3
    rw [hsl] at e1
    have hR1 : hx_R V (hx_set h a (hx_putv (ci, N, f) k v)) H' := Dn.1.set hB e2 b1 e1 hx_setslot e3 (hx_at.put hB (b4 hB) b6 b7 hci hk (fun j hj hne => hap j k hj hk hne) e1)
    exact kk p l e R s m args below meth c H' _ A C (Dn.put hR1 hB) hl
  rcases hfin with hfin | ⟨hfin, hnI, hdecl⟩
  · have hlay := c8 _ (hin _ (u_in_lay hk))
    unfold u_lay at hlay
    rw [if_neg (by rw [hfin]; decide)] at hlay
    have h6 := u_store hfc hkC hkind hlay hi (hty k hk) hnw hft
    exact W.putK c1 c2 (f := fd) ⟨c6, c8 _ q1, ⟨_, _, _, hi2⟩, hst⟩ (by rw [b6]; exact h6) b1 (b4 hB) hlt rfl rfl hd fin
  · have hlay := c8 _ (hin _ (u_in_lay hk))
    unfold u_lay at hlay
    rw [if_pos hfin] at hlay
    have hcf : m.cls = cf := by
      obtain ⟨_, _, c', _, _, _, -, -, hf', -, -, -, hown2, -⟩ := Cond.laysFinal_spec hlay
      cases hi.symm.trans hf'
      rw [hdecl] at hown2
      exact Option.some.inj (c6.symm.trans hown2)
    exact W.putFinK c1 c2 c6 (c8 _ q1) hi2 hst hcf (c7.trans hnI) (by rw [b6]; exact hfs) b1 (b4 hB) hlt rfl rfl hd fin
end HH
/-- an index within an array -/
def hx_in (i : Int32) (n : Nat) : Bool := decide (¬ (i < 0 ∨ n ≤ i.toNatClampNeg))
section HA
variable {V : hx_V} {d : Nat} {y : MethodName} {cc : ByteArray} {nL : Nat} {rt : Option FieldType} {pc : Nat} {ls : List (Nat × Value)} {st : List Value} {h h1 : hx_S} {r : Outcome × hx_S}
theorem hx_arr {p : Program} {R : Room} {s : State} {m : MethodId} {args : Array Value} {meth : Method} {c : Code} {H : Heap} {locs : List Loc} {a N t : Nat} {f : Nat → Value} (C : hx_Ctx V d y cc nL rt p R s m args meth c) (Dn : hx_Dyn V s H h locs) (ha : h.2.2 a = some (t, N, f)) (h1 : 100 ≤ t) (h2 : t < 109) :
    ∃ cell : Cell, H[a]? = some cell ∧ cell.vm ≠ .unknown ∧ (∀ k, cell.vm ≠ .statics k) ∧ s.isArrayOf cell (hx_aty t) ∧ cell.slots.size = N ∧ ∀ k, k < N → cell.slots[k]? = some (f k) := by
  obtain ⟨cell, b1, b2, b3, b4, b5⟩ := Dn.1.2.2.1 a _ ha
  rcases b5 with b5 | b5
  · have := b5.1
    simp only at this
    omega
  · obtain ⟨-, b6, b7, b8⟩ := b5
    obtain ⟨⟨k, comp, e1, e2, -⟩, -⟩ := C.2.1.2.2.2.2.1 t h1 h2
    exact ⟨cell, b1, b2, b3, ⟨b3, k, by rw [b6]; exact e1, comp, e2⟩, b7, b8⟩
theorem hx_at.puta {s : State} {H H1 : Heap} {locs : List Loc} {a N t k : Nat} {f : Nat → Value} {v : Value} {cell : Cell} (Dn : hx_Dyn V s H h locs) (ha : h.2.2 a = some (t, N, f)) (hB : V.2.1.size ≤ a) (ht : 100 ≤ t) (hk : k < N) (h0 : H[a]? = some cell) (e1 : H1[a]? = some (cell.setSlot k v)) : hx_at V.1 V.2.1.size a (hx_putv (t, N, f) k v) H1 := by
  obtain ⟨cell2, b1, b2, b3, b4, b5⟩ := Dn.1.2.2.1 a _ ha
  cases h0.symm.trans b1
  rcases b5 with b5 | b5
  · have := b5.1
    simp only at this
    omega
  · obtain ⟨-, b6, b7, b8⟩ := b5
    refine ⟨_, e1, b2, b3, b4, Or.inr ⟨ht, b6, hx_setslot.trans b7, fun j hj => ?_⟩⟩
    show (cell.setSlot k v).slots[j]? = some (updV f k v j)
    rw [hx_setslot_get (by rw [b7]; exact hk)]
    by_cases e : j = k
    · subst e
      simp [updV]
    · rw [if_neg e]
      refine (b8 j hj).trans ?_
      simp [updV, e]
theorem hx_alen {a N t : Nat} {f : Nat → Value} (hd : decode cc pc = .ok (.arraylength, 1)) (ha : h.2.2 a = some (t, N, f)) (h1 : 100 ≤ t) (h2 : t < 109) (kk : hx_X V d y cc nL rt (pc + 1) ls (.int (nI N) :: st) h r) : hx_X V d y cc nL rt pc ls (.ref a :: st) h r := fun p l e R s m args below meth c H locs A C Dn hl => by
  obtain ⟨cell, b1, b2, b3, b4, b5, b6⟩ := hx_arr C Dn ha h1 h2
  exact W.alen (n := nI N) C.1.1 C.1.2.1 b1 b4 (by rw [b5]; rfl) rfl rfl hd (kk p l e R s m args below meth c H locs A C Dn hl)
theorem hx_iald {a N : Nat} {f : Nat → Value} {i : Int32} (hd : decode cc pc = .ok (.iaload, 1)) (ha : h.2.2 a = some (100, N, f)) (hi : hx_in i N = true) (kk : hx_X V d y cc nL rt (pc + 1) ls (f i.toNatClampNeg :: st) h r) : hx_X V d y cc nL rt pc ls (.int i :: .ref a :: st) h r := fun p l e R s m args below meth c H locs A C Dn hl => by
  obtain ⟨cell, b1, b2, b3, b4, b5, b6⟩ := hx_arr C Dn ha (by decide) (by decide)
  have hi2 := of_decide_eq_true hi
  exact W.iald C.1.1 C.1.2.1 b1 b4 b2 (by rw [b5]; exact hi2) (b6 _ (Nat.not_le.mp fun q => hi2 (Or.inr q))) rfl rfl hd (kk p l e R s m args below meth c H locs A C Dn hl)
theorem hx_iast {a N : Nat} {f : Nat → Value} {i : Int32} {x : Int32} (hd : decode cc pc = .ok (.iastore, 1)) (ha : h.2.2 a = some (100, N, f)) (hB : V.2.1.size ≤ a) (hi : hx_in i N = true) (kk : hx_X V d y cc nL rt (pc + 1) ls st (hx_set h a (hx_putv (100, N, f) i.toNatClampNeg (.int x))) r) : hx_X V d y cc nL rt pc ls (.int x :: .int i :: .ref a :: st) h r := fun p l e R s m args below meth c H locs A C Dn hl => by
  obtain ⟨cell, b1, b2, b3, b4, b5, b6⟩ := hx_arr C Dn ha (by decide) (by decide)
  have hi2 := of_decide_eq_true hi
  exact W.iast C.1.1 C.1.2.1 b1 b4 b2 (by rw [b5]; exact hi2) rfl rfl hd (fun H' e1 e2 e3 => kk p l e R s m args below meth c H' _ A C (Dn.put (Dn.1.set hB e2 b1 e1 hx_setslot e3 (hx_at.puta Dn ha hB (by decide) (Nat.not_le.mp fun q => hi2 (Or.inr q)) b1 e1)) hB) hl)
theorem hx_cald {a N : Nat} {f : Nat → Value} {i : Int32} (hd : decode cc pc = .ok (.caload, 1)) (ha : h.2.2 a = some (101, N, f)) (hi : hx_in i N = true) (kk : hx_X V d y cc nL rt (pc + 1) ls (f i.toNatClampNeg :: st) h r) : hx_X V d y cc nL rt pc ls (.int i :: .ref a :: st) h r := fun p l e R s m args below meth c H locs A C Dn hl => by
  obtain ⟨cell, b1, b2, b3, b4, b5, b6⟩ := hx_arr C Dn ha (by decide) (by decide)
  have hi2 := of_decide_eq_true hi
  exact W.cald C.1.1 C.1.2.1 b1 b4 b2 (by rw [b5]; exact hi2) (b6 _ (Nat.not_le.mp fun q => hi2 (Or.inr q))) rfl rfl hd (kk p l e R s m args below meth c H locs A C Dn hl)
theorem hx_cast {a N : Nat} {f : Nat → Value} {i : Int32} {x : Int32} (hd : decode cc pc = .ok (.castore, 1)) (ha : h.2.2 a = some (101, N, f)) (hB : V.2.1.size ≤ a) (hi : hx_in i N = true) (kk : hx_X V d y cc nL rt (pc + 1) ls st (hx_set h a (hx_putv (101, N, f) i.toNatClampNeg (narrow .char (.int x)))) r) : hx_X V d y cc nL rt pc ls (.int x :: .int i :: .ref a :: st) h r := fun p l e R s m args below meth c H locs A C Dn hl => by
  obtain ⟨cell, b1, b2, b3, b4, b5, b6⟩ := hx_arr C Dn ha (by decide) (by decide)
  have hi2 := of_decide_eq_true hi
  exact W.cast C.1.1 C.1.2.1 b1 b4 b2 (by rw [b5]; exact hi2) rfl rfl hd (fun H' e1 e2 e3 => kk p l e R s m args below meth c H' _ A C (Dn.put (Dn.1.set hB e2 b1 e1 hx_setslot e3 (hx_at.puta Dn ha hB (by decide) (Nat.not_le.mp fun q => hi2 (Or.inr q)) b1 e1)) hB) hl)
theorem hx_bald {a N : Nat} {f : Nat → Value} {i : Int32} (hd : decode cc pc = .ok (.baload, 1)) (ha : h.2.2 a = some (102, N, f)) (hi : hx_in i N = true) (kk : hx_X V d y cc nL rt (pc + 1) ls (f i.toNatClampNeg :: st) h r) : hx_X V d y cc nL rt pc ls (.int i :: .ref a :: st) h r := fun p l e R s m args below meth c H locs A C Dn hl => by
  obtain ⟨cell, b1, b2, b3, b4, b5, b6⟩ := hx_arr C Dn ha (by decide) (by decide)
  have hi2 := of_decide_eq_true hi
  exact W.bald C.1.1 C.1.2.1 b1 b4 b2 (by rw [b5]; exact hi2) (b6 _ (Nat.not_le.mp fun q => hi2 (Or.inr q))) rfl rfl hd (kk p l e R s m args below meth c H locs A C Dn hl)
theorem hx_bast {a N : Nat} {f : Nat → Value} {i : Int32} {x : Int32} (hd : decode cc pc = .ok (.bastore, 1)) (ha : h.2.2 a = some (102, N, f)) (hB : V.2.1.size ≤ a) (hi : hx_in i N = true) (kk : hx_X V d y cc nL rt (pc + 1) ls st (hx_set h a (hx_putv (102, N, f) i.toNatClampNeg (narrow .byte (.int x)))) r) : hx_X V d y cc nL rt pc ls (.int x :: .int i :: .ref a :: st) h r := fun p l e R s m args below meth c H locs A C Dn hl => by
  obtain ⟨cell, b1, b2, b3, b4, b5, b6⟩ := hx_arr C Dn ha (by decide) (by decide)
  have hi2 := of_decide_eq_true hi
  exact W.bast C.1.1 C.1.2.1 b1 b4 b2 (by rw [b5]; exact hi2) rfl rfl hd (fun H' e1 e2 e3 => kk p l e R s m args below meth c H' _ A C (Dn.put (Dn.1.set hB e2 b1 e1 hx_setslot e3 (hx_at.puta Dn ha hB (by decide) (Nat.not_le.mp fun q => hi2 (Or.inr q)) b1 e1)) hB) hl)
theorem hx_zald {a N : Nat} {f : Nat → Value} {i : Int32} (hd : decode cc pc = .ok (.baload, 1)) (ha : h.2.2 a = some (103, N, f)) (hi : hx_in i N = true) (kk : hx_X V d y cc nL rt (pc + 1) ls (f i.toNatClampNeg :: st) h r) : hx_X V d y cc nL rt pc ls (.int i :: .ref a :: st) h r := fun p l e R s m args below meth c H locs A C Dn hl => by
  obtain ⟨cell, b1, b2, b3, b4, b5, b6⟩ := hx_arr C Dn ha (by decide) (by decide)
  have hi2 := of_decide_eq_true hi
  exact W.zald C.1.1 C.1.2.1 b1 b4 b2 (by rw [b5]; exact hi2) (b6 _ (Nat.not_le.mp fun q => hi2 (Or.inr q))) rfl rfl hd (kk p l e R s m args below meth c H locs A C Dn hl)
theorem hx_zast {a N : Nat} {f : Nat → Value} {i : Int32} {x : Int32} (hd : decode cc pc = .ok (.bastore, 1)) (ha : h.2.2 a = some (103, N, f)) (hB : V.2.1.size ≤ a) (hi : hx_in i N = true) (kk : hx_X V d y cc nL rt (pc + 1) ls st (hx_set h a (hx_putv (103, N, f) i.toNatClampNeg (narrow .boolean (.int x)))) r) : hx_X V d y cc nL rt pc ls (.int x :: .int i :: .ref a :: st) h r := fun p l e R s m args below meth c H locs A C Dn hl => by
  obtain ⟨cell, b1, b2, b3, b4, b5, b6⟩ := hx_arr C Dn ha (by decide) (by decide)
  have hi2 := of_decide_eq_true hi
  exact W.zast C.1.1 C.1.2.1 b1 b4 b2 (by rw [b5]; exact hi2) rfl rfl hd (fun H' e1 e2 e3 => kk p l e R s m args below meth c H' _ A C (Dn.put (Dn.1.set hB e2 b1 e1 hx_setslot e3 (hx_at.puta Dn ha hB (by decide) (Nat.not_le.mp fun q => hi2 (Or.inr q)) b1 e1)) hB) hl)
theorem hx_lald {a N : Nat} {f : Nat → Value} {i : Int32} (hd : decode cc pc = .ok (.laload, 1)) (ha : h.2.2 a = some (104, N, f)) (hi : hx_in i N = true) (kk : hx_X V d y cc nL rt (pc + 1) ls (f i.toNatClampNeg :: st) h r) : hx_X V d y cc nL rt pc ls (.int i :: .ref a :: st) h r := fun p l e R s m args below meth c H locs A C Dn hl => by
  obtain ⟨cell, b1, b2, b3, b4, b5, b6⟩ := hx_arr C Dn ha (by decide) (by decide)
  have hi2 := of_decide_eq_true hi
  exact W.lald C.1.1 C.1.2.1 b1 b4 b2 (by rw [b5]; exact hi2) (b6 _ (Nat.not_le.mp fun q => hi2 (Or.inr q))) rfl rfl hd (kk p l e R s m args below meth c H locs A C Dn hl)
theorem hx_last {a N : Nat} {f : Nat → Value} {i : Int32} {x : Int64} (hd : decode cc pc = .ok (.lastore, 1)) (ha : h.2.2 a = some (104, N, f)) (hB : V.2.1.size ≤ a) (hi : hx_in i N = true) (kk : hx_X V d y cc nL rt (pc + 1) ls st (hx_set h a (hx_putv (104, N, f) i.toNatClampNeg (.long x))) r) : hx_X V d y cc nL rt pc ls (.long x :: .int i :: .ref a :: st) h r := fun p l e R s m args below meth c H locs A C Dn hl => by
  obtain ⟨cell, b1, b2, b3, b4, b5, b6⟩ := hx_arr C Dn ha (by decide) (by decide)
  have hi2 := of_decide_eq_true hi
  exact W.last C.1.1 C.1.2.1 b1 b4 b2 (by rw [b5]; exact hi2) rfl rfl hd (fun H' e1 e2 e3 => kk p l e R s m args below meth c H' _ A C (Dn.put (Dn.1.set hB e2 b1 e1 hx_setslot e3 (hx_at.puta Dn ha hB (by decide) (Nat.not_le.mp fun q => hi2 (Or.inr q)) b1 e1)) hB) hl)
end HA
