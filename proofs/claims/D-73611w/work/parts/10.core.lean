/-! pw: a logic over W whose heap is one function: address to kind and contents; every cell that matters is in it, so calls need no frame rule -/
set_option maxRecDepth 100000
abbrev pw_O : Type := Nat × List Value
abbrev pw_H : Type := Nat → Option pw_O
/-- heap, next address, slots made so far -/
abbrev pw_W : Type := pw_H × Nat × Nat
/-- launch; class of a kind; slot of a kind's field; the start's heap; statics by number -/
abbrev pw_E : Type := Launch × (Nat → ClassId) × (Nat → Nat → Nat) × Heap × (Nat → Value)
abbrev pw_R : Type := Option Value ⊕ Nat
/-- name, code, locals, answer, handlers -/
abbrev pw_M : Type := MethodName × ByteArray × Nat × Option FieldType × List (Nat × Nat × Nat × Nat)
def pw_T0 : u_T := fun _ => ("", "", "", false)
/-- the classes of objects, by kind -/
abbrev pw_cl : List vw_C := [(RX0, TX0, 2), (RX1, TX1, 7), (RX2, TX2, 37), (RX4, TX4, 10), (RX5, TX5, 2), (RX6, TX6, 8), (RX7, TX7, 3), (RX8, TX8, 2), (RX9, TX9, 10), (RX10, TX10, 10), (RX11, TX11, 4), (RX12, TX12, 4), (RX13, TX13, 2), (RX14, TX14, 3), (RX15, pw_T0, 0), (RX16, TX16, 3), (RX17, TX17, 2), (RX18, TX18, 2), (RJ2, TJ2, 3), (RJ15, TJ15, 4), (RJ5, TJ5, 4), (RJ6, TJ6, 4), (RJ18, TJ18, 9), (RJ24, TJ24, 6), (RJ26, TJ26, 1), (RJ28, TJ28, 4), (RJ29, TJ29, 1), (RJ31, TJ31, 4), (RJ21, TJ21, 1)]
/-- the arrays' element types, by kind less 1000; 0 to 5 by their names' classes -/
abbrev pw_ar : List FieldType := [.int, .byte, .boolean, .object "java/lang/Object", .object "java/lang/String", .object "VersionSearch$State", .object "VersionSearch$Kind", .object "java/lang/Integer", .int]
/-- statics that hold: class, name, descriptor -/
abbrev pw_st : List (String × String × String) := [("java/util/ArrayList", "EMPTY_ELEMENTDATA", "[Ljava/lang/Object;"), ("java/util/ArrayList", "DEFAULTCAPACITY_EMPTY_ELEMENTDATA", "[Ljava/lang/Object;"), ("java/lang/String", "COMPACT_STRINGS", "Z"), ("jdk/internal/util/Preconditions", "SIOOBE_FORMATTER", "Ljava/util/function/BiFunction;"), ("java/lang/Throwable", "UNASSIGNED_STACK", "[Ljava/lang/StackTraceElement;"), ("java/lang/Throwable", "SUPPRESSED_SENTINEL", "Ljava/util/List;"), ("java/lang/Integer$IntegerCache", "high", "I"), ("java/lang/Integer$IntegerCache", "cache", "[Ljava/lang/Integer;"), ("java/util/TreeSet", "PRESENT", "Ljava/lang/Object;"), ("VersionSearch$Kind", "PHRASE", "LVersionSearch$Kind;"), ("VersionSearch$Kind", "NEAR", "LVersionSearch$Kind;"), ("VersionSearch$Kind", "MANY", "LVersionSearch$Kind;"), ("VersionSearch$Piece", "END", "LVersionSearch$Piece;"), ("VersionSearch$Piece", "WORD", "LVersionSearch$Piece;"), ("VersionSearch$Piece", "BAD", "LVersionSearch$Piece;"), ("VersionSearch$Piece", "NUMBER", "LVersionSearch$Piece;"), ("VersionSearch$Piece", "SIGN", "LVersionSearch$Piece;"), ("VersionSearch$ArchiveReader", "NAMES", "[Ljava/lang/String;"), ("VersionSearch$HuntReader", "NAMES", "[Ljava/lang/String;"), ("VersionSearch", "KINDS", "[LVersionSearch$Kind;"), ("VersionSearch$QuestionsReader", "NAMES", "[Ljava/lang/String;")]
/-- the classes of enum constants: kinds 29, 30; their one field that is asked is the ordinal -/
abbrev pw_en : List String := ["VersionSearch$Kind", "VersionSearch$Piece"]
def pw_nf (k : Nat) : Nat := match pw_cl[k]? with | some r => r.2.2 | none => if k = 29 ∨ k = 30 then 1 else 0
def pw_base (E : pw_E) : Nat := E.2.2.2.1.size
def pw_vm (E : pw_E) (a : Nat) (v : Cell) : Prop := (v.vm = .none ∨ (a < pw_base E ∧ v.vm ≠ .unknown ∧ v.vm.isStatics = false)) ∧ (pw_base E ≤ a → v.monitor.owner = none ∧ v.monitor.count = 0)
def pw_at (E : pw_E) (a : Nat) (o : pw_O) (H : Heap) : Prop :=
  ∃ cell : Cell, H[a]? = some cell ∧ cell.cls = E.2.1 o.1 ∧ pw_vm E a cell ∧
    if o.1 < 1000 then o.2.length = pw_nf o.1 ∧ ∀ (j : Nat) (v : Value), o.2[j]? = some v → cell.slots[E.2.2.1 o.1 j]? = some v else cell.slots = o.2.toArray
def pw_Hp (E : pw_E) (w : pw_W) (H : Heap) : Prop :=
  H.size = w.2.1 ∧ pw_base E ≤ w.2.1 ∧ (∀ q : Nat, q < pw_base E → H[q]? = E.2.2.2.1[q]?) ∧ ∀ (a : Nat) (o : pw_O), w.1 a = some o → pw_at E a o H
theorem pw_vm.known {E : pw_E} {a : Nat} {v : Cell} (h : pw_vm E a v) : v.vm ≠ .unknown := by
  rcases h.1 with h | h
  · rw [h]; intro q; cases q
  · exact h.2.1
theorem pw_vm.stat {E : pw_E} {a : Nat} {v : Cell} (h : pw_vm E a v) : v.vm.isStatics = false := by
  rcases h.1 with h | h
  · rw [h]; rfl
  · exact h.2.2
theorem pw_vm.nost {E : pw_E} {a : Nat} {v : Cell} (h : pw_vm E a v) (q : ClassId) : v.vm ≠ .statics q := by
  intro e
  have := h.stat
  rw [e] at this
  cases this
theorem pw_vm.own {E : pw_E} {a : Nat} {v : Cell} (h : pw_vm E a v) (hb : pw_base E ≤ a) : v.vm = .none := by
  rcases h.1 with h | h
  · exact h
  · exact absurd h.1 (by omega)
/-- the words that ride beside lw_all -/
def pw_xok (w : Cond) : Bool := match w with
  | .fieldLinkNest .. => true
  | .methodLinkNest .. => true
  | .castable .. => true
  | .declares .. => true
  | .privateMethod .. => true
  | .publicMethod .. => true
  | .unhidden .. => true
  | _ => false
/-- interface calls: class, interface's method, method that runs -/
abbrev pw_fw : List (String × MethodName × MethodName) := [("java/util/ArrayList$Itr", ⟨"java/util/Iterator", "hasNext", "()Z"⟩, ⟨"java/util/ArrayList$Itr", "hasNext", "()Z"⟩), ("java/util/ArrayList$Itr", ⟨"java/util/Iterator", "next", "()Ljava/lang/Object;"⟩, ⟨"java/util/ArrayList$Itr", "next", "()Ljava/lang/Object;"⟩), ("java/util/TreeMap$KeyIterator", ⟨"java/util/Iterator", "hasNext", "()Z"⟩, ⟨"java/util/TreeMap$PrivateEntryIterator", "hasNext", "()Z"⟩), ("java/util/TreeMap$KeyIterator", ⟨"java/util/Iterator", "next", "()Ljava/lang/Object;"⟩, ⟨"java/util/TreeMap$KeyIterator", "next", "()Ljava/lang/Object;"⟩), ("java/util/ArrayList", ⟨"java/util/Collection", "toArray", "()[Ljava/lang/Object;"⟩, ⟨"java/util/ArrayList", "toArray", "()[Ljava/lang/Object;"⟩), ("java/lang/String", ⟨"java/lang/Comparable", "compareTo", "(Ljava/lang/Object;)I"⟩, ⟨"java/lang/String", "compareTo", "(Ljava/lang/Object;)I"⟩), ("java/lang/Integer", ⟨"java/lang/Comparable", "compareTo", "(Ljava/lang/Object;)I"⟩, ⟨"java/lang/Integer", "compareTo", "(Ljava/lang/Object;)I"⟩), ("VersionSearch$ByVersions", ⟨"java/util/Comparator", "compare", "(Ljava/lang/Object;Ljava/lang/Object;)I"⟩, ⟨"VersionSearch$ByVersions", "compare", "(Ljava/lang/Object;Ljava/lang/Object;)I"⟩), ("java/util/TreeMap", ⟨"java/util/NavigableMap", "navigableKeySet", "()Ljava/util/NavigableSet;"⟩, ⟨"java/util/TreeMap", "navigableKeySet", "()Ljava/util/NavigableSet;"⟩), ("java/util/TreeMap$KeySet", ⟨"java/util/NavigableSet", "iterator", "()Ljava/util/Iterator;"⟩, ⟨"java/util/TreeMap$KeySet", "iterator", "()Ljava/util/Iterator;"⟩), ("java/util/TreeMap$KeySet", ⟨"java/util/Set", "iterator", "()Ljava/util/Iterator;"⟩, ⟨"java/util/TreeMap$KeySet", "iterator", "()Ljava/util/Iterator;"⟩), ("VersionSearch$Kept", ⟨"VersionSearch$Asked", "holds", "(II)Z"⟩, ⟨"VersionSearch$Kept", "holds", "(II)Z"⟩)]
/-- instanceof that fails -/
def pw_nc : List (String × String) := []
/-- an enum's class, where its constants' ordinal lies -/
def pw_EN (U : State) (nm : String) (c : ClassId) (i : Nat) : Prop := U.vm.findClass nm = some c ∧ (∃ k : Class, U.vm.classes[c]? = some k) ∧ ∃ (cf : ClassId) (kf : Class) (fi : Nat) (f : Field), U.fieldFound? "java/lang/Enum" "ordinal" "I" = some (cf, kf, fi, f) ∧ f.isStatic = false ∧ f.slot = i
theorem pw_EN.moved {u U : State} (hvm : u.vm.Alike U.vm) {nm : String} {c : ClassId} {i : Nat} (h : pw_EN u nm c i) : pw_EN U nm c i := by
  obtain ⟨h1, ⟨k, hk⟩, cf, kf, fi, f, hi, hst, hs⟩ := h
  obtain ⟨k', hk', -⟩ := hvm.2.2 _ _ hk
  obtain ⟨kf', hi', -⟩ := State.fieldFound?_setVm (s := u) hvm hi
  exact ⟨by rw [hvm.findClass]; exact h1, ⟨k', hk'⟩, cf, kf', fi, f, by simpa only [State.fieldFound?, State.vm_setVm] using hi', hst, hs⟩
/-- an interface's entry whose method a superinterface declares: class, entry, interface, method, who declares it -/
abbrev pw_nl : List (String × Nat × String × String × String × String) := [("java/util/TreeSet", 69, "java/util/NavigableMap", "put", "(Ljava/lang/Object;Ljava/lang/Object;)Ljava/lang/Object;", "java/util/Map"), ("java/util/TreeSet", 53, "java/util/NavigableMap", "size", "()I", "java/util/Map"), ("java/util/TreeMap$KeySet", 26, "java/util/NavigableMap", "size", "()I", "java/util/Map")]
def pw_Nl (q : String × Nat × String × String × String × String) (U : State) : Prop :=
  (Cond.methodLink q.1 q.2.1 ⟨q.2.2.1, q.2.2.2.1, q.2.2.2.2.1⟩).before #[] U = true ∧ (Cond.interfaceMethod q.2.2.1 q.2.2.2.2.2 q.2.2.2.1 q.2.2.2.2.1).before #[] U = true
theorem pw_Nl.warm {q : String × Nat × String × String × String × String} {s U : State} (hW : s.WarmedH U.vm) (h : pw_Nl q s) : pw_Nl q U := by
  obtain ⟨h1, h⟩ := h
  have hA := hW.alike
  refine ⟨word_at hW (Or.inl rfl) h1, ?_⟩
  have e1 : (Cond.interfaceMethod q.2.2.1 q.2.2.2.2.2 q.2.2.2.1 q.2.2.2.2.1).before #[] (s.setVm U.vm) = (Cond.interfaceMethod q.2.2.1 q.2.2.2.2.2 q.2.2.2.1 q.2.2.2.2.1).before #[] s := by
    simp only [Cond.before, Cond.holds, Cond.value, State.vm_setVm, hA.findClass, State.methodFound?_setVm hA, State.methodNamed?_setVm hA, arm_isInterface_setVm hA]
  exact va_tabs rfl (rfl : (s.setVm U.vm).vm = U.vm) (e1.trans h)
/-- Throwable's statics that a new exception reads -/
abbrev pw_ls : List (String × String) := [("UNASSIGNED_STACK", "[Ljava/lang/StackTraceElement;"), ("SUPPRESSED_SENTINEL", "Ljava/util/List;")]
def pw_Ls (q : String × String) (H : Heap) (U : State) : Prop := ∃ (c : ClassId) (k : Class) (i : Nat) (f : Field) (a : Nat) (cell : Cell), U.vm.findClass "java/lang/Throwable" = some c ∧ U.fieldFound? "java/lang/Throwable" q.1 q.2 = some (c, k, i, f) ∧ f.isStatic = true ∧ k.statics = some a ∧ H[a]? = some cell ∧ cell.vm.isStatics = true ∧ cell.cls = c ∧ f.slot < cell.slots.size ∧ k.staticTypes[f.slot]? = some f.type
theorem pw_Ls.moved {q : String × String} {u U : State} {H : Heap} (hvm : u.vm.Alike U.vm) (h : pw_Ls q H u) : pw_Ls q H U := by
  obtain ⟨c, k, i, f, a, cell, h1, h2, h3, h4, h5, h6, h7, h8, h9⟩ := h
  obtain ⟨k', hi', he⟩ := State.fieldFound?_setVm hvm h2
  exact ⟨c, k', i, f, a, cell, by rw [hvm.findClass]; exact h1, hi', h3, by rw [he]; exact h4, h5, h6, h7, h8, by rw [he]; exact h9⟩
theorem pw_Ls.word {q : String × String} {H : Heap} {s : State} {args : Array Value} (h : pw_Ls q H s) (hE : ∀ a, a < H.size → s.heap[a]? = H[a]?) : (Cond.laysStatic "java/lang/Throwable" q.1 q.2).before args s = true := by
  obtain ⟨c, k, i, f, a, cell, h1, h2, h3, h4, h5, h6, h7, h8, h9⟩ := h
  show (Cond.laysStatic "java/lang/Throwable" q.1 q.2).holds args s none s [] = true
  exact Cond.laysStatic_of h1 h2 h3 h4 ((hE a (Array.getElem?_eq_some_iff.mp h5).1).trans h5) h6 h7 h8 h9
def pw_Ok (E : pw_E) (U : State) : Prop :=
  (∀ (k : Nat) (r : vw_C), pw_cl[k]? = some r → u_Kn U r.1 r.2.1 r.2.2 (E.2.1 k) (E.2.2.1 k)) ∧
  (∀ (t : Nat) (ty : FieldType), pw_ar[t]? = some ty → ArrOfT U (E.2.1 (1000 + t)) ty) ∧
  (∀ (t : Nat) (ty : FieldType), t < 6 → pw_ar[t]? = some ty → va_RA U (E.2.1 (1000 + t)) ty) ∧
  (∀ w ∈ lw_tbl, pw_xok w = true → va_Nw w U) ∧
  (∀ q ∈ pw_fw, va_Fw q.1 q.2.1 q.2.2 U) ∧
  (∀ C ∈ (["java/lang/Object", "java/lang/String", "VersionSearch$State"] : List String), va_AO C U) ∧
  (∀ q ∈ pw_nc, va_Nc q.1 q.2 U) ∧
  (∀ (i : Nat) (q : String × String × String), pw_st[i]? = some q → va_Z q.1 q.2.1 q.2.2 (E.2.2.2.2 i) (fun a => pw_base E ≤ a) U E.2.2.2.1) ∧
  (∀ (i : Nat) (nm : String), pw_en[i]? = some nm → pw_EN U nm (E.2.1 (29 + i)) (E.2.2.1 (29 + i) 0)) ∧
  (∀ (i : Nat) (q : lm_S), pw_la[i]? = some q → pw_La q (E.2.1 (2000 + i)) U) ∧
  (∃ mi : Nat, E.2.2.2.2 100 = .ref mi ∧ va_Mi "[Ljava/lang/Object;" mi U) ∧ (∀ q ∈ pw_nl, pw_Nl q U) ∧ E.1.stackTraces = false ∧ ∀ q ∈ pw_ls, pw_Ls q E.2.2.2.1 U
theorem pw_Nw_warmP {x : MethodName} {s U : State} (hW : s.WarmedH U.vm) (hZ : va_Nw (.privateMethod x) s) : va_Nw (.privateMethod x) U := va_tabs rfl (rfl : (s.setVm U.vm).vm = U.vm) (by rw [Cond.privateMethod_setVm hW.alike]; exact hZ)
theorem pw_Nw_warmQ {x : MethodName} {s U : State} (hW : s.WarmedH U.vm) (hZ : va_Nw (.publicMethod x) s) : va_Nw (.publicMethod x) U := va_tabs rfl (rfl : (s.setVm U.vm).vm = U.vm) (by rw [Cond.publicMethod_setVm hW.alike]; exact hZ)
theorem pw_Nw_warmU {C n d : String} {s U : State} (hW : s.WarmedH U.vm) (hZ : va_Nw (.unhidden C n d) s) : va_Nw (.unhidden C n d) U := va_tabs rfl (rfl : (s.setVm U.vm).vm = U.vm) (by rw [Cond.unhidden_setVm hW.alike]; exact hZ)
theorem pw_Nw_warm {w : Cond} {s U : State} (hx : pw_xok w = true) (hW : s.WarmedH U.vm) (h : va_Nw w s) : va_Nw w U := by
  cases w <;> first
    | exact va_Nw.warmF hW h
    | exact va_Nw.warmM hW h
    | exact va_Nw.warmC hW h
    | exact va_Nw.warmD hW h
    | exact pw_Nw_warmP hW h
    | exact pw_Nw_warmQ hW h
    | exact pw_Nw_warmU hW h
    | exact absurd hx (by simp [pw_xok])
theorem pw_fw_ok : ∀ q ∈ pw_fw, q.2.1.cls ≠ "java/lang/invoke/MethodHandle" ∧ q.2.1.cls ≠ "java/lang/invoke/VarHandle" := by decide +kernel
theorem pw_Ok.warm {E : pw_E} {s U : State} (hW : s.WarmedH U.vm) (h : pw_Ok E s) : pw_Ok E U := by
  obtain ⟨h1, h2, h3, h4, h5, h6, h7, h8, h9, h10, h11, h12, h13, h14⟩ := h
  have hA := hW.alike
  exact ⟨fun k r hk => u_Kn_moved hA (h1 k r hk), fun t ty ht => arrOfT_moved hA (h2 t ty ht), fun t ty hl ht => (h3 t ty hl ht).moved hA, fun w hw hx => pw_Nw_warm hx hW (h4 w hw hx),
    fun q hq => (h5 q hq).moved (pw_fw_ok q hq) hA, fun C hC => (h6 C hC).moved hA, fun q hq => (h7 q hq).moved hA, fun i q hi => (h8 i q hi).moved hA, fun i nm hi => (h9 i nm hi).moved hA, fun i q hi => (h10 i q hi).warm hW, (by obtain ⟨mi, m1, m2⟩ := h11; exact ⟨mi, m1, m2.moved hA⟩), fun q hq => (h12 q hq).warm hW, h13, fun q hq => (h14 q hq).moved hA⟩
theorem pw_Ok.calling {E : pw_E} {a : Array Value} {U : State} {g : JFrame} {mk : MethodId} (h : pw_Ok E U) : pw_Ok E (U.calling g mk a) := h.warm (s := U) (U := U.calling g mk a) (State.WarmedH.refl U)
/-- the locals: what is known of them -/
def pw_L (ls : Array Slot) (nL : Nat) (L : List (Option Value)) : Prop := ls.size = nL ∧ lv_wf ls ∧ ∀ (i : Nat) (v : Value), L[i]? = some (some v) → ls[i]? = some (.val v)
def pw_ll (L : List (Option Value)) : List (Nat × Value) := (List.range L.length).filterMap (fun i => match L[i]? with | some (some v) => some (i, v) | _ => none)
theorem pw_ll_mem {L : List (Option Value)} {i : Nat} {v : Value} : (i, v) ∈ pw_ll L ↔ L[i]? = some (some v) := by
  unfold pw_ll
  rw [List.mem_filterMap]
  constructor
  · rintro ⟨j, -, hj⟩
    split at hj
    · rename_i u e
      cases hj
      exact e
    · cases hj
  · intro h
    refine ⟨i, ?_, by rw [h]⟩
    rw [List.mem_range]
    exact (List.getElem?_eq_some_iff.mp h).1
theorem pw_L.has {ls : Array Slot} {nL : Nat} {L : List (Option Value)} (h : pw_L ls nL L) : lv_has ls nL (pw_ll L) := ⟨h.1, h.2.1, fun q hq => h.2.2 q.1 q.2 (pw_ll_mem.mp hq)⟩
/-- of one slot, as far as can be seen -/
def pw_c1 (o : Option Value) : Bool := match o with
  | some (.long _) => false
  | some (.double _) => false
  | _ => true
theorem pw_c1_cat {v : Value} (h : pw_c1 (some v) = true) : ¬ v.category = 2 := by
  cases v <;> simp_all [pw_c1, Value.category]
/-- the local before i isn't a long -/
def pw_pre (L : List (Option Value)) (i : Nat) : Bool := match i with
  | 0 => true
  | j + 1 => match L[j]? with | some o => pw_c1 o | none => true
theorem pw_L.store1 {ls : Array Slot} {nL i : Nat} {L : List (Option Value)} {v : Value} (hp : pw_pre L i = true) (h : lv_has ls nL ((i, v) :: (pw_ll L).filter (fun q => !(q.1 == i) && !(q.1 + 1 == i && q.2.category == 2)))) : pw_L ls nL (L.set i (some v)) := by
  refine ⟨h.1, h.2.1, fun j u hj => ?_⟩
  by_cases e : j = i
  · subst e
    have hl : j < (L.set j (some v)).length := (List.getElem?_eq_some_iff.mp hj).1
    have hl' : j < L.length := by simpa using hl
    rw [List.getElem?_set_self hl'] at hj
    cases hj
    exact h.2.2 _ List.mem_cons_self
  · rw [List.getElem?_set_ne (Ne.symm e)] at hj
    refine h.2.2 (j, u) (List.mem_cons_of_mem _ (List.mem_filter.mpr ⟨pw_ll_mem.mpr hj, ?_⟩))
    have e1 : (j == i) = false := by simpa using e
    have e2 : (j + 1 == i && u.category == 2) = false := by
      by_cases f : j + 1 = i
      · subst f
        have h1 : pw_c1 (some u) = true := by
          have := hp
          simp only [pw_pre, hj] at this
          exact this
        have h2 := pw_c1_cat h1
        simp [h2]
      · simp [f]
    simp [e1, e2]
theorem pw_L.store2 {ls : Array Slot} {nL i : Nat} {L : List (Option Value)} {v : Value} (hp : pw_pre L i = true) (h : lv_has ls nL ((i, v) :: (pw_ll L).filter (fun q => !(q.1 == i) && (!(q.1 == i + 1) && !(q.1 + 1 == i && q.2.category == 2))))) : pw_L ls nL ((L.set i (some v)).set (i + 1) none) := by
  refine ⟨h.1, h.2.1, fun j u hj => ?_⟩
  by_cases e1 : j = i + 1
  · subst e1
    by_cases hl : i + 1 < (L.set i (some v)).length
    · rw [List.getElem?_set_self hl] at hj
      cases hj
    · rw [List.getElem?_eq_none (by simpa using hl)] at hj
      cases hj
  · rw [List.getElem?_set_ne (Ne.symm e1)] at hj
    by_cases e : j = i
    · subst e
      have hl : j < (L.set j (some v)).length := (List.getElem?_eq_some_iff.mp hj).1
      have hl' : j < L.length := by simpa using hl
      rw [List.getElem?_set_self hl'] at hj
      cases hj
      exact h.2.2 _ List.mem_cons_self
    · rw [List.getElem?_set_ne (Ne.symm e)] at hj
      refine h.2.2 (j, u) (List.mem_cons_of_mem _ (List.mem_filter.mpr ⟨pw_ll_mem.mpr hj, ?_⟩))
      have f1 : (j == i) = false := by simpa using e
      have f2 : (j == i + 1) = false := by simpa using e1
      have f3 : (j + 1 == i && u.category == 2) = false := by
        by_cases f : j + 1 = i
        · subst f
          have h1 : pw_c1 (some u) = true := by
            have := hp
            simp only [pw_pre, hj] at this
            exact this
          have h2 := pw_c1_cat h1
          simp [h2]
        · simp [f]
      simp [f1, f2, f3]
