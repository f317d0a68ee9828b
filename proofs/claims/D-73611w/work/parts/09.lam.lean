set_option maxRecDepth 100000
/-! the lambdas' made classes: what the rule makes of each site (printed by genlam.py) -/
def lm_D (host : String) (σ : Lambda.Shape) : ClassFile := (σ.file host).getD { minorVersion := 0, majorVersion := 0, constantPool := #[], accessFlags := 0, thisClass := 0, superClass := 0, interfaces := #[], fields := #[], methods := #[], attributes := #[] }
def lm_fw (D : ClassFile) : Method := ((layoutMethods D).bind (·[1]?)).getD default
def lm_lay (D : ClassFile) : Array Field × Array FieldType × Array FieldType := (layoutFields D 0).getD (#[], #[], #[])
/-- method, pc, index, shape -/
abbrev lm_S : Type := MethodName × Nat × Nat × Lambda.Shape
/-- code, locals, fields (entry, its class, name-and-type, name, descriptor, place), the method's entry, its class', its name-and-type's, its class' name's -/
abbrev lm_K : Type := ByteArray × Nat × List (Nat × Nat × Nat × String × String × Nat) × Nat × Nat × Nat × Nat
abbrev lm_okD (D : ClassFile) (σ : Lambda.Shape) (K : lm_K) : Prop :=
  ((layoutMethods D).bind (·[1]?)).isSome = true ∧ (layoutFields D 0).isSome = true ∧
  ((lm_fw D).code.map fun c => (c.code.data.toList, c.maxLocals)) = some (K.1.data.toList, K.2.1) ∧ (lm_fw D).accessFlags = 1 ∧ (lm_fw D).sig = σ.sam ∧
  (lm_lay D).2.1.toList = σ.captured ∧
  D.constantPool[K.2.2.2.1]? = some (.methodref K.2.2.2.2.1 K.2.2.2.2.2.1) ∧ D.constantPool.className? K.2.2.2.2.1 = some σ.implClass ∧ D.constantPool.nameAndType? K.2.2.2.2.2.1 = some (σ.implName, σ.implDesc.toString) ∧
  D.constantPool[K.2.2.2.2.1]? = some (.class_ K.2.2.2.2.2.2) ∧ D.constantPool.string? K.2.2.2.2.2.2 = some σ.implClass ∧ K.2.2.2.2.1 ≠ D.thisClass ∧
  ∀ q ∈ K.2.2.1, D.constantPool[q.1]? = some (.fieldref q.2.1 q.2.2.1) ∧ D.constantPool.nameAndType? q.2.2.1 = some (q.2.2.2.1, q.2.2.2.2.1) ∧ (lm_lay D).1.findIdx? (·.name == q.2.2.2.1) = some q.2.2.2.2.2 ∧ ((lm_lay D).1[q.2.2.2.2.2]?).map (fun f => (f.isStatic, f.slot)) = some (false, q.2.2.2.2.2)
abbrev lm_ok (host : String) (σ : Lambda.Shape) (K : lm_K) : Prop := (σ.file host).isSome = true ∧ σ.implItf = false ∧ lm_okD (lm_D host σ) σ K
/-- what is known of a made class c -/
def lm_F (vm : Vm) (c : ClassId) (host : String) (σ : Lambda.Shape) (K : lm_K) : Prop := ∃ (k tk : Class) (file : ClassFile) (methk : Method) (ck : Code) (t iface : ClassId) (tg found : MethodId),
  (vm.classes[c]? = some k ∧ k.name = host ++ "$$Lambda" ∧ k.kind = .ordinary ∧ k.cf = some file ∧ k.instanceTypes.toList = σ.captured) ∧
  (vm.method? ⟨c, 1⟩ = some methk ∧ methk.code = some ck ∧ ck.code = K.1 ∧ ck.maxLocals = K.2.1 ∧ methk.locks = false ∧ methk.accessFlags = 1 ∧ methk.sig = σ.sam ∧ ck.exceptionTable = #[]) ∧
  (vm.findClass σ.implClass = some t ∧ vm.classes[t]? = some tk ∧ tk.isInterface = false ∧ ((methodIn t σ.implName σ.implDesc.toString tk.isInterface none).ask { classPath := fun _ => none } vm).1 = .ok tg) ∧
  (vm.findClass σ.iface = some iface ∧ ((methodIn iface σ.name σ.sam.toString true none).ask { classPath := fun _ => none } vm).1 = .ok found ∧ selectMethod {} vm c found = .method ⟨c, 1⟩) ∧
  (file.constantPool[K.2.2.2.1]? = some (.methodref K.2.2.2.2.1 K.2.2.2.2.2.1) ∧ file.constantPool.nameAndType? K.2.2.2.2.2.1 = some (σ.implName, σ.implDesc.toString)) ∧
  (vm.methodReady c K.2.2.2.1 tg ∧ vm.classReady c K.2.2.2.2.1 t) ∧
  ∀ q ∈ K.2.2.1, ∃ f : Field, vm.fieldReady c q.1 c f ∧ f.isStatic = false ∧ f.slot = q.2.2.2.2.2
theorem lm_made {host : String} {σ : Lambda.Shape} {K : lm_K} (hok : lm_ok host σ K) {vm : Vm} {d c : ClassId} {dk : Class} (hd : vm.classes[d]? = some dk) (hname : dk.name = host) (h : Lambda.isMade { classPath := fun _ => none } vm d σ c = true)
    (hO : ∀ o ok, vm.findClass "java/lang/Object" = some o → vm.classes[o]? = some ok → ok.instanceTypes.size = 0) : lm_F vm c host σ K := by
  obtain ⟨h1, h2, h3, h4, h5, h6, h7, h8, h9, h10, h11, h12, h13, h14, h15⟩ := hok
  obtain ⟨dk', k, ok, tk, file, cf, object, iface, t, lay, methods, target, found, hd', hk, hfile, hcf, hobj, hif, hok, hlay, hms, ht, htk, hg, hfo, hrec, -, -, -, hitf, hpool, hmeth, hfields, hit, hres, hsel⟩ := Lambda.isMade_spec h
  cases hd.symm.trans hd'
  obtain rfl : cf = lm_D host σ := by rw [hname] at hcf; simp [lm_D, hcf]
  rw [hO object ok hobj hok] at hlay
  obtain rfl : lay = lm_lay (lm_D host σ) := by simp [lm_lay, hlay]
  have hemp : ok.instanceTypes = #[] := Array.eq_empty_of_size_eq_zero (hO object ok hobj hok)
  have hsec : methods[1]? = some (lm_fw (lm_D host σ)) := by
    rw [hms] at h3
    obtain ⟨x, hx⟩ := Option.isSome_iff_exists.mp h3
    have hx : methods[1]? = some x := hx
    simp [lm_fw, hms, hx]
  obtain ⟨b, hb, hsame⟩ := hmeth 1 _ hsec
  obtain ⟨-, -, b3, b4, x, y, hx, hy, -, y2, y3, y4⟩ := Lambda.sameMethod_spec hsame
  rw [hx] at h5
  simp only [Option.map_some, Option.some.injEq, Prod.mk.injEq] at h5
  have hbm : vm.method? ⟨c, 1⟩ = some b := by simp [Vm.method?, hk, hb]
  refine ⟨k, tk, file, b, y, t, iface, target, found, ⟨hk, by rw [hrec.1, hname], hrec.2.1, hfile, by rw [hit.1, hemp]; simpa using h8⟩,
    ⟨hbm, hy, by rw [y3]; exact ByteArray.ext (Array.toList_inj.mp h5.1), by rw [y2]; exact h5.2, ?_, by rw [b4]; exact h6, by rw [b3]; exact h7, y4⟩, ⟨ht, htk, by rw [hitf]; exact h2, hg⟩, ⟨hif, hfo, hsel⟩,
    ⟨by rw [hpool.2.1]; exact h9, by rw [hpool.2.1]; exact h11⟩,
    ⟨⟨k, hk, hres _ _ (Lambda.resolvedOf_method h9 h10 ht htk h11 hg)⟩, ⟨k, hk, hres _ _ (Lambda.resolvedOf_class h12 h14 h13 ht)⟩⟩, ?_⟩
  · simp [Method.locks, Method.isSynchronized, b4, h6, hasFlag, Acc.synchronized]
  · intro q hq
    obtain ⟨q1, q2, q3, q4⟩ := h15 q hq
    obtain ⟨g0, hg0, hp0⟩ := Option.map_eq_some_iff.mp q4
    simp only [Prod.mk.injEq] at hp0
    exact ⟨g0, ⟨k, _, k, hk, hres _ _ (Lambda.resolvedOf_field q1 q2 q3), hk, hfields _ _ hg0⟩, hp0.1, hp0.2⟩
theorem lm_three {α : Type} {x : Array Nat} {f : Nat → Nat → Nat → Option α} {r : α} (h : Lambda.shapeOf?.match_15 (fun _ => Option α) x f (fun _ => none) = some r) : ∃ a b c, f a b c = some r := by
  rcases x with ⟨l⟩
  rcases l with _ | ⟨a0, _ | ⟨a1, _ | ⟨a2, _ | ⟨a3, l⟩⟩⟩⟩ <;> first | exact ⟨_, _, _, h⟩ | cases h
theorem lm_shape {cf : ClassFile} {index : Nat} {σ : Lambda.Shape} (h : Lambda.shapeOf? cf index = some σ) :
    ∃ (b nt : Nat) (name desc : String) (sig : MethodDescriptor), cf.constantPool[index]? = some (.invokeDynamic b nt) ∧ cf.constantPool.nameAndType? nt = some (name, desc) ∧ parseLongMethodDescriptor desc = some sig ∧ sig.parameters = σ.captured := by
  unfold Lambda.shapeOf? at h
  split at h
  · rename_i b nt hc
    obtain ⟨entries, -, h⟩ := Option.bind_eq_some_iff.mp h
    obtain ⟨bm, -, h⟩ := Option.bind_eq_some_iff.mp h
    split at h
    · obtain ⟨u, -, h⟩ := Option.bind_eq_some_iff.mp h
      obtain ⟨a0, a1, a2, h⟩ := lm_three h
      split at h
      · split at h
        · split at h
          · obtain ⟨⟨name, desc⟩, hnt, h⟩ := Option.bind_eq_some_iff.mp h
            obtain ⟨site, hsite, h⟩ := Option.bind_eq_some_iff.mp h
            split at h
            · obtain ⟨⟨c1, c2, c3, c4⟩, -, h⟩ := Option.bind_eq_some_iff.mp h
              obtain ⟨x1, -, h⟩ := Option.bind_eq_some_iff.mp h
              obtain ⟨x2, -, h⟩ := Option.bind_eq_some_iff.mp h
              obtain ⟨x3, -, h⟩ := Option.bind_eq_some_iff.mp h
              obtain ⟨x4, -, h⟩ := Option.bind_eq_some_iff.mp h
              obtain ⟨x5, -, h⟩ := Option.bind_eq_some_iff.mp h
              cases h
              exact ⟨b, nt, name, desc, site, hc, hnt, parseLong_of_parse hsite, rfl⟩
            · cases h
          · cases h
        · cases h
      · cases h
    · cases h
  · cases h
/-- the site q is linked: its made class is c -/
def pw_La (q : lm_S) (c : ClassId) (U : State) : Prop :=
  (∃ (m : MethodId) (k : Class) (cf : ClassFile) (i0 p0 : Nat), U.methodNamed? q.1 = some m ∧ U.vm.classes[m.cls]? = some k ∧ k.cf = some cf ∧ Lambda.shapeOf? cf q.2.2.1 = some q.2.2.2 ∧
    (k.callSites.find? fun y => y.1 == m.idx && y.2.1 == q.2.1) = some (i0, p0, .makes c) ∧ Lambda.isMade { classPath := fun _ => none } U.vm m.cls q.2.2.2 c = true) ∧
  U.lambdaCallable q.2.2.2 c = true ∧ ∀ o ok, U.vm.findClass "java/lang/Object" = some o → U.vm.classes[o]? = some ok → ok.instanceTypes.size = 0
theorem pw_La.warm {q : lm_S} {c : ClassId} {s U : State} (hW : s.WarmedH U.vm) (h : pw_La q c s) : pw_La q c U := by
  obtain ⟨⟨m, k, cf, i0, p0, h1, h2, h3, h4, h5, h6⟩, h7, h8⟩ := h
  have hA := hW.alike
  obtain ⟨k', hk', he⟩ := hA.2.2 _ _ h2
  refine ⟨⟨m, k', cf, i0, p0, ?_, hk', by rw [he]; exact h3, h4, by rw [he]; exact h5, Lambda.isMade_warmer hW h6⟩, ?_, ?_⟩
  · have := State.methodNamed?_setVm (s := s) hA q.1
    rw [h1] at this
    exact this
  · simp only [State.lambdaCallable, hA.findClass, hA.assignable, hA.superclasses, hA.declaredIn] at h7 ⊢
    exact h7
  · intro o ok ho hok
    rw [hA.findClass] at ho
    cases hk0 : s.vm.classes[o]? with
    | none => rw [hA.none hk0] at hok; cases hok
    | some k0 =>
      obtain ⟨k1, hk1, he1⟩ := hA.2.2 _ _ hk0
      cases hok.symm.trans hk1
      rw [he1]
      exact h8 o k0 ho hk0
theorem pw_La.facts {q : lm_S} {K : lm_K} {c : ClassId} {U : State} (hK : lm_ok q.1.cls q.2.2.2 K) (h : pw_La q c U) : lm_F U.vm c q.1.cls q.2.2.2 K := by
  obtain ⟨⟨m, k, cf, i0, p0, h1, h2, h3, h4, h5, h6⟩, h7, h8⟩ := h
  obtain ⟨k', hk', hname⟩ := className_of_methodNamed h1
  cases h2.symm.trans hk'
  exact lm_made hK h2 hname h6 h8
/-- at the start -/
theorem pw_La.start {x : MethodName} {pc index : Nat} {σ : Lambda.Shape} {args : Array Value} {s : State} (hc : σ.captured ≠ []) (h : (Cond.lambdaSite x pc index σ).before args s = true) (hO : (Cond.instantiable "java/lang/Object" 0).before args s = true) : ∃ c : ClassId, pw_La (x, pc, index, σ) c s := by
  obtain ⟨c, one, hat⟩ := Cond.lambdaSite_spec h
  obtain ⟨m, k, cf, i0, p0, l, h1, h2, h3, h4, -, h5, h6, h7, hl⟩ := State.lambdaAt?_spec hat
  rcases hl with ⟨a, cell, -, -, h, -⟩ | ⟨rfl, -, -⟩
  · exact absurd h hc
  · refine ⟨c, ⟨m, k, cf, i0, p0, h1, h2, h3, h4, h5, h6⟩, h7, fun o ok ho hok => ?_⟩
    obtain ⟨cO, kO, hfO, hkO, -, -, -, hsz⟩ := Cond.instantiable_spec hO
    cases hfO.symm.trans ho
    cases hkO.symm.trans hok
    exact hsz
/-! the made method: the captured values, the arguments, the call -/
theorem lm_get {p : Program} {l : Launch} {e : Env} {R : Room} {s : State} {m : MethodId} {args : Array Value} {below : List Frame} {meth : Method} {c : Code} {H : Heap} {locs : List Loc} {cells slots : Nat} {Q : State → Prop} {cc : ByteArray} (hexec : p.tables.exec = Jvm.exec) (hb : c.code = cc)
    {pc idx j a : Nat} {ls : Array Slot} {st : List Value} {cell : Cell} {v : Value} (hdg : decode cc pc = .ok (.getfield idx, 3)) (hf : ∀ U : State, s.WarmedH U.vm → ∃ f : Field, U.vm.fieldReady m.cls idx m.cls f ∧ f.isStatic = false ∧ f.slot = j)
    (hcell : H[a]? = some cell) (hkn : cell.vm ≠ .unknown) (hv : cell.slots[j]? = some v) (k : W p l e R s m args below meth c H locs cells slots Q (F0 m (pc + 3) ls (v :: st))) : W p l e R s m args below meth c H locs cells slots Q (F0 m pc ls (.ref a :: st)) := by
  intro T hT X
  obtain ⟨t, h1, h2⟩ := k T hT X
  obtain ⟨f, f1, f2, rfl⟩ := hf T X.warmed
  refine ⟨t, ?_, h2⟩
  have hdg' : decode c.code pc = .ok (.getfield idx, 3) := by rw [hb]; exact hdg
  jvm_step X.here [X.here.top, hexec, hdg', getfield.wp_ready (e := e) (s := T) (c := m.cls) (field := f) (a := a) (rest := st) (cell := cell) (v := v) (f := F0 m pc ls (.ref a :: st)) X.here.top f1 f2 rfl (by rw [hT]; exact hcell) hkn hv]
  exact h1
/-- up to the call at pcI, with what is captured and what is given on the stack -/
def lm_Ld (K : lm_K) (pcI nL : Nat) (a : Nat) (cv av : List Value) : Prop := ∀ (p : Program) (l : Launch) (e : Env) (R : Room) (s : State) (m : MethodId) (args : Array Value) (below : List Frame) (meth : Method) (c : Code) (H : Heap) (Q : State → Prop) (cell : Cell) (ls : Array Slot),
  p.tables.exec = Jvm.exec → c.code = K.1 → (∀ q ∈ K.2.2.1, ∀ U : State, s.WarmedH U.vm → ∃ f : Field, U.vm.fieldReady m.cls q.1 m.cls f ∧ f.isStatic = false ∧ f.slot = q.2.2.2.2.2) →
  H[a]? = some cell → cell.vm ≠ .unknown → cell.slots = cv.toArray → lv_has ls nL (lv_args 0 (.ref a :: av)) → W p l e R s m args below meth c H [] 0 0 Q (F0 m pcI ls (cv ++ av).reverse) → W p l e R s m args below meth c H [] 0 0 Q (F0 m 0 ls [])
def lm_s0 : Lambda.Shape := { iface := "VersionSearch$Edit", name := "of", sam := ⟨[(.array .int)], some (.array .int)⟩, captured := [.int, .int, .int], kind := 6, implClass := "VersionSearch$Document", implName := "lambda$told$0", implDesc := ⟨[.int, .int, .int, (.array .int)], some (.array .int)⟩, implItf := false, inst := ⟨[(.array .int)], some (.array .int)⟩ }
def lm_c0 : ByteArray := ⟨#[42, 180, 0, 17, 42, 180, 0, 19, 42, 180, 0, 21, 43, 184, 0, 29, 176]⟩
def lm_k0 : lm_K := (lm_c0, 2, [(17, 2, 16, "arg$1", "I", 0), (19, 2, 18, "arg$2", "I", 1), (21, 2, 20, "arg$3", "I", 2)], 29, 25, 28, 24)
theorem lm_ok0 : lm_ok "VersionSearch$Document" lm_s0 lm_k0 := by decide +kernel
theorem lm_d0_0 : decode lm_c0 0 = .ok (.aload_n 0, 1) := by decide +kernel
theorem lm_d0_1 : decode lm_c0 1 = .ok (.getfield 17, 3) := by decide +kernel
theorem lm_d0_4 : decode lm_c0 4 = .ok (.aload_n 0, 1) := by decide +kernel
theorem lm_d0_5 : decode lm_c0 5 = .ok (.getfield 19, 3) := by decide +kernel
theorem lm_d0_8 : decode lm_c0 8 = .ok (.aload_n 0, 1) := by decide +kernel
theorem lm_d0_9 : decode lm_c0 9 = .ok (.getfield 21, 3) := by decide +kernel
theorem lm_d0_12 : decode lm_c0 12 = .ok (.aload_n 1, 1) := by decide +kernel
theorem lm_d0_13 : decode lm_c0 13 = .ok (.invokestatic 29, 3) := by decide +kernel
theorem lm_d0_16 : decode lm_c0 16 = .ok (.areturn, 1) := by decide +kernel
theorem lm_ld0 {a : Nat} {c1 c2 c3 : Value} {b : Nat} : lm_Ld lm_k0 13 2 a [c1, c2, c3] [.ref b] := by
  intro p l e R s m args below meth c H Q cell ls hx hb hf h1 h2 h3 hl k
  have l0 := hl.2.2 (0, .ref a) (by simp [lv_args, Value.category])
  refine lv_aload_n hx hb lm_d0_0 rfl l0 (lm_get hx hb lm_d0_1 (hf (17, 2, 16, "arg$1", "I", 0) (by simp [lm_k0])) h1 h2 (by rw [h3]; rfl) ?_)
  refine lv_aload_n hx hb lm_d0_4 rfl l0 (lm_get hx hb lm_d0_5 (hf (19, 2, 18, "arg$2", "I", 1) (by simp [lm_k0])) h1 h2 (by rw [h3]; rfl) ?_)
  refine lv_aload_n hx hb lm_d0_8 rfl l0 (lm_get hx hb lm_d0_9 (hf (21, 2, 20, "arg$3", "I", 2) (by simp [lm_k0])) h1 h2 (by rw [h3]; rfl) ?_)
  refine lv_aload_n hx hb lm_d0_12 rfl (hl.2.2 (1, .ref b) (by simp [lv_args, Value.category])) ?_
  exact k
def lm_s1 : Lambda.Shape := { iface := "VersionSearch$Edit", name := "of", sam := ⟨[(.array .int)], some (.array .int)⟩, captured := [(.object "VersionSearch$Document"), .int], kind := 6, implClass := "VersionSearch$ArchiveReader", implName := "lambda$back$0", implDesc := ⟨[(.object "VersionSearch$Document"), .int, (.array .int)], some (.array .int)⟩, implItf := false, inst := ⟨[(.array .int)], some (.array .int)⟩ }
def lm_c1 : ByteArray := ⟨#[42, 180, 0, 17, 42, 180, 0, 19, 43, 184, 0, 27, 176]⟩
def lm_k1 : lm_K := (lm_c1, 2, [(17, 2, 16, "arg$1", "LVersionSearch$Document;", 0), (19, 2, 18, "arg$2", "I", 1)], 27, 23, 26, 22)
theorem lm_ok1 : lm_ok "VersionSearch$ArchiveReader" lm_s1 lm_k1 := by decide +kernel
theorem lm_d1_0 : decode lm_c1 0 = .ok (.aload_n 0, 1) := by decide +kernel
theorem lm_d1_1 : decode lm_c1 1 = .ok (.getfield 17, 3) := by decide +kernel
theorem lm_d1_4 : decode lm_c1 4 = .ok (.aload_n 0, 1) := by decide +kernel
theorem lm_d1_5 : decode lm_c1 5 = .ok (.getfield 19, 3) := by decide +kernel
theorem lm_d1_8 : decode lm_c1 8 = .ok (.aload_n 1, 1) := by decide +kernel
theorem lm_d1_9 : decode lm_c1 9 = .ok (.invokestatic 27, 3) := by decide +kernel
theorem lm_d1_12 : decode lm_c1 12 = .ok (.areturn, 1) := by decide +kernel
theorem lm_ld1 {a : Nat} {c1 c2 : Value} {b : Nat} : lm_Ld lm_k1 9 2 a [c1, c2] [.ref b] := by
  intro p l e R s m args below meth c H Q cell ls hx hb hf h1 h2 h3 hl k
  have l0 := hl.2.2 (0, .ref a) (by simp [lv_args, Value.category])
  refine lv_aload_n hx hb lm_d1_0 rfl l0 (lm_get hx hb lm_d1_1 (hf (17, 2, 16, "arg$1", "LVersionSearch$Document;", 0) (by simp [lm_k1])) h1 h2 (by rw [h3]; rfl) ?_)
  refine lv_aload_n hx hb lm_d1_4 rfl l0 (lm_get hx hb lm_d1_5 (hf (19, 2, 18, "arg$2", "I", 1) (by simp [lm_k1])) h1 h2 (by rw [h3]; rfl) ?_)
  refine lv_aload_n hx hb lm_d1_8 rfl (hl.2.2 (1, .ref b) (by simp [lv_args, Value.category])) ?_
  exact k
def lm_s2 : Lambda.Shape := { iface := "VersionSearch$Edit", name := "of", sam := ⟨[(.array .int)], some (.array .int)⟩, captured := [.int, .int], kind := 6, implClass := "VersionSearch$ArchiveReader", implName := "lambda$row$1", implDesc := ⟨[.int, .int, (.array .int)], some (.array .int)⟩, implItf := false, inst := ⟨[(.array .int)], some (.array .int)⟩ }
def lm_c2 : ByteArray := ⟨#[42, 180, 0, 16, 42, 180, 0, 18, 43, 184, 0, 26, 176]⟩
def lm_k2 : lm_K := (lm_c2, 2, [(16, 2, 15, "arg$1", "I", 0), (18, 2, 17, "arg$2", "I", 1)], 26, 22, 25, 21)
theorem lm_ok2 : lm_ok "VersionSearch$ArchiveReader" lm_s2 lm_k2 := by decide +kernel
theorem lm_d2_0 : decode lm_c2 0 = .ok (.aload_n 0, 1) := by decide +kernel
theorem lm_d2_1 : decode lm_c2 1 = .ok (.getfield 16, 3) := by decide +kernel
theorem lm_d2_4 : decode lm_c2 4 = .ok (.aload_n 0, 1) := by decide +kernel
theorem lm_d2_5 : decode lm_c2 5 = .ok (.getfield 18, 3) := by decide +kernel
theorem lm_d2_8 : decode lm_c2 8 = .ok (.aload_n 1, 1) := by decide +kernel
theorem lm_d2_9 : decode lm_c2 9 = .ok (.invokestatic 26, 3) := by decide +kernel
theorem lm_d2_12 : decode lm_c2 12 = .ok (.areturn, 1) := by decide +kernel
theorem lm_ld2 {a : Nat} {c1 c2 : Value} {b : Nat} : lm_Ld lm_k2 9 2 a [c1, c2] [.ref b] := by
  intro p l e R s m args below meth c H Q cell ls hx hb hf h1 h2 h3 hl k
  have l0 := hl.2.2 (0, .ref a) (by simp [lv_args, Value.category])
  refine lv_aload_n hx hb lm_d2_0 rfl l0 (lm_get hx hb lm_d2_1 (hf (16, 2, 15, "arg$1", "I", 0) (by simp [lm_k2])) h1 h2 (by rw [h3]; rfl) ?_)
  refine lv_aload_n hx hb lm_d2_4 rfl l0 (lm_get hx hb lm_d2_5 (hf (18, 2, 17, "arg$2", "I", 1) (by simp [lm_k2])) h1 h2 (by rw [h3]; rfl) ?_)
  refine lv_aload_n hx hb lm_d2_8 rfl (hl.2.2 (1, .ref b) (by simp [lv_args, Value.category])) ?_
  exact k
def lm_s3 : Lambda.Shape := { iface := "VersionSearch$Edit", name := "of", sam := ⟨[(.array .int)], some (.array .int)⟩, captured := [.int, .int], kind := 6, implClass := "VersionSearch$ArchiveReader", implName := "lambda$row$2", implDesc := ⟨[.int, .int, (.array .int)], some (.array .int)⟩, implItf := false, inst := ⟨[(.array .int)], some (.array .int)⟩ }
def lm_c3 : ByteArray := ⟨#[42, 180, 0, 16, 42, 180, 0, 18, 43, 184, 0, 26, 176]⟩
def lm_k3 : lm_K := (lm_c3, 2, [(16, 2, 15, "arg$1", "I", 0), (18, 2, 17, "arg$2", "I", 1)], 26, 22, 25, 21)
theorem lm_ok3 : lm_ok "VersionSearch$ArchiveReader" lm_s3 lm_k3 := by decide +kernel
theorem lm_d3_0 : decode lm_c3 0 = .ok (.aload_n 0, 1) := by decide +kernel
theorem lm_d3_1 : decode lm_c3 1 = .ok (.getfield 16, 3) := by decide +kernel
theorem lm_d3_4 : decode lm_c3 4 = .ok (.aload_n 0, 1) := by decide +kernel
theorem lm_d3_5 : decode lm_c3 5 = .ok (.getfield 18, 3) := by decide +kernel
theorem lm_d3_8 : decode lm_c3 8 = .ok (.aload_n 1, 1) := by decide +kernel
theorem lm_d3_9 : decode lm_c3 9 = .ok (.invokestatic 26, 3) := by decide +kernel
theorem lm_d3_12 : decode lm_c3 12 = .ok (.areturn, 1) := by decide +kernel
theorem lm_ld3 {a : Nat} {c1 c2 : Value} {b : Nat} : lm_Ld lm_k3 9 2 a [c1, c2] [.ref b] := by
  intro p l e R s m args below meth c H Q cell ls hx hb hf h1 h2 h3 hl k
  have l0 := hl.2.2 (0, .ref a) (by simp [lv_args, Value.category])
  refine lv_aload_n hx hb lm_d3_0 rfl l0 (lm_get hx hb lm_d3_1 (hf (16, 2, 15, "arg$1", "I", 0) (by simp [lm_k3])) h1 h2 (by rw [h3]; rfl) ?_)
  refine lv_aload_n hx hb lm_d3_4 rfl l0 (lm_get hx hb lm_d3_5 (hf (18, 2, 17, "arg$2", "I", 1) (by simp [lm_k3])) h1 h2 (by rw [h3]; rfl) ?_)
  refine lv_aload_n hx hb lm_d3_8 rfl (hl.2.2 (1, .ref b) (by simp [lv_args, Value.category])) ?_
  exact k
def lm_s4 : Lambda.Shape := { iface := "VersionSearch$Count", name := "of", sam := ⟨[.int, .int], some .int⟩, captured := [(.object "VersionSearch$Archive")], kind := 5, implClass := "VersionSearch$Archive", implName := "one", implDesc := ⟨[.int, .int], some .int⟩, implItf := false, inst := ⟨[.int, .int], some .int⟩ }
def lm_c4 : ByteArray := ⟨#[42, 180, 0, 15, 27, 28, 182, 0, 22, 172]⟩
def lm_k4 : lm_K := (lm_c4, 3, [(15, 2, 14, "arg$1", "LVersionSearch$Archive;", 0)], 22, 19, 21, 18)
theorem lm_ok4 : lm_ok "VersionSearch$Archive" lm_s4 lm_k4 := by decide +kernel
theorem lm_d4_0 : decode lm_c4 0 = .ok (.aload_n 0, 1) := by decide +kernel
theorem lm_d4_1 : decode lm_c4 1 = .ok (.getfield 15, 3) := by decide +kernel
theorem lm_d4_4 : decode lm_c4 4 = .ok (.iload_n 1, 1) := by decide +kernel
theorem lm_d4_5 : decode lm_c4 5 = .ok (.iload_n 2, 1) := by decide +kernel
theorem lm_d4_6 : decode lm_c4 6 = .ok (.invokevirtual 22, 3) := by decide +kernel
theorem lm_d4_9 : decode lm_c4 9 = .ok (.ireturn, 1) := by decide +kernel
theorem lm_ld4 {a : Nat} {c1 : Value} {x1 x2 : Int32} : lm_Ld lm_k4 6 3 a [c1] [.int x1, .int x2] := by
  intro p l e R s m args below meth c H Q cell ls hx hb hf h1 h2 h3 hl k
  have l0 := hl.2.2 (0, .ref a) (by simp [lv_args, Value.category])
  refine lv_aload_n hx hb lm_d4_0 rfl l0 (lm_get hx hb lm_d4_1 (hf (15, 2, 14, "arg$1", "LVersionSearch$Archive;", 0) (by simp [lm_k4])) h1 h2 (by rw [h3]; rfl) ?_)
  refine lv_iload_n hx hb lm_d4_4 rfl (hl.2.2 (1, .int x1) (by simp [lv_args, Value.category])) ?_
  refine lv_iload_n hx hb lm_d4_5 rfl (hl.2.2 (2, .int x2) (by simp [lv_args, Value.category])) ?_
  exact k
def lm_s5 : Lambda.Shape := { iface := "VersionSearch$Count", name := "of", sam := ⟨[.int, .int], some .int⟩, captured := [(.object "VersionSearch$Archive")], kind := 5, implClass := "VersionSearch$Archive", implName := "words", implDesc := ⟨[.int, .int], some .int⟩, implItf := false, inst := ⟨[.int, .int], some .int⟩ }
def lm_c5 : ByteArray := ⟨#[42, 180, 0, 15, 27, 28, 182, 0, 22, 172]⟩
def lm_k5 : lm_K := (lm_c5, 3, [(15, 2, 14, "arg$1", "LVersionSearch$Archive;", 0)], 22, 19, 21, 18)
theorem lm_ok5 : lm_ok "VersionSearch$Archive" lm_s5 lm_k5 := by decide +kernel
theorem lm_d5_0 : decode lm_c5 0 = .ok (.aload_n 0, 1) := by decide +kernel
theorem lm_d5_1 : decode lm_c5 1 = .ok (.getfield 15, 3) := by decide +kernel
theorem lm_d5_4 : decode lm_c5 4 = .ok (.iload_n 1, 1) := by decide +kernel
theorem lm_d5_5 : decode lm_c5 5 = .ok (.iload_n 2, 1) := by decide +kernel
theorem lm_d5_6 : decode lm_c5 6 = .ok (.invokevirtual 22, 3) := by decide +kernel
theorem lm_d5_9 : decode lm_c5 9 = .ok (.ireturn, 1) := by decide +kernel
theorem lm_ld5 {a : Nat} {c1 : Value} {x1 x2 : Int32} : lm_Ld lm_k5 6 3 a [c1] [.int x1, .int x2] := by
  intro p l e R s m args below meth c H Q cell ls hx hb hf h1 h2 h3 hl k
  have l0 := hl.2.2 (0, .ref a) (by simp [lv_args, Value.category])
  refine lv_aload_n hx hb lm_d5_0 rfl l0 (lm_get hx hb lm_d5_1 (hf (15, 2, 14, "arg$1", "LVersionSearch$Archive;", 0) (by simp [lm_k5])) h1 h2 (by rw [h3]; rfl) ?_)
  refine lv_iload_n hx hb lm_d5_4 rfl (hl.2.2 (1, .int x1) (by simp [lv_args, Value.category])) ?_
  refine lv_iload_n hx hb lm_d5_5 rfl (hl.2.2 (2, .int x2) (by simp [lv_args, Value.category])) ?_
  exact k
def lm_s6 : Lambda.Shape := { iface := "VersionSearch$Count", name := "of", sam := ⟨[.int, .int], some .int⟩, captured := [(.object "VersionSearch$Archive")], kind := 5, implClass := "VersionSearch$Archive", implName := "likes", implDesc := ⟨[.int, .int], some .int⟩, implItf := false, inst := ⟨[.int, .int], some .int⟩ }
def lm_c6 : ByteArray := ⟨#[42, 180, 0, 15, 27, 28, 182, 0, 22, 172]⟩
def lm_k6 : lm_K := (lm_c6, 3, [(15, 2, 14, "arg$1", "LVersionSearch$Archive;", 0)], 22, 19, 21, 18)
theorem lm_ok6 : lm_ok "VersionSearch$Archive" lm_s6 lm_k6 := by decide +kernel
theorem lm_d6_0 : decode lm_c6 0 = .ok (.aload_n 0, 1) := by decide +kernel
theorem lm_d6_1 : decode lm_c6 1 = .ok (.getfield 15, 3) := by decide +kernel
theorem lm_d6_4 : decode lm_c6 4 = .ok (.iload_n 1, 1) := by decide +kernel
theorem lm_d6_5 : decode lm_c6 5 = .ok (.iload_n 2, 1) := by decide +kernel
theorem lm_d6_6 : decode lm_c6 6 = .ok (.invokevirtual 22, 3) := by decide +kernel
theorem lm_d6_9 : decode lm_c6 9 = .ok (.ireturn, 1) := by decide +kernel
theorem lm_ld6 {a : Nat} {c1 : Value} {x1 x2 : Int32} : lm_Ld lm_k6 6 3 a [c1] [.int x1, .int x2] := by
  intro p l e R s m args below meth c H Q cell ls hx hb hf h1 h2 h3 hl k
  have l0 := hl.2.2 (0, .ref a) (by simp [lv_args, Value.category])
  refine lv_aload_n hx hb lm_d6_0 rfl l0 (lm_get hx hb lm_d6_1 (hf (15, 2, 14, "arg$1", "LVersionSearch$Archive;", 0) (by simp [lm_k6])) h1 h2 (by rw [h3]; rfl) ?_)
  refine lv_iload_n hx hb lm_d6_4 rfl (hl.2.2 (1, .int x1) (by simp [lv_args, Value.category])) ?_
  refine lv_iload_n hx hb lm_d6_5 rfl (hl.2.2 (2, .int x2) (by simp [lv_args, Value.category])) ?_
  exact k
def lm_s7 : Lambda.Shape := { iface := "VersionSearch$Count", name := "of", sam := ⟨[.int, .int], some .int⟩, captured := [(.object "VersionSearch$Archive"), .int, .int], kind := 5, implClass := "VersionSearch$Archive", implName := "lambda$likes$0", implDesc := ⟨[.int, .int, .int, .int], some .int⟩, implItf := false, inst := ⟨[.int, .int], some .int⟩ }
def lm_c7 : ByteArray := ⟨#[42, 180, 0, 18, 42, 180, 0, 20, 42, 180, 0, 22, 27, 28, 182, 0, 30, 172]⟩
def lm_k7 : lm_K := (lm_c7, 3, [(18, 2, 17, "arg$1", "LVersionSearch$Archive;", 0), (20, 2, 19, "arg$2", "I", 1), (22, 2, 21, "arg$3", "I", 2)], 30, 26, 29, 25)
theorem lm_ok7 : lm_ok "VersionSearch$Archive" lm_s7 lm_k7 := by decide +kernel
theorem lm_d7_0 : decode lm_c7 0 = .ok (.aload_n 0, 1) := by decide +kernel
theorem lm_d7_1 : decode lm_c7 1 = .ok (.getfield 18, 3) := by decide +kernel
theorem lm_d7_4 : decode lm_c7 4 = .ok (.aload_n 0, 1) := by decide +kernel
theorem lm_d7_5 : decode lm_c7 5 = .ok (.getfield 20, 3) := by decide +kernel
theorem lm_d7_8 : decode lm_c7 8 = .ok (.aload_n 0, 1) := by decide +kernel
theorem lm_d7_9 : decode lm_c7 9 = .ok (.getfield 22, 3) := by decide +kernel
theorem lm_d7_12 : decode lm_c7 12 = .ok (.iload_n 1, 1) := by decide +kernel
theorem lm_d7_13 : decode lm_c7 13 = .ok (.iload_n 2, 1) := by decide +kernel
theorem lm_d7_14 : decode lm_c7 14 = .ok (.invokevirtual 30, 3) := by decide +kernel
theorem lm_d7_17 : decode lm_c7 17 = .ok (.ireturn, 1) := by decide +kernel
theorem lm_ld7 {a : Nat} {c1 c2 c3 : Value} {x1 x2 : Int32} : lm_Ld lm_k7 14 3 a [c1, c2, c3] [.int x1, .int x2] := by
  intro p l e R s m args below meth c H Q cell ls hx hb hf h1 h2 h3 hl k
  have l0 := hl.2.2 (0, .ref a) (by simp [lv_args, Value.category])
  refine lv_aload_n hx hb lm_d7_0 rfl l0 (lm_get hx hb lm_d7_1 (hf (18, 2, 17, "arg$1", "LVersionSearch$Archive;", 0) (by simp [lm_k7])) h1 h2 (by rw [h3]; rfl) ?_)
  refine lv_aload_n hx hb lm_d7_4 rfl l0 (lm_get hx hb lm_d7_5 (hf (20, 2, 19, "arg$2", "I", 1) (by simp [lm_k7])) h1 h2 (by rw [h3]; rfl) ?_)
  refine lv_aload_n hx hb lm_d7_8 rfl l0 (lm_get hx hb lm_d7_9 (hf (22, 2, 21, "arg$3", "I", 2) (by simp [lm_k7])) h1 h2 (by rw [h3]; rfl) ?_)
  refine lv_iload_n hx hb lm_d7_12 rfl (hl.2.2 (1, .int x1) (by simp [lv_args, Value.category])) ?_
  refine lv_iload_n hx hb lm_d7_13 rfl (hl.2.2 (2, .int x2) (by simp [lv_args, Value.category])) ?_
  exact k
def lm_s8 : Lambda.Shape := { iface := "VersionSearch$Asked", name := "holds", sam := ⟨[.int, .int], some .boolean⟩, captured := [(.object "VersionSearch$Askings"), (.array (.object "java/lang/String"))], kind := 5, implClass := "VersionSearch$Askings", implName := "lambda$made$0", implDesc := ⟨[(.array (.object "java/lang/String")), .int, .int], some .boolean⟩, implItf := false, inst := ⟨[.int, .int], some .boolean⟩ }
def lm_c8 : ByteArray := ⟨#[42, 180, 0, 17, 42, 180, 0, 19, 27, 28, 182, 0, 27, 172]⟩
def lm_k8 : lm_K := (lm_c8, 3, [(17, 2, 16, "arg$1", "LVersionSearch$Askings;", 0), (19, 2, 18, "arg$2", "[Ljava/lang/String;", 1)], 27, 23, 26, 22)
theorem lm_ok8 : lm_ok "VersionSearch$Askings" lm_s8 lm_k8 := by decide +kernel
theorem lm_d8_0 : decode lm_c8 0 = .ok (.aload_n 0, 1) := by decide +kernel
theorem lm_d8_1 : decode lm_c8 1 = .ok (.getfield 17, 3) := by decide +kernel
theorem lm_d8_4 : decode lm_c8 4 = .ok (.aload_n 0, 1) := by decide +kernel
theorem lm_d8_5 : decode lm_c8 5 = .ok (.getfield 19, 3) := by decide +kernel
theorem lm_d8_8 : decode lm_c8 8 = .ok (.iload_n 1, 1) := by decide +kernel
theorem lm_d8_9 : decode lm_c8 9 = .ok (.iload_n 2, 1) := by decide +kernel
theorem lm_d8_10 : decode lm_c8 10 = .ok (.invokevirtual 27, 3) := by decide +kernel
theorem lm_d8_13 : decode lm_c8 13 = .ok (.ireturn, 1) := by decide +kernel
theorem lm_ld8 {a : Nat} {c1 c2 : Value} {x1 x2 : Int32} : lm_Ld lm_k8 10 3 a [c1, c2] [.int x1, .int x2] := by
  intro p l e R s m args below meth c H Q cell ls hx hb hf h1 h2 h3 hl k
  have l0 := hl.2.2 (0, .ref a) (by simp [lv_args, Value.category])
  refine lv_aload_n hx hb lm_d8_0 rfl l0 (lm_get hx hb lm_d8_1 (hf (17, 2, 16, "arg$1", "LVersionSearch$Askings;", 0) (by simp [lm_k8])) h1 h2 (by rw [h3]; rfl) ?_)
  refine lv_aload_n hx hb lm_d8_4 rfl l0 (lm_get hx hb lm_d8_5 (hf (19, 2, 18, "arg$2", "[Ljava/lang/String;", 1) (by simp [lm_k8])) h1 h2 (by rw [h3]; rfl) ?_)
  refine lv_iload_n hx hb lm_d8_8 rfl (hl.2.2 (1, .int x1) (by simp [lv_args, Value.category])) ?_
  refine lv_iload_n hx hb lm_d8_9 rfl (hl.2.2 (2, .int x2) (by simp [lv_args, Value.category])) ?_
  exact k
def lm_s9 : Lambda.Shape := { iface := "VersionSearch$Asked", name := "holds", sam := ⟨[.int, .int], some .boolean⟩, captured := [(.object "VersionSearch$Askings"), (.array (.object "java/lang/String")), .int], kind := 5, implClass := "VersionSearch$Askings", implName := "lambda$made$1", implDesc := ⟨[(.array (.object "java/lang/String")), .int, .int, .int], some .boolean⟩, implItf := false, inst := ⟨[.int, .int], some .boolean⟩ }
def lm_c9 : ByteArray := ⟨#[42, 180, 0, 19, 42, 180, 0, 21, 42, 180, 0, 23, 27, 28, 182, 0, 31, 172]⟩
def lm_k9 : lm_K := (lm_c9, 3, [(19, 2, 18, "arg$1", "LVersionSearch$Askings;", 0), (21, 2, 20, "arg$2", "[Ljava/lang/String;", 1), (23, 2, 22, "arg$3", "I", 2)], 31, 27, 30, 26)
theorem lm_ok9 : lm_ok "VersionSearch$Askings" lm_s9 lm_k9 := by decide +kernel
theorem lm_d9_0 : decode lm_c9 0 = .ok (.aload_n 0, 1) := by decide +kernel
theorem lm_d9_1 : decode lm_c9 1 = .ok (.getfield 19, 3) := by decide +kernel
theorem lm_d9_4 : decode lm_c9 4 = .ok (.aload_n 0, 1) := by decide +kernel
theorem lm_d9_5 : decode lm_c9 5 = .ok (.getfield 21, 3) := by decide +kernel
theorem lm_d9_8 : decode lm_c9 8 = .ok (.aload_n 0, 1) := by decide +kernel
theorem lm_d9_9 : decode lm_c9 9 = .ok (.getfield 23, 3) := by decide +kernel
theorem lm_d9_12 : decode lm_c9 12 = .ok (.iload_n 1, 1) := by decide +kernel
theorem lm_d9_13 : decode lm_c9 13 = .ok (.iload_n 2, 1) := by decide +kernel
theorem lm_d9_14 : decode lm_c9 14 = .ok (.invokevirtual 31, 3) := by decide +kernel
theorem lm_d9_17 : decode lm_c9 17 = .ok (.ireturn, 1) := by decide +kernel
theorem lm_ld9 {a : Nat} {c1 c2 c3 : Value} {x1 x2 : Int32} : lm_Ld lm_k9 14 3 a [c1, c2, c3] [.int x1, .int x2] := by
  intro p l e R s m args below meth c H Q cell ls hx hb hf h1 h2 h3 hl k
  have l0 := hl.2.2 (0, .ref a) (by simp [lv_args, Value.category])
  refine lv_aload_n hx hb lm_d9_0 rfl l0 (lm_get hx hb lm_d9_1 (hf (19, 2, 18, "arg$1", "LVersionSearch$Askings;", 0) (by simp [lm_k9])) h1 h2 (by rw [h3]; rfl) ?_)
  refine lv_aload_n hx hb lm_d9_4 rfl l0 (lm_get hx hb lm_d9_5 (hf (21, 2, 20, "arg$2", "[Ljava/lang/String;", 1) (by simp [lm_k9])) h1 h2 (by rw [h3]; rfl) ?_)
  refine lv_aload_n hx hb lm_d9_8 rfl l0 (lm_get hx hb lm_d9_9 (hf (23, 2, 22, "arg$3", "I", 2) (by simp [lm_k9])) h1 h2 (by rw [h3]; rfl) ?_)
  refine lv_iload_n hx hb lm_d9_12 rfl (hl.2.2 (1, .int x1) (by simp [lv_args, Value.category])) ?_
  refine lv_iload_n hx hb lm_d9_13 rfl (hl.2.2 (2, .int x2) (by simp [lv_args, Value.category])) ?_
  exact k
def lm_s10 : Lambda.Shape := { iface := "VersionSearch$Asked", name := "holds", sam := ⟨[.int, .int], some .boolean⟩, captured := [(.object "VersionSearch$Askings"), (.array (.object "java/lang/String")), .int], kind := 5, implClass := "VersionSearch$Askings", implName := "lambda$made$2", implDesc := ⟨[(.array (.object "java/lang/String")), .int, .int, .int], some .boolean⟩, implItf := false, inst := ⟨[.int, .int], some .boolean⟩ }
def lm_c10 : ByteArray := ⟨#[42, 180, 0, 19, 42, 180, 0, 21, 42, 180, 0, 23, 27, 28, 182, 0, 31, 172]⟩
def lm_k10 : lm_K := (lm_c10, 3, [(19, 2, 18, "arg$1", "LVersionSearch$Askings;", 0), (21, 2, 20, "arg$2", "[Ljava/lang/String;", 1), (23, 2, 22, "arg$3", "I", 2)], 31, 27, 30, 26)
theorem lm_ok10 : lm_ok "VersionSearch$Askings" lm_s10 lm_k10 := by decide +kernel
theorem lm_d10_0 : decode lm_c10 0 = .ok (.aload_n 0, 1) := by decide +kernel
theorem lm_d10_1 : decode lm_c10 1 = .ok (.getfield 19, 3) := by decide +kernel
theorem lm_d10_4 : decode lm_c10 4 = .ok (.aload_n 0, 1) := by decide +kernel
theorem lm_d10_5 : decode lm_c10 5 = .ok (.getfield 21, 3) := by decide +kernel
theorem lm_d10_8 : decode lm_c10 8 = .ok (.aload_n 0, 1) := by decide +kernel
theorem lm_d10_9 : decode lm_c10 9 = .ok (.getfield 23, 3) := by decide +kernel
theorem lm_d10_12 : decode lm_c10 12 = .ok (.iload_n 1, 1) := by decide +kernel
theorem lm_d10_13 : decode lm_c10 13 = .ok (.iload_n 2, 1) := by decide +kernel
theorem lm_d10_14 : decode lm_c10 14 = .ok (.invokevirtual 31, 3) := by decide +kernel
theorem lm_d10_17 : decode lm_c10 17 = .ok (.ireturn, 1) := by decide +kernel
theorem lm_ld10 {a : Nat} {c1 c2 c3 : Value} {x1 x2 : Int32} : lm_Ld lm_k10 14 3 a [c1, c2, c3] [.int x1, .int x2] := by
  intro p l e R s m args below meth c H Q cell ls hx hb hf h1 h2 h3 hl k
  have l0 := hl.2.2 (0, .ref a) (by simp [lv_args, Value.category])
  refine lv_aload_n hx hb lm_d10_0 rfl l0 (lm_get hx hb lm_d10_1 (hf (19, 2, 18, "arg$1", "LVersionSearch$Askings;", 0) (by simp [lm_k10])) h1 h2 (by rw [h3]; rfl) ?_)
  refine lv_aload_n hx hb lm_d10_4 rfl l0 (lm_get hx hb lm_d10_5 (hf (21, 2, 20, "arg$2", "[Ljava/lang/String;", 1) (by simp [lm_k10])) h1 h2 (by rw [h3]; rfl) ?_)
  refine lv_aload_n hx hb lm_d10_8 rfl l0 (lm_get hx hb lm_d10_9 (hf (23, 2, 22, "arg$3", "I", 2) (by simp [lm_k10])) h1 h2 (by rw [h3]; rfl) ?_)
  refine lv_iload_n hx hb lm_d10_12 rfl (hl.2.2 (1, .int x1) (by simp [lv_args, Value.category])) ?_
  refine lv_iload_n hx hb lm_d10_13 rfl (hl.2.2 (2, .int x2) (by simp [lv_args, Value.category])) ?_
  exact k
def lm_s11 : Lambda.Shape := { iface := "VersionSearch$Asked", name := "holds", sam := ⟨[.int, .int], some .boolean⟩, captured := [(.object "VersionSearch$Asked")], kind := 6, implClass := "VersionSearch$Askings", implName := "lambda$not$3", implDesc := ⟨[(.object "VersionSearch$Asked"), .int, .int], some .boolean⟩, implItf := false, inst := ⟨[.int, .int], some .boolean⟩ }
def lm_c11 : ByteArray := ⟨#[42, 180, 0, 15, 27, 28, 184, 0, 23, 172]⟩
def lm_k11 : lm_K := (lm_c11, 3, [(15, 2, 14, "arg$1", "LVersionSearch$Asked;", 0)], 23, 19, 22, 18)
theorem lm_ok11 : lm_ok "VersionSearch$Askings" lm_s11 lm_k11 := by decide +kernel
theorem lm_d11_0 : decode lm_c11 0 = .ok (.aload_n 0, 1) := by decide +kernel
theorem lm_d11_1 : decode lm_c11 1 = .ok (.getfield 15, 3) := by decide +kernel
theorem lm_d11_4 : decode lm_c11 4 = .ok (.iload_n 1, 1) := by decide +kernel
theorem lm_d11_5 : decode lm_c11 5 = .ok (.iload_n 2, 1) := by decide +kernel
theorem lm_d11_6 : decode lm_c11 6 = .ok (.invokestatic 23, 3) := by decide +kernel
theorem lm_d11_9 : decode lm_c11 9 = .ok (.ireturn, 1) := by decide +kernel
theorem lm_ld11 {a : Nat} {c1 : Value} {x1 x2 : Int32} : lm_Ld lm_k11 6 3 a [c1] [.int x1, .int x2] := by
  intro p l e R s m args below meth c H Q cell ls hx hb hf h1 h2 h3 hl k
  have l0 := hl.2.2 (0, .ref a) (by simp [lv_args, Value.category])
  refine lv_aload_n hx hb lm_d11_0 rfl l0 (lm_get hx hb lm_d11_1 (hf (15, 2, 14, "arg$1", "LVersionSearch$Asked;", 0) (by simp [lm_k11])) h1 h2 (by rw [h3]; rfl) ?_)
  refine lv_iload_n hx hb lm_d11_4 rfl (hl.2.2 (1, .int x1) (by simp [lv_args, Value.category])) ?_
  refine lv_iload_n hx hb lm_d11_5 rfl (hl.2.2 (2, .int x2) (by simp [lv_args, Value.category])) ?_
  exact k
def lm_s12 : Lambda.Shape := { iface := "VersionSearch$Asked", name := "holds", sam := ⟨[.int, .int], some .boolean⟩, captured := [(.object "VersionSearch$Asked")], kind := 6, implClass := "VersionSearch$Askings", implName := "lambda$ever$6", implDesc := ⟨[(.object "VersionSearch$Asked"), .int, .int], some .boolean⟩, implItf := false, inst := ⟨[.int, .int], some .boolean⟩ }
def lm_c12 : ByteArray := ⟨#[42, 180, 0, 15, 27, 28, 184, 0, 23, 172]⟩
def lm_k12 : lm_K := (lm_c12, 3, [(15, 2, 14, "arg$1", "LVersionSearch$Asked;", 0)], 23, 19, 22, 18)
theorem lm_ok12 : lm_ok "VersionSearch$Askings" lm_s12 lm_k12 := by decide +kernel
theorem lm_d12_0 : decode lm_c12 0 = .ok (.aload_n 0, 1) := by decide +kernel
theorem lm_d12_1 : decode lm_c12 1 = .ok (.getfield 15, 3) := by decide +kernel
theorem lm_d12_4 : decode lm_c12 4 = .ok (.iload_n 1, 1) := by decide +kernel
theorem lm_d12_5 : decode lm_c12 5 = .ok (.iload_n 2, 1) := by decide +kernel
theorem lm_d12_6 : decode lm_c12 6 = .ok (.invokestatic 23, 3) := by decide +kernel
theorem lm_d12_9 : decode lm_c12 9 = .ok (.ireturn, 1) := by decide +kernel
theorem lm_ld12 {a : Nat} {c1 : Value} {x1 x2 : Int32} : lm_Ld lm_k12 6 3 a [c1] [.int x1, .int x2] := by
  intro p l e R s m args below meth c H Q cell ls hx hb hf h1 h2 h3 hl k
  have l0 := hl.2.2 (0, .ref a) (by simp [lv_args, Value.category])
  refine lv_aload_n hx hb lm_d12_0 rfl l0 (lm_get hx hb lm_d12_1 (hf (15, 2, 14, "arg$1", "LVersionSearch$Asked;", 0) (by simp [lm_k12])) h1 h2 (by rw [h3]; rfl) ?_)
  refine lv_iload_n hx hb lm_d12_4 rfl (hl.2.2 (1, .int x1) (by simp [lv_args, Value.category])) ?_
  refine lv_iload_n hx hb lm_d12_5 rfl (hl.2.2 (2, .int x2) (by simp [lv_args, Value.category])) ?_
  exact k
def lm_s13 : Lambda.Shape := { iface := "VersionSearch$Asked", name := "holds", sam := ⟨[.int, .int], some .boolean⟩, captured := [(.object "VersionSearch$Asked")], kind := 6, implClass := "VersionSearch$Askings", implName := "lambda$fresh$5", implDesc := ⟨[(.object "VersionSearch$Asked"), .int, .int], some .boolean⟩, implItf := false, inst := ⟨[.int, .int], some .boolean⟩ }
def lm_c13 : ByteArray := ⟨#[42, 180, 0, 15, 27, 28, 184, 0, 23, 172]⟩
def lm_k13 : lm_K := (lm_c13, 3, [(15, 2, 14, "arg$1", "LVersionSearch$Asked;", 0)], 23, 19, 22, 18)
theorem lm_ok13 : lm_ok "VersionSearch$Askings" lm_s13 lm_k13 := by decide +kernel
theorem lm_d13_0 : decode lm_c13 0 = .ok (.aload_n 0, 1) := by decide +kernel
theorem lm_d13_1 : decode lm_c13 1 = .ok (.getfield 15, 3) := by decide +kernel
theorem lm_d13_4 : decode lm_c13 4 = .ok (.iload_n 1, 1) := by decide +kernel
theorem lm_d13_5 : decode lm_c13 5 = .ok (.iload_n 2, 1) := by decide +kernel
theorem lm_d13_6 : decode lm_c13 6 = .ok (.invokestatic 23, 3) := by decide +kernel
theorem lm_d13_9 : decode lm_c13 9 = .ok (.ireturn, 1) := by decide +kernel
theorem lm_ld13 {a : Nat} {c1 : Value} {x1 x2 : Int32} : lm_Ld lm_k13 6 3 a [c1] [.int x1, .int x2] := by
  intro p l e R s m args below meth c H Q cell ls hx hb hf h1 h2 h3 hl k
  have l0 := hl.2.2 (0, .ref a) (by simp [lv_args, Value.category])
  refine lv_aload_n hx hb lm_d13_0 rfl l0 (lm_get hx hb lm_d13_1 (hf (15, 2, 14, "arg$1", "LVersionSearch$Asked;", 0) (by simp [lm_k13])) h1 h2 (by rw [h3]; rfl) ?_)
  refine lv_iload_n hx hb lm_d13_4 rfl (hl.2.2 (1, .int x1) (by simp [lv_args, Value.category])) ?_
  refine lv_iload_n hx hb lm_d13_5 rfl (hl.2.2 (2, .int x2) (by simp [lv_args, Value.category])) ?_
  exact k
def lm_s14 : Lambda.Shape := { iface := "VersionSearch$Asked", name := "holds", sam := ⟨[.int, .int], some .boolean⟩, captured := [(.object "VersionSearch$Asked"), (.object "VersionSearch$Asked")], kind := 6, implClass := "VersionSearch$Askings", implName := "lambda$both$4", implDesc := ⟨[(.object "VersionSearch$Asked"), (.object "VersionSearch$Asked"), .int, .int], some .boolean⟩, implItf := false, inst := ⟨[.int, .int], some .boolean⟩ }
def lm_c14 : ByteArray := ⟨#[42, 180, 0, 16, 42, 180, 0, 18, 27, 28, 184, 0, 26, 172]⟩
def lm_k14 : lm_K := (lm_c14, 3, [(16, 2, 15, "arg$1", "LVersionSearch$Asked;", 0), (18, 2, 17, "arg$2", "LVersionSearch$Asked;", 1)], 26, 22, 25, 21)
theorem lm_ok14 : lm_ok "VersionSearch$Askings" lm_s14 lm_k14 := by decide +kernel
theorem lm_d14_0 : decode lm_c14 0 = .ok (.aload_n 0, 1) := by decide +kernel
theorem lm_d14_1 : decode lm_c14 1 = .ok (.getfield 16, 3) := by decide +kernel
theorem lm_d14_4 : decode lm_c14 4 = .ok (.aload_n 0, 1) := by decide +kernel
theorem lm_d14_5 : decode lm_c14 5 = .ok (.getfield 18, 3) := by decide +kernel
theorem lm_d14_8 : decode lm_c14 8 = .ok (.iload_n 1, 1) := by decide +kernel
theorem lm_d14_9 : decode lm_c14 9 = .ok (.iload_n 2, 1) := by decide +kernel
theorem lm_d14_10 : decode lm_c14 10 = .ok (.invokestatic 26, 3) := by decide +kernel
theorem lm_d14_13 : decode lm_c14 13 = .ok (.ireturn, 1) := by decide +kernel
theorem lm_ld14 {a : Nat} {c1 c2 : Value} {x1 x2 : Int32} : lm_Ld lm_k14 10 3 a [c1, c2] [.int x1, .int x2] := by
  intro p l e R s m args below meth c H Q cell ls hx hb hf h1 h2 h3 hl k
  have l0 := hl.2.2 (0, .ref a) (by simp [lv_args, Value.category])
  refine lv_aload_n hx hb lm_d14_0 rfl l0 (lm_get hx hb lm_d14_1 (hf (16, 2, 15, "arg$1", "LVersionSearch$Asked;", 0) (by simp [lm_k14])) h1 h2 (by rw [h3]; rfl) ?_)
  refine lv_aload_n hx hb lm_d14_4 rfl l0 (lm_get hx hb lm_d14_5 (hf (18, 2, 17, "arg$2", "LVersionSearch$Asked;", 1) (by simp [lm_k14])) h1 h2 (by rw [h3]; rfl) ?_)
  refine lv_iload_n hx hb lm_d14_8 rfl (hl.2.2 (1, .int x1) (by simp [lv_args, Value.category])) ?_
  refine lv_iload_n hx hb lm_d14_9 rfl (hl.2.2 (2, .int x2) (by simp [lv_args, Value.category])) ?_
  exact k
def lm_s15 : Lambda.Shape := { iface := "VersionSearch$Count", name := "of", sam := ⟨[.int, .int], some .int⟩, captured := [(.object "VersionSearch$Asked")], kind := 6, implClass := "VersionSearch$Askings", implName := "lambda$many$7", implDesc := ⟨[(.object "VersionSearch$Asked"), .int, .int], some .int⟩, implItf := false, inst := ⟨[.int, .int], some .int⟩ }
def lm_c15 : ByteArray := ⟨#[42, 180, 0, 15, 27, 28, 184, 0, 23, 172]⟩
def lm_k15 : lm_K := (lm_c15, 3, [(15, 2, 14, "arg$1", "LVersionSearch$Asked;", 0)], 23, 19, 22, 18)
theorem lm_ok15 : lm_ok "VersionSearch$Askings" lm_s15 lm_k15 := by decide +kernel
theorem lm_d15_0 : decode lm_c15 0 = .ok (.aload_n 0, 1) := by decide +kernel
theorem lm_d15_1 : decode lm_c15 1 = .ok (.getfield 15, 3) := by decide +kernel
theorem lm_d15_4 : decode lm_c15 4 = .ok (.iload_n 1, 1) := by decide +kernel
theorem lm_d15_5 : decode lm_c15 5 = .ok (.iload_n 2, 1) := by decide +kernel
theorem lm_d15_6 : decode lm_c15 6 = .ok (.invokestatic 23, 3) := by decide +kernel
theorem lm_d15_9 : decode lm_c15 9 = .ok (.ireturn, 1) := by decide +kernel
theorem lm_ld15 {a : Nat} {c1 : Value} {x1 x2 : Int32} : lm_Ld lm_k15 6 3 a [c1] [.int x1, .int x2] := by
  intro p l e R s m args below meth c H Q cell ls hx hb hf h1 h2 h3 hl k
  have l0 := hl.2.2 (0, .ref a) (by simp [lv_args, Value.category])
  refine lv_aload_n hx hb lm_d15_0 rfl l0 (lm_get hx hb lm_d15_1 (hf (15, 2, 14, "arg$1", "LVersionSearch$Asked;", 0) (by simp [lm_k15])) h1 h2 (by rw [h3]; rfl) ?_)
  refine lv_iload_n hx hb lm_d15_4 rfl (hl.2.2 (1, .int x1) (by simp [lv_args, Value.category])) ?_
  refine lv_iload_n hx hb lm_d15_5 rfl (hl.2.2 (2, .int x2) (by simp [lv_args, Value.category])) ?_
  exact k
def lm_s16 : Lambda.Shape := { iface := "VersionSearch$Count", name := "of", sam := ⟨[.int, .int], some .int⟩, captured := [(.object "VersionSearch$Asked")], kind := 6, implClass := "VersionSearch$Askings", implName := "lambda$implies$8", implDesc := ⟨[(.object "VersionSearch$Asked"), .int, .int], some .int⟩, implItf := false, inst := ⟨[.int, .int], some .int⟩ }
def lm_c16 : ByteArray := ⟨#[42, 180, 0, 15, 27, 28, 184, 0, 23, 172]⟩
def lm_k16 : lm_K := (lm_c16, 3, [(15, 2, 14, "arg$1", "LVersionSearch$Asked;", 0)], 23, 19, 22, 18)
theorem lm_ok16 : lm_ok "VersionSearch$Askings" lm_s16 lm_k16 := by decide +kernel
theorem lm_d16_0 : decode lm_c16 0 = .ok (.aload_n 0, 1) := by decide +kernel
theorem lm_d16_1 : decode lm_c16 1 = .ok (.getfield 15, 3) := by decide +kernel
theorem lm_d16_4 : decode lm_c16 4 = .ok (.iload_n 1, 1) := by decide +kernel
theorem lm_d16_5 : decode lm_c16 5 = .ok (.iload_n 2, 1) := by decide +kernel
theorem lm_d16_6 : decode lm_c16 6 = .ok (.invokestatic 23, 3) := by decide +kernel
theorem lm_d16_9 : decode lm_c16 9 = .ok (.ireturn, 1) := by decide +kernel
theorem lm_ld16 {a : Nat} {c1 : Value} {x1 x2 : Int32} : lm_Ld lm_k16 6 3 a [c1] [.int x1, .int x2] := by
  intro p l e R s m args below meth c H Q cell ls hx hb hf h1 h2 h3 hl k
  have l0 := hl.2.2 (0, .ref a) (by simp [lv_args, Value.category])
  refine lv_aload_n hx hb lm_d16_0 rfl l0 (lm_get hx hb lm_d16_1 (hf (15, 2, 14, "arg$1", "LVersionSearch$Asked;", 0) (by simp [lm_k16])) h1 h2 (by rw [h3]; rfl) ?_)
  refine lv_iload_n hx hb lm_d16_4 rfl (hl.2.2 (1, .int x1) (by simp [lv_args, Value.category])) ?_
  refine lv_iload_n hx hb lm_d16_5 rfl (hl.2.2 (2, .int x2) (by simp [lv_args, Value.category])) ?_
  exact k
def lm_s17 : Lambda.Shape := { iface := "VersionSearch$Edit", name := "of", sam := ⟨[(.array .int)], some (.array .int)⟩, captured := [(.object "VersionSearch$Document"), .int], kind := 6, implClass := "VersionSearch$Drawn", implName := "lambda$edit$0", implDesc := ⟨[(.object "VersionSearch$Document"), .int, (.array .int)], some (.array .int)⟩, implItf := false, inst := ⟨[(.array .int)], some (.array .int)⟩ }
def lm_c17 : ByteArray := ⟨#[42, 180, 0, 17, 42, 180, 0, 19, 43, 184, 0, 27, 176]⟩
def lm_k17 : lm_K := (lm_c17, 2, [(17, 2, 16, "arg$1", "LVersionSearch$Document;", 0), (19, 2, 18, "arg$2", "I", 1)], 27, 23, 26, 22)
theorem lm_ok17 : lm_ok "VersionSearch$Drawn" lm_s17 lm_k17 := by decide +kernel
theorem lm_d17_0 : decode lm_c17 0 = .ok (.aload_n 0, 1) := by decide +kernel
theorem lm_d17_1 : decode lm_c17 1 = .ok (.getfield 17, 3) := by decide +kernel
theorem lm_d17_4 : decode lm_c17 4 = .ok (.aload_n 0, 1) := by decide +kernel
theorem lm_d17_5 : decode lm_c17 5 = .ok (.getfield 19, 3) := by decide +kernel
theorem lm_d17_8 : decode lm_c17 8 = .ok (.aload_n 1, 1) := by decide +kernel
theorem lm_d17_9 : decode lm_c17 9 = .ok (.invokestatic 27, 3) := by decide +kernel
theorem lm_d17_12 : decode lm_c17 12 = .ok (.areturn, 1) := by decide +kernel
theorem lm_ld17 {a : Nat} {c1 c2 : Value} {b : Nat} : lm_Ld lm_k17 9 2 a [c1, c2] [.ref b] := by
  intro p l e R s m args below meth c H Q cell ls hx hb hf h1 h2 h3 hl k
  have l0 := hl.2.2 (0, .ref a) (by simp [lv_args, Value.category])
  refine lv_aload_n hx hb lm_d17_0 rfl l0 (lm_get hx hb lm_d17_1 (hf (17, 2, 16, "arg$1", "LVersionSearch$Document;", 0) (by simp [lm_k17])) h1 h2 (by rw [h3]; rfl) ?_)
  refine lv_aload_n hx hb lm_d17_4 rfl l0 (lm_get hx hb lm_d17_5 (hf (19, 2, 18, "arg$2", "I", 1) (by simp [lm_k17])) h1 h2 (by rw [h3]; rfl) ?_)
  refine lv_aload_n hx hb lm_d17_8 rfl (hl.2.2 (1, .ref b) (by simp [lv_args, Value.category])) ?_
  exact k
def lm_s18 : Lambda.Shape := { iface := "VersionSearch$Edit", name := "of", sam := ⟨[(.array .int)], some (.array .int)⟩, captured := [.int], kind := 6, implClass := "VersionSearch$Drawn", implName := "lambda$edit$1", implDesc := ⟨[.int, (.array .int)], some (.array .int)⟩, implItf := false, inst := ⟨[(.array .int)], some (.array .int)⟩ }
def lm_c18 : ByteArray := ⟨#[42, 180, 0, 15, 43, 184, 0, 23, 176]⟩
def lm_k18 : lm_K := (lm_c18, 2, [(15, 2, 14, "arg$1", "I", 0)], 23, 19, 22, 18)
theorem lm_ok18 : lm_ok "VersionSearch$Drawn" lm_s18 lm_k18 := by decide +kernel
theorem lm_d18_0 : decode lm_c18 0 = .ok (.aload_n 0, 1) := by decide +kernel
theorem lm_d18_1 : decode lm_c18 1 = .ok (.getfield 15, 3) := by decide +kernel
theorem lm_d18_4 : decode lm_c18 4 = .ok (.aload_n 1, 1) := by decide +kernel
theorem lm_d18_5 : decode lm_c18 5 = .ok (.invokestatic 23, 3) := by decide +kernel
theorem lm_d18_8 : decode lm_c18 8 = .ok (.areturn, 1) := by decide +kernel
theorem lm_ld18 {a : Nat} {c1 : Value} {b : Nat} : lm_Ld lm_k18 5 2 a [c1] [.ref b] := by
  intro p l e R s m args below meth c H Q cell ls hx hb hf h1 h2 h3 hl k
  have l0 := hl.2.2 (0, .ref a) (by simp [lv_args, Value.category])
  refine lv_aload_n hx hb lm_d18_0 rfl l0 (lm_get hx hb lm_d18_1 (hf (15, 2, 14, "arg$1", "I", 0) (by simp [lm_k18])) h1 h2 (by rw [h3]; rfl) ?_)
  refine lv_aload_n hx hb lm_d18_4 rfl (hl.2.2 (1, .ref b) (by simp [lv_args, Value.category])) ?_
  exact k
def lm_s19 : Lambda.Shape := { iface := "VersionSearch$Edit", name := "of", sam := ⟨[(.array .int)], some (.array .int)⟩, captured := [.int, .int], kind := 6, implClass := "VersionSearch$Drawn", implName := "lambda$edit$2", implDesc := ⟨[.int, .int, (.array .int)], some (.array .int)⟩, implItf := false, inst := ⟨[(.array .int)], some (.array .int)⟩ }
def lm_c19 : ByteArray := ⟨#[42, 180, 0, 16, 42, 180, 0, 18, 43, 184, 0, 26, 176]⟩
def lm_k19 : lm_K := (lm_c19, 2, [(16, 2, 15, "arg$1", "I", 0), (18, 2, 17, "arg$2", "I", 1)], 26, 22, 25, 21)
theorem lm_ok19 : lm_ok "VersionSearch$Drawn" lm_s19 lm_k19 := by decide +kernel
theorem lm_d19_0 : decode lm_c19 0 = .ok (.aload_n 0, 1) := by decide +kernel
theorem lm_d19_1 : decode lm_c19 1 = .ok (.getfield 16, 3) := by decide +kernel
theorem lm_d19_4 : decode lm_c19 4 = .ok (.aload_n 0, 1) := by decide +kernel
theorem lm_d19_5 : decode lm_c19 5 = .ok (.getfield 18, 3) := by decide +kernel
theorem lm_d19_8 : decode lm_c19 8 = .ok (.aload_n 1, 1) := by decide +kernel
theorem lm_d19_9 : decode lm_c19 9 = .ok (.invokestatic 26, 3) := by decide +kernel
theorem lm_d19_12 : decode lm_c19 12 = .ok (.areturn, 1) := by decide +kernel
theorem lm_ld19 {a : Nat} {c1 c2 : Value} {b : Nat} : lm_Ld lm_k19 9 2 a [c1, c2] [.ref b] := by
  intro p l e R s m args below meth c H Q cell ls hx hb hf h1 h2 h3 hl k
  have l0 := hl.2.2 (0, .ref a) (by simp [lv_args, Value.category])
  refine lv_aload_n hx hb lm_d19_0 rfl l0 (lm_get hx hb lm_d19_1 (hf (16, 2, 15, "arg$1", "I", 0) (by simp [lm_k19])) h1 h2 (by rw [h3]; rfl) ?_)
  refine lv_aload_n hx hb lm_d19_4 rfl l0 (lm_get hx hb lm_d19_5 (hf (18, 2, 17, "arg$2", "I", 1) (by simp [lm_k19])) h1 h2 (by rw [h3]; rfl) ?_)
  refine lv_aload_n hx hb lm_d19_8 rfl (hl.2.2 (1, .ref b) (by simp [lv_args, Value.category])) ?_
  exact k
/-- the sites: method, pc, index, shape -/
abbrev pw_la : List lm_S := [(⟨"VersionSearch$Document", "told", "(Ljava/util/ArrayList;I)LVersionSearch$Edit;"⟩, 66, 97, lm_s0), (⟨"VersionSearch$ArchiveReader", "back", "(LVersionSearch$Document;)LVersionSearch$Edit;"⟩, 26, 111, lm_s1), (⟨"VersionSearch$ArchiveReader", "row", "(LVersionSearch$Document;Z)LVersionSearch$Edit;"⟩, 83, 114, lm_s2), (⟨"VersionSearch$ArchiveReader", "row", "(LVersionSearch$Document;Z)LVersionSearch$Edit;"⟩, 94, 117, lm_s3), (⟨"VersionSearch$Archive", "versions", "()I"⟩, 2, 84, lm_s4), (⟨"VersionSearch$Archive", "size", "()I"⟩, 2, 91, lm_s5), (⟨"VersionSearch$Archive", "twins", "()I"⟩, 2, 102, lm_s6), (⟨"VersionSearch$Archive", "likes", "(II)I"⟩, 4, 99, lm_s7), (⟨"VersionSearch$Askings", "made", "(LVersionSearch$Question;)LVersionSearch$Asked;"⟩, 62, 77, lm_s8), (⟨"VersionSearch$Askings", "made", "(LVersionSearch$Question;)LVersionSearch$Asked;"⟩, 71, 81, lm_s9), (⟨"VersionSearch$Askings", "made", "(LVersionSearch$Question;)LVersionSearch$Asked;"⟩, 80, 84, lm_s10), (⟨"VersionSearch$Askings", "not", "(LVersionSearch$Asked;)LVersionSearch$Asked;"⟩, 1, 106, lm_s11), (⟨"VersionSearch$Askings", "ever", "(LVersionSearch$Asked;)LVersionSearch$Asked;"⟩, 1, 111, lm_s12), (⟨"VersionSearch$Askings", "fresh", "(LVersionSearch$Asked;)LVersionSearch$Asked;"⟩, 1, 110, lm_s13), (⟨"VersionSearch$Askings", "both", "(LVersionSearch$Asked;LVersionSearch$Asked;)LVersionSearch$Asked;"⟩, 2, 108, lm_s14), (⟨"VersionSearch$Askings", "many", "(I)I"⟩, 11, 126, lm_s15), (⟨"VersionSearch$Askings", "implies", "(II)Z"⟩, 22, 176, lm_s16), (⟨"VersionSearch$Drawn", "edit", "(LVersionSearch$Document;I)LVersionSearch$Edit;"⟩, 23, 59, lm_s17), (⟨"VersionSearch$Drawn", "edit", "(LVersionSearch$Document;I)LVersionSearch$Edit;"⟩, 86, 74, lm_s18), (⟨"VersionSearch$Drawn", "edit", "(LVersionSearch$Document;I)LVersionSearch$Edit;"⟩, 103, 77, lm_s19)]
abbrev pw_lk : List lm_K := [lm_k0, lm_k1, lm_k2, lm_k3, lm_k4, lm_k5, lm_k6, lm_k7, lm_k8, lm_k9, lm_k10, lm_k11, lm_k12, lm_k13, lm_k14, lm_k15, lm_k16, lm_k17, lm_k18, lm_k19]
theorem lm_w0 : siteWord_1_1 = Cond.lambdaSite ⟨"VersionSearch$Document", "told", "(Ljava/util/ArrayList;I)LVersionSearch$Edit;"⟩ 66 97 lm_s0 := rfl
theorem lm_w1 : siteWord_1_2 = Cond.lambdaSite ⟨"VersionSearch$ArchiveReader", "back", "(LVersionSearch$Document;)LVersionSearch$Edit;"⟩ 26 111 lm_s1 := rfl
theorem lm_w2 : siteWord_1_3 = Cond.lambdaSite ⟨"VersionSearch$ArchiveReader", "row", "(LVersionSearch$Document;Z)LVersionSearch$Edit;"⟩ 83 114 lm_s2 := rfl
theorem lm_w3 : siteWord_1_4 = Cond.lambdaSite ⟨"VersionSearch$ArchiveReader", "row", "(LVersionSearch$Document;Z)LVersionSearch$Edit;"⟩ 94 117 lm_s3 := rfl
theorem lm_w4 : siteWord_1_5 = Cond.lambdaSite ⟨"VersionSearch$Archive", "versions", "()I"⟩ 2 84 lm_s4 := rfl
theorem lm_w5 : siteWord_1_6 = Cond.lambdaSite ⟨"VersionSearch$Archive", "size", "()I"⟩ 2 91 lm_s5 := rfl
theorem lm_w6 : siteWord_1_7 = Cond.lambdaSite ⟨"VersionSearch$Archive", "twins", "()I"⟩ 2 102 lm_s6 := rfl
theorem lm_w7 : siteWord_1_8 = Cond.lambdaSite ⟨"VersionSearch$Archive", "likes", "(II)I"⟩ 4 99 lm_s7 := rfl
theorem lm_w8 : siteWord_1_9 = Cond.lambdaSite ⟨"VersionSearch$Askings", "made", "(LVersionSearch$Question;)LVersionSearch$Asked;"⟩ 62 77 lm_s8 := rfl
theorem lm_w9 : siteWord_1_10 = Cond.lambdaSite ⟨"VersionSearch$Askings", "made", "(LVersionSearch$Question;)LVersionSearch$Asked;"⟩ 71 81 lm_s9 := rfl
theorem lm_w10 : siteWord_1_11 = Cond.lambdaSite ⟨"VersionSearch$Askings", "made", "(LVersionSearch$Question;)LVersionSearch$Asked;"⟩ 80 84 lm_s10 := rfl
theorem lm_w11 : siteWord_1_12 = Cond.lambdaSite ⟨"VersionSearch$Askings", "not", "(LVersionSearch$Asked;)LVersionSearch$Asked;"⟩ 1 106 lm_s11 := rfl
theorem lm_w12 : siteWord_1_13 = Cond.lambdaSite ⟨"VersionSearch$Askings", "ever", "(LVersionSearch$Asked;)LVersionSearch$Asked;"⟩ 1 111 lm_s12 := rfl
theorem lm_w13 : siteWord_1_14 = Cond.lambdaSite ⟨"VersionSearch$Askings", "fresh", "(LVersionSearch$Asked;)LVersionSearch$Asked;"⟩ 1 110 lm_s13 := rfl
theorem lm_w14 : siteWord_1_15 = Cond.lambdaSite ⟨"VersionSearch$Askings", "both", "(LVersionSearch$Asked;LVersionSearch$Asked;)LVersionSearch$Asked;"⟩ 2 108 lm_s14 := rfl
theorem lm_w15 : siteWord_1_16 = Cond.lambdaSite ⟨"VersionSearch$Askings", "many", "(I)I"⟩ 11 126 lm_s15 := rfl
theorem lm_w16 : siteWord_1_17 = Cond.lambdaSite ⟨"VersionSearch$Askings", "implies", "(II)Z"⟩ 22 176 lm_s16 := rfl
theorem lm_w17 : siteWord_1_18 = Cond.lambdaSite ⟨"VersionSearch$Drawn", "edit", "(LVersionSearch$Document;I)LVersionSearch$Edit;"⟩ 23 59 lm_s17 := rfl
theorem lm_w18 : siteWord_1_19 = Cond.lambdaSite ⟨"VersionSearch$Drawn", "edit", "(LVersionSearch$Document;I)LVersionSearch$Edit;"⟩ 86 74 lm_s18 := rfl
theorem lm_w19 : siteWord_1_20 = Cond.lambdaSite ⟨"VersionSearch$Drawn", "edit", "(LVersionSearch$Document;I)LVersionSearch$Edit;"⟩ 103 77 lm_s19 := rfl
