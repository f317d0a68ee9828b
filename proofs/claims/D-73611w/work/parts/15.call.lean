set_option maxRecDepth 100000
/-! calls: how a site comes to its method (rs_), and what then follows (r_call) -/
section
variable {p : Program} {l : Launch} {e : Env} {R : Room} {s : State} {m : MethodId} {args : Array Value} {below : List Frame} {meth : Method} {c : Code} {T : State} {locs : List Loc} {cells slots : Nat}
def pw_Rs (p : Program) (l : Launch) (e : Env) (R : Room) (s : State) (m : MethodId) (args : Array Value) (below : List Frame) (meth : Method) (c : Code) (T : State) (locs : List Loc) (cells slots : Nat) (y : MethodName) (len : Nat) (g : JFrame) (av rest : List Value) : Prop :=
  ∃ (vm₁ : Vm) (mk : MethodId) (ig : Instr), Stand p l e R s m args below meth c (T.setVm vm₁) locs cells slots ∧ (T.setVm vm₁).methodNamed? y = some mk ∧ decode c.code g.pc = .ok (ig, len) ∧
    ∀ target, Steps p.tables e below (doInvoke e ((T.setVm vm₁).setTop { g with stack := rest }) [] mk av.toArray).1 target → Steps p.tables e below (T.setTop g) target
/-- the method's descriptor is what its table row says -/
def pw_Sg (s : State) (y : MethodName) : Prop := ∃ (mk : MethodId) (methM : Method), s.methodNamed? y = some mk ∧ s.vm.method? mk = some methM ∧ parseMethodDescriptor y.desc = some methM.sig
theorem pw_cw_sg {M : pw_M} (h : (pw_cw M).before args s = true) : pw_Sg s M.1 := by
  obtain ⟨y, b, L, r, hh⟩ := M
  cases hh with
  | nil =>
    have h : (Cond.code y b L r).before args s = true := h
    obtain ⟨mk, hn⟩ := Cond.code_named h
    obtain ⟨methM, cM, hm, -, -, -, -, -, -, hs⟩ := Cond.code_spec hn h
    exact ⟨mk, methM, hn, hm, hs⟩
  | cons q t =>
    have h : (Cond.codeWith y b L r (q :: t)).before args s = true := h
    obtain ⟨mk, methM, cM, hn, hm, -, -, -, -, -, -, hs⟩ := Cond.codeWith_spec h
    exact ⟨mk, methM, hn, hm, hs⟩
theorem rs_V (X : Stand p l e R s m args below meth c T locs cells slots) (hexec : p.tables.exec = Jvm.exec) {own C : String} {index : Nat} {y : MethodName}
    (hown : s.vm.findClass own = some m.cls) (hlink : (Cond.methodLink own index y).before args s = true) (hinst : (Cond.instanceMethod y).before args s = true) (hsel : (Cond.selects C y y).before args s = true)
    (hsg : pw_Sg s y) (hy : y.cls ≠ "java/lang/invoke/MethodHandle" ∧ y.cls ≠ "java/lang/invoke/VarHandle")
    {b : Addr} {cellB : Cell} (hcell : T.heap[b]? = some cellB) (hobj : cellB.vm.isStatics = false) (hcls : s.vm.findClass C = some cellB.cls)
    {g : JFrame} (hg : g.method = m) {argsL rest : List Value} (hlen : (parseMethodDescriptor y.desc).map (fun d => d.parameters.length) = some argsL.length)
    (hstack : g.stack = argsL.reverse ++ .ref b :: rest) (hdg : decode c.code g.pc = .ok (.invokevirtual index, 3)) : pw_Rs p l e R s m args below meth c T locs cells slots y 3 g (.ref b :: argsL) rest := by
  obtain ⟨mk, methM, hnamed, hmethM, hstM, habM⟩ := Cond.instanceMethod_spec hinst
  obtain ⟨mk', methM', hn', hm', hsigM⟩ := hsg
  cases hn'.symm.trans hnamed
  cases hm'.symm.trans hmethM
  obtain ⟨c2, r2, m2, q1, q2, q3, q4, kP, hkP, hkPi⟩ := Cond.selects_spec hsel
  cases hcls.symm.trans q1
  cases (State.methodFound?_of_named hnamed hy).symm.trans q2
  cases hnamed.symm.trans q3
  have hselP : selectMethod e.platform s.vm cellB.cls mk = .method mk := by rw [Launch.admits_selectMethod X.admits]; exact q4
  have hl : argsL.length = methM.sig.parameters.length := by rw [hsigM] at hlen; exact (Option.some.inj hlen).symm
  obtain ⟨vm₁, X₁, hstep₁⟩ := X.invokevirtual hexec hown hlink hnamed hmethM hstM hkP hkPi hy (a := b) (cell := cellB) hcell
    (fun z h => by rw [h] at hobj; cases hobj) hselP hmethM habM hkP hkPi (g := g) hg (argsL := argsL) (rest := rest) hl hstack hdg
  exact ⟨vm₁, mk, _, X₁, X₁.named hnamed, hdg, fun target h => hstep₁ _ fun acts => by rw [doInvoke_state]; exact h⟩
theorem rs_VN (X : Stand p l e R s m args below meth c T locs cells slots) (hexec : p.tables.exec = Jvm.exec) {own C host : String} {index : Nat} {y : MethodName}
    (hown : s.vm.findClass own = some m.cls) (hlink : (Cond.methodLinkNest own index y host).before args s = true) (hinst : (Cond.instanceMethod y).before args s = true) (hsel : (Cond.selects C y y).before args s = true)
    (hsg : pw_Sg s y) (hy : y.cls ≠ "java/lang/invoke/MethodHandle" ∧ y.cls ≠ "java/lang/invoke/VarHandle")
    {b : Addr} {cellB : Cell} (hcell : T.heap[b]? = some cellB) (hobj : cellB.vm.isStatics = false) (hcls : s.vm.findClass C = some cellB.cls)
    {g : JFrame} (hg : g.method = m) {argsL rest : List Value} (hlen : (parseMethodDescriptor y.desc).map (fun d => d.parameters.length) = some argsL.length)
    (hstack : g.stack = argsL.reverse ++ .ref b :: rest) (hdg : decode c.code g.pc = .ok (.invokevirtual index, 3)) : pw_Rs p l e R s m args below meth c T locs cells slots y 3 g (.ref b :: argsL) rest := by
  obtain ⟨mk, methM, hnamed, hmethM, hstM, habM⟩ := Cond.instanceMethod_spec hinst
  obtain ⟨mk', methM', hn', hm', hsigM⟩ := hsg
  cases hn'.symm.trans hnamed
  cases hm'.symm.trans hmethM
  obtain ⟨c2, r2, m2, q1, q2, q3, q4, kP, hkP, hkPi⟩ := Cond.selects_spec hsel
  cases hcls.symm.trans q1
  cases (State.methodFound?_of_named hnamed hy).symm.trans q2
  cases hnamed.symm.trans q3
  have hselP : selectMethod e.platform s.vm cellB.cls mk = .method mk := by rw [Launch.admits_selectMethod X.admits]; exact q4
  have hl : argsL.length = methM.sig.parameters.length := by rw [hsigM] at hlen; exact (Option.some.inj hlen).symm
  obtain ⟨vm₁, X₁, hstep₁⟩ := X.invokevirtualNest hexec hown hlink hnamed hmethM hstM hkP hkPi hy (a := b) (cell := cellB) hcell
    (fun z h => by rw [h] at hobj; cases hobj) hselP hmethM habM hkP hkPi (g := g) hg (argsL := argsL) (rest := rest) hl hstack hdg
  exact ⟨vm₁, mk, _, X₁, X₁.named hnamed, hdg, fun target h => hstep₁ _ fun acts => by rw [doInvoke_state]; exact h⟩
theorem rs_U (X : Stand p l e R s m args below meth c T locs cells slots) (hexec : p.tables.exec = Jvm.exec) {own C owner : String} {index : Nat} {x y : MethodName}
    (hown : s.vm.findClass own = some m.cls) (hlink : (Cond.methodLink own index x).before args s = true) (hsame : (Cond.sameMethod x.cls owner x.name x.desc).before args s = true)
    (hd0 : va_Decl s ⟨owner, x.name, x.desc⟩) (howner : owner ≠ "java/lang/invoke/MethodHandle" ∧ owner ≠ "java/lang/invoke/VarHandle")
    (hsel : (Cond.selects C x y).before args s = true) (hinst : (Cond.instanceMethod y).before args s = true)
    {b : Addr} {cellB : Cell} (hcell : T.heap[b]? = some cellB) (hobj : cellB.vm.isStatics = false) (hcls : s.vm.findClass C = some cellB.cls)
    {g : JFrame} (hg : g.method = m) {argsL rest : List Value} (hlen : (parseMethodDescriptor x.desc).map (fun d => d.parameters.length) = some argsL.length)
    (hstack : g.stack = argsL.reverse ++ .ref b :: rest) (hdg : decode c.code g.pc = .ok (.invokevirtual index, 3)) : pw_Rs p l e R s m args below meth c T locs cells slots y 3 g (.ref b :: argsL) rest := by
  obtain ⟨r0, r, hn, hrm, hstR, hsigR⟩ := hd0
  obtain ⟨cn, ck, r1, hcn, hck, hni, hf, hn1⟩ := Cond.sameMethod_found hsame
  cases hn.symm.trans hn1
  obtain ⟨mk, methM, hnamed, hmethM, -, habM⟩ := Cond.instanceMethod_spec hinst
  obtain ⟨c2, r2, m2, q1, q2, q3, q4, kP, hkP, hkPi⟩ := Cond.selects_spec hsel
  cases hcls.symm.trans q1
  cases hf.symm.trans q2
  cases hnamed.symm.trans q3
  have hselP : selectMethod e.platform s.vm cellB.cls r0 = .method mk := by rw [Launch.admits_selectMethod X.admits]; exact q4
  have hl : argsL.length = r.sig.parameters.length := by
    have hsigR : parseMethodDescriptor x.desc = some r.sig := hsigR
    rw [hsigR] at hlen
    exact (Option.some.inj hlen).symm
  obtain ⟨vm₁, X₁, hstep₁⟩ := X.invokevirtualUp hexec hown hlink hsame howner hn hrm hstR (a := b) (cell := cellB) hcell
    (fun z h => by rw [h] at hobj; cases hobj) hselP hmethM habM hkP hkPi (g := g) hg (argsL := argsL) (rest := rest) hl hstack hdg
  exact ⟨vm₁, mk, _, X₁, X₁.named hnamed, hdg, fun target h => hstep₁ _ fun acts => by rw [doInvoke_state]; exact h⟩
theorem rs_F (X : Stand p l e R s m args below meth c T locs cells slots) (hexec : p.tables.exec = Jvm.exec) {own C : String} {index count : Nat} {x y : MethodName}
    (hown : s.vm.findClass own = some m.cls) (hlink : (Cond.methodLink own index x).before args s = true) (hF : va_Fw C x y s)
    (hsel : (Cond.selects C x y).before args s = true) (hinst : (Cond.instanceMethod y).before args s = true) (hx : x.cls ≠ "java/lang/invoke/MethodHandle" ∧ x.cls ≠ "java/lang/invoke/VarHandle")
    {b : Addr} {cellB : Cell} {kB : Class} (hcell : T.heap[b]? = some cellB) (hobj : cellB.vm.isStatics = false) (hcls : s.vm.findClass C = some cellB.cls) (hkB : s.vm.classes[cellB.cls]? = some kB)
    {g : JFrame} (hg : g.method = m) {argsL rest : List Value} (hlen : (parseMethodDescriptor x.desc).map (fun d => d.parameters.length) = some argsL.length)
    (hstack : g.stack = argsL.reverse ++ .ref b :: rest) (hdg : decode c.code g.pc = .ok (.invokeinterface index count, 5)) : pw_Rs p l e R s m args below meth c T locs cells slots y 5 g (.ref b :: argsL) rest := by
  obtain ⟨hdecl, hface, hpub, hunh, hcast⟩ := hF
  obtain ⟨r0, r, hn, hrm, hstR, hsigR⟩ := Cond.declares_spec hdecl
  obtain ⟨cL, kL, r1, hcL, hkL, hiL, hfoundL, hn1⟩ := Cond.interfaceMethod_spec hface
  cases hn.symm.trans hn1
  have hr0cls : r0.cls = cL := Option.some.inj ((findClass_of_methodNamed hn).symm.trans hcL)
  obtain ⟨hnameR, hdescR⟩ := name_of_methodNamed hn hrm
  obtain ⟨mk, methM, hnamed, hmethM, -, habM⟩ := Cond.instanceMethod_spec hinst
  obtain ⟨c2, r2, m2, q1, q2, q3, q4, -⟩ := Cond.selects_spec hsel
  cases hcls.symm.trans q1
  cases hfoundL.symm.trans q2
  cases hnamed.symm.trans q3
  have hselP : selectMethod e.platform s.vm cellB.cls r0 = .method mk := by rw [Launch.admits_selectMethod X.admits]; exact q4
  have hpubM : hasFlag methM.accessFlags Acc.public_ = true := Cond.publicMethod_spec hnamed hmethM hpub
  have hway : ((cellB.cls :: s.vm.superclasses cellB.cls).any fun k => (declaredIn s.vm r.name r.desc k).any fun (_, z) => z.isPrivate || z.isStatic) = false := by
    rw [hnameR, hdescR]; exact Cond.unhidden_spec hcls hunh
  obtain ⟨c3, t3, w1, w2, w3⟩ := Cond.castable_spec hcast
  cases hcls.symm.trans w1
  cases hcL.symm.trans w2
  have hl : argsL.length = r.sig.parameters.length := by rw [hsigR] at hlen; exact (Option.some.inj hlen).symm
  obtain ⟨vm₁, X₁, hstep₁⟩ := X.invokeinterface hexec hown hlink hn hrm hstR (by rw [hr0cls]; exact hkL) hiL hx (a := b) (cell := cellB) (kcell := kB) hcell
    (fun z h => by rw [h] at hobj; cases hobj) hkB (by rw [hr0cls]; exact w3) hselP hmethM hway hpubM habM (g := g) hg (argsL := argsL) (rest := rest) hl hstack hdg
  exact ⟨vm₁, mk, _, X₁, X₁.named hnamed, hdg, fun target h => hstep₁ _ fun acts => by rw [doInvoke_state]; exact h⟩
theorem rs_S (X : Stand p l e R s m args below meth c T locs cells slots) (hexec : p.tables.exec = Jvm.exec) {own : String} {index : Nat} {y : MethodName}
    (hown : s.vm.findClass own = some m.cls) (hlink : (Cond.methodLink own index y).before args s = true) (hstat : (Cond.static y).before args s = true) (hinit : (Cond.initialized y.cls).before args s = true)
    (hsg : pw_Sg s y) (hy : y.cls ≠ "java/lang/invoke/MethodHandle" ∧ y.cls ≠ "java/lang/invoke/VarHandle")
    {g : JFrame} (hg : g.method = m) {argsL rest : List Value} (hlen : (parseMethodDescriptor y.desc).map (fun d => d.parameters.length) = some argsL.length)
    (hstack : g.stack = argsL.reverse ++ rest) (hdg : decode c.code g.pc = .ok (.invokestatic index, 3)) : pw_Rs p l e R s m args below meth c T locs cells slots y 3 g argsL rest := by
  obtain ⟨mk, methM, hnamed, hmethM, hsigM⟩ := hsg
  have hstatic : methM.isStatic = true := Cond.static_spec hnamed hmethM hstat
  obtain ⟨kP, hkP, -⟩ := className_of_methodNamed hnamed
  have hinitP : kP.init = .initialized := Cond.initialized_spec (findClass_of_methodNamed hnamed) hkP hinit
  have hl : argsL.length = methM.sig.parameters.length := by rw [hsigM] at hlen; exact (Option.some.inj hlen).symm
  obtain ⟨vm₁, X₁, hstep₁⟩ := X.invokestatic hexec hown hlink hnamed hmethM hstatic hkP hinitP hy (g := g) hg (argsL := argsL) (rest := rest) hl hstack hdg
  exact ⟨vm₁, mk, _, X₁, X₁.named hnamed, hdg, fun target h => hstep₁ _ fun acts => by rw [doInvoke_state]; exact h⟩
theorem rs_SN (X : Stand p l e R s m args below meth c T locs cells slots) (hexec : p.tables.exec = Jvm.exec) {own host : String} {index : Nat} {y : MethodName}
    (hown : s.vm.findClass own = some m.cls) (hlink : (Cond.methodLinkNest own index y host).before args s = true) (hstat : (Cond.static y).before args s = true) (hinit : (Cond.initialized y.cls).before args s = true)
    (hsg : pw_Sg s y) (hy : y.cls ≠ "java/lang/invoke/MethodHandle" ∧ y.cls ≠ "java/lang/invoke/VarHandle")
    {g : JFrame} (hg : g.method = m) {argsL rest : List Value} (hlen : (parseMethodDescriptor y.desc).map (fun d => d.parameters.length) = some argsL.length)
    (hstack : g.stack = argsL.reverse ++ rest) (hdg : decode c.code g.pc = .ok (.invokestatic index, 3)) : pw_Rs p l e R s m args below meth c T locs cells slots y 3 g argsL rest := by
  obtain ⟨mk, methM, hnamed, hmethM, hsigM⟩ := hsg
  have hstatic : methM.isStatic = true := Cond.static_spec hnamed hmethM hstat
  obtain ⟨kP, hkP, -⟩ := className_of_methodNamed hnamed
  have hinitP : kP.init = .initialized := Cond.initialized_spec (findClass_of_methodNamed hnamed) hkP hinit
  have hl : argsL.length = methM.sig.parameters.length := by rw [hsigM] at hlen; exact (Option.some.inj hlen).symm
  obtain ⟨vm₁, X₁, hstep₁⟩ := X.invokestaticNest hexec hown hlink hnamed hmethM hstatic hkP hinitP hy (g := g) hg (argsL := argsL) (rest := rest) hl hstack hdg
  exact ⟨vm₁, mk, _, X₁, X₁.named hnamed, hdg, fun target h => hstep₁ _ fun acts => by rw [doInvoke_state]; exact h⟩
theorem rs_I (X : Stand p l e R s m args below meth c T locs cells slots) (hexec : p.tables.exec = Jvm.exec) {own : String} {index : Nat} {y : MethodName} {bytes : ByteArray} {maxL : Nat}
    (hown : s.vm.findClass own = some m.cls) (hy1 : y.name = "<init>") (hlink : (Cond.methodLink own index y).before args s = true) (hinst : (Cond.instanceMethod y).before args s = true)
    (hcode : (Cond.code y bytes maxL none).before args s = true) (hy : y.cls ≠ "java/lang/invoke/MethodHandle" ∧ y.cls ≠ "java/lang/invoke/VarHandle")
    {g : JFrame} (hg : g.method = m) {a : Addr} {argsL rest : List Value} (hlen : (parseMethodDescriptor y.desc).map (fun d => d.parameters.length) = some argsL.length)
    (hstack : g.stack = argsL.reverse ++ .ref a :: rest) (hdg : decode c.code g.pc = .ok (.invokespecial index, 3)) : pw_Rs p l e R s m args below meth c T locs cells slots y 3 g (.ref a :: argsL) rest := by
  subst hg
  have hpl : e.platform.magicAccessors = ({} : Platform).magicAccessors := by rw [X.admits.platform]
  obtain ⟨mk, methM, cM, kP, vm₁, hnamed, hmethM, hcodeM, -, hlocalsM, -, hkP, -, hW₁, hstep₁⟩ := Steps.initColdArgs (e := e) X.here hexec X.warmed hpl hown hy1 hy hlink hinst hcode (f := g) rfl (fun sig h => by rw [h] at hlen; exact (Option.some.inj hlen).symm) hstack hdg
  have X₁ := X.noted hW₁
  exact ⟨vm₁, mk, _, X₁, X₁.named hnamed, hdg, fun target h => hstep₁ _ fun acts => by rw [doInvoke_state]; exact h⟩
theorem rs_IN (X : Stand p l e R s m args below meth c T locs cells slots) (hexec : p.tables.exec = Jvm.exec) {own host : String} {index : Nat} {y : MethodName} {bytes : ByteArray} {maxL : Nat}
    (hown : s.vm.findClass own = some m.cls) (hy1 : y.name = "<init>") (hlink : (Cond.methodLinkNest own index y host).before args s = true) (hinst : (Cond.instanceMethod y).before args s = true)
    (hcode : (Cond.code y bytes maxL none).before args s = true) (hy : y.cls ≠ "java/lang/invoke/MethodHandle" ∧ y.cls ≠ "java/lang/invoke/VarHandle")
    {g : JFrame} (hg : g.method = m) {a : Addr} {argsL rest : List Value} (hlen : (parseMethodDescriptor y.desc).map (fun d => d.parameters.length) = some argsL.length)
    (hstack : g.stack = argsL.reverse ++ .ref a :: rest) (hdg : decode c.code g.pc = .ok (.invokespecial index, 3)) : pw_Rs p l e R s m args below meth c T locs cells slots y 3 g (.ref a :: argsL) rest := by
  subst hg
  have hpl : e.platform.magicAccessors = ({} : Platform).magicAccessors := by rw [X.admits.platform]
  obtain ⟨mk, methM, cM, kP, vm₁, hnamed, hmethM, hcodeM, -, hlocalsM, -, hkP, -, hW₁, hstep₁⟩ := Steps.initColdArgsNest (e := e) X.here hexec X.warmed hpl hown hy1 hy hlink hinst hcode (f := g) rfl (fun sig h => by rw [h] at hlen; exact (Option.some.inj hlen).symm) hstack hdg
  have X₁ := X.noted hW₁
  exact ⟨vm₁, mk, _, X₁, X₁.named hnamed, hdg, fun target h => hstep₁ _ fun acts => by rw [doInvoke_state]; exact h⟩
end
theorem pw_blind {E : pw_E} {av : List Value} {w : pw_W} : FrameBlind (pw_Pc E av w) := fun a U g mk h => ⟨h.1, h.2.1.calling, h.2.2⟩
theorem pw_good {M : pw_M} (h : pw_cw M ∈ lw_all) : GoodIn lw_all (pw_ws M) := by
  intro w hw
  rcases List.mem_cons.mp hw with e | e
  · rw [e]; exact lw_self _ h
  · exact lw_self _ e
/-- a method's own words -/
def pw_known (M : pw_M) : Prop := pw_cw M ∈ lw_all ∧ Cond.initialized M.1.cls ∈ lw_all ∧ M.2.2.1 ≤ 45
theorem pw_Ev.back {E : pw_E} {My : pw_M} {dy : Nat} {av : List Value} {w w1 : pw_W} {r1 : pw_R} (hEv : pw_Ev E My dy av w r1 w1) (hk : pw_known My) {p : Program} {e : Env} {R : Room} {s : State} {sargs : Array Value} {below : List Frame} {len d : Nat}
    (hts : ∀ w ∈ lw_all, w.before sargs s = true) (hd1 : dy + 1 ≤ d) (hf : d ≤ R.frames) (hl : 64 * d ≤ R.locals) :
    px_Back E.1 R p e below s sargs My.1 len 8 (PreOf R (w1.2.1 - w.2.1) (w1.2.2 - w.2.2) (pw_Pc E av w)) (PostOf (pw_Qc E r1 w1) (w1.2.1 - w.2.1) (w1.2.2 - w.2.2) (pw_fr E)) (px_Post (pw_XC E r1 w1) (w1.2.1 - w.2.1) (w1.2.2 - w.2.2) (pw_fr E)) := by
  obtain ⟨-, -, hM⟩ := hEv
  obtain ⟨hk1, hk2, hk3⟩ := hk
  have hws := pay_in hts (pw_good hk1)
  have hini : ∀ a' U, s.WarmedH U.vm → (Cond.initialized My.1.cls).before a' U = true := fun a' U hW => word_at hW (Or.inl (by first | rfl | simp [Cond.onTables, Cond.keeps, Cond.steady])) (hts _ hk2)
  have h1 : (pw_rm dy w w1).frames + 1 ≤ R.frames := by show dy + 1 ≤ _; omega
  have h2 : 8 + (My.2.2.1 + 11) + (pw_rm dy w w1).locals ≤ R.locals := by show 8 + (My.2.2.1 + 11) + 64 * dy ≤ _; omega
  obtain ⟨y, b, mL, rt, hh⟩ := My
  cases hh with
  | nil => exact px_back (bytes := b) (maxL := mL) (ret := rt) hM pw_blind rfl rfl h1 h2 hws List.mem_cons_self hini
  | cons q t => exact px_backW (hh := q :: t) (bytes := b) (maxL := mL) (ret := rt) hM pw_blind rfl rfl h1 h2 hws List.mem_cons_self hini
theorem pw_catsum : ∀ l : List Value, (l.map fun v => v.category).sum ≤ 2 * l.length := by
  intro l
  induction l with
  | nil => simp
  | cons a t ih =>
    have : a.category ≤ 2 := by cases a <;> simp [Value.category]
    simp only [List.map_cons, List.sum_cons, List.length_cons]
    omega
/-- what lies on the stack beneath takes at most 8 words -/
def pw_cs (st : List Value) : Prop := (st.map fun v => v.category).sum ≤ 8
theorem pw_c4 {st : List Value} (h : 2 * st.length ≤ 8) : pw_cs st := Nat.le_trans (pw_catsum st) h
theorem pw_c8 {st : List Value} (h : st.length ≤ 8) (hc : ∀ v ∈ st, v.category = 1) : pw_cs st := by
  have e : ∀ l : List Value, (∀ v ∈ l, v.category = 1) → (l.map fun v => v.category).sum = l.length := by
    intro l
    induction l with
    | nil => intro _; rfl
    | cons a t ih => intro h; rw [List.map_cons, List.sum_cons, ih (fun v hv => h v (List.mem_cons_of_mem _ hv)), h a List.mem_cons_self, List.length_cons]; omega
  unfold pw_cs
  rw [e st hc]
  exact h
/-- what goes on behind a call -/
def pw_nx (E : pw_E) (M : pw_M) (d pc len : Nat) (L : List (Option Value)) (st : List Value) (Post : pw_R → pw_W → Prop) : pw_R → pw_W → Prop := fun r w => match r with
  | .inl v => pw_Wp E M d (pc + len) L (v.toList ++ st) w Post
  | .inr q => pw_Wx E M d q pc L w Post
/-- behind a call -/
theorem r_call {E : pw_E} {M : pw_M} {d pc len : Nat} {L : List (Option Value)} {st stk : List Value} {w : pw_W} {Post : pw_R → pw_W → Prop} {My : pw_M} {dy : Nat} {av : List Value} {w1 : pw_W} {r1 : pw_R} (hEv : pw_Ev E My dy av w r1 w1) (hk : pw_known My) (hd1 : dy + 1 ≤ d) (hst : pw_cs st)
    (hRs : ∀ (p : Program) (e : Env) (R : Room) (s : State) (m : MethodId) (args : Array Value) (below : List Frame) (meth : Method) (c : Code) (locs : List Loc) (cells slots : Nat) (ls : Array Slot) (T : State), pw_C E M p s m args meth c → pw_Hp E w T.heap → Stand p E.1 e R s m args below meth c T locs cells slots → pw_Rs p E.1 e R s m args below meth c T locs cells slots My.1 len (F0 m pc ls stk) av st)
    (k : pw_nx E M d pc len L st Post r1 w1) : pw_Wp E M d pc L stk w Post := by
  have key : ∀ (r : pw_R) (w' : pw_W) (x : Option Addr) (hx : match r1, x with | .inl v, none => pw_T E M d none (pc + len) L (v.toList ++ st) w1 r w' | .inr q, some q' => q = q' ∧ ∀ st : List Value, pw_T E M d (some q) pc L st w1 r w' | _, _ => False), pw_T E M d none pc L stk w r w' := by
    intro r w' x hx
    have hle : w1.2.1 ≤ w'.2.1 ∧ w1.2.2 ≤ w'.2.2 := by
      cases r1 <;> cases x <;> simp only at hx
      · exact ⟨hx.1, hx.2.1⟩
      · exact ⟨(hx.2 []).1, (hx.2 []).2.1⟩
    have hE := hEv
    obtain ⟨z1, z2, -⟩ := hE
    refine ⟨by omega, by omega, ?_⟩
    intro p e R s m args below meth c H locs cells slots ls hC hf hl hc hs hH hq hL
    intro T hT X
    obtain ⟨vm₁, mk, ig, X₁, hn, hdg, hstep⟩ := hRs p e R s m args below meth c locs cells slots ls T hC (by rw [hT]; exact hH) X
    have hC0 := hC
    obtain ⟨hx1, hb1, -, -, hml, hown, -, hts, hO, -⟩ := hC
    have hW : 2 * ({ F0 m pc ls stk with stack := st } : JFrame).monitorRoom + (({ F0 m pc ls stk with stack := st } : JFrame).stack.map fun v => v.category).sum ≤ 8 := by
      show 2 * 0 + (st.map fun v => v.category).sum ≤ 8
      have := hst
      unfold pw_cs at this
      omega
    rcases hEv.back hk (e := e) (below := below) hts hd1 hf hl m meth c ⟨T.setVm vm₁, locs, cells, slots⟩ { F0 m pc ls stk with stack := st } ig mk av.toArray X₁ rfl (by show ls.size = _; rw [hL.1, hml]) hdg hW hn
      ⟨by show cells + _ ≤ _; omega, by show slots + _ ≤ _; omega, rfl, hO.warm X₁.warmed, by show pw_Hp E w T.heap; rw [hT]; exact hH⟩ with ⟨v, ⟨U', l2, c2, s2⟩, X', ⟨g', mk', t, L9, e1, e2, hqc, h1, hL9, h2, h3⟩, st9⟩ | ⟨q, ⟨U', l2, c2, s2⟩, X', ⟨g', mk', t, L9, F, ce, e1, e2, hxc, hce, hcv, hcl, h1, hL9, h2, h3⟩, st9⟩
    · dsimp only [Pt.U, Pt.locs, Pt.cells, Pt.slots] at X' e1 e2 h1 h2 h3 st9
      subst h1; subst h2; subst h3
      obtain ⟨v', rfl, hv, hH1⟩ := hqc
      cases hv
      cases x with
      | some q' => simp only at hx
      | none =>
        simp only at hx
        obtain ⟨y1, y2, hx⟩ := hx
        have := hx p e R s m args below meth c U'.heap (locs ++ L9) (cells + (w1.2.1 - w.2.1)) (slots + (w1.2.2 - w.2.2)) ls hC0 hf hl (by omega) (by omega) (by rw [e1]; exact hH1) (fun z hz => by
          rcases List.mem_append.mp hz with h | h
          · exact hq z h
          · exact hL9 z h) hL
        rw [show cells + (w1.2.1 - w.2.1) + (w'.2.1 - w1.2.1) = cells + (w'.2.1 - w.2.1) by omega, show slots + (w1.2.2 - w.2.2) + (w'.2.2 - w1.2.2) = slots + (w'.2.2 - w.2.2) by omega] at this
        obtain ⟨t9, a1, b1⟩ := this U' rfl X'
        exact ⟨t9, hstep _ (st9.trans a1), b1⟩
    · dsimp only [Pt.U, Pt.locs, Pt.cells, Pt.slots] at X' e1 e2 h1 h2 h3 st9
      subst h1; subst h2; subst h3
      obtain ⟨rfl, rfl, hH1⟩ := hxc
      cases x with
      | none => simp only at hx
      | some q' =>
        simp only at hx
        obtain ⟨rfl, hx⟩ := hx
        obtain ⟨y1, y2, hx⟩ := hx st
        have := hx p e R s m args below meth c U'.heap (locs ++ L9) (cells + (w1.2.1 - w.2.1)) (slots + (w1.2.2 - w.2.2)) ls hC0 hf hl (by omega) (by omega) (by rw [e1]; exact hH1) (fun z hz => by
          rcases List.mem_append.mp hz with h | h
          · exact hq z h
          · exact hL9 z h) hL
        rw [show cells + (w1.2.1 - w.2.1) + (w'.2.1 - w1.2.1) = cells + (w'.2.1 - w.2.1) by omega, show slots + (w1.2.2 - w.2.2) + (w'.2.2 - w1.2.2) = slots + (w'.2.2 - w.2.2) by omega] at this
        obtain ⟨t9, a1, b1⟩ := this U' rfl X'
        exact ⟨t9, hstep _ (st9.trans a1), b1⟩
  cases r1 with
  | inl v =>
    obtain ⟨r, w', h1, h2⟩ := k
    exact ⟨r, w', h1, key r w' none h2⟩
  | inr q =>
    obtain ⟨r, w', h1, h2⟩ := k
    exact ⟨r, w', h1, key r w' (some q) ⟨rfl, h2⟩⟩
