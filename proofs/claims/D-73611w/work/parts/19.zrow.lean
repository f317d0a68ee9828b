set_option maxRecDepth 100000
/-! rows of a superinterface's method, of an exception's making, of a catch -/
section
variable {p : Program} {l : Launch} {e : Env} {R : Room} {s : State} {m : MethodId} {args : Array Value} {below : List Frame} {meth : Method} {c : Code} {T : State} {locs : List Loc} {cells slots : Nat}
theorem rs_NF (X : Stand p l e R s m args below meth c T locs cells slots) (hexec : p.tables.exec = Jvm.exec) {own C J : String} {index count : Nat} {x y : MethodName}
    (hown : s.vm.findClass own = some m.cls) (hlink : (Cond.methodLink own index x).before args s = true) (hface : (Cond.interfaceMethod x.cls J x.name x.desc).before args s = true)
    (hdecl : (Cond.declares ⟨J, x.name, x.desc⟩).before args s = true) (hpubJ : (Cond.publicMethod ⟨J, x.name, x.desc⟩).before args s = true) (hJ : x.cls ≠ J)
    (hpub : (Cond.publicMethod y).before args s = true) (hunh : (Cond.unhidden C x.name x.desc).before args s = true) (hcast : (Cond.castable C x.cls).before args s = true)
    (hsel : (Cond.selects C ⟨J, x.name, x.desc⟩ y).before args s = true) (hinst : (Cond.instanceMethod y).before args s = true) (hx : x.cls ≠ "java/lang/invoke/MethodHandle" ∧ x.cls ≠ "java/lang/invoke/VarHandle") (hJ2 : J ≠ "java/lang/invoke/MethodHandle" ∧ J ≠ "java/lang/invoke/VarHandle")
    {b : Addr} {cellB : Cell} {kB : Class} (hcell : T.heap[b]? = some cellB) (hobj : cellB.vm.isStatics = false) (hcls : s.vm.findClass C = some cellB.cls) (hkB : s.vm.classes[cellB.cls]? = some kB)
    {g : JFrame} (hg : g.method = m) {argsL rest : List Value} (hlen : (parseMethodDescriptor x.desc).map (fun d => d.parameters.length) = some argsL.length)
    (hstack : g.stack = argsL.reverse ++ .ref b :: rest) (hdg : decode c.code g.pc = .ok (.invokeinterface index count, 5)) : pw_Rs p l e R s m args below meth c T locs cells slots y 5 g (.ref b :: argsL) rest := by
  obtain ⟨r0, r, hn, hrm, hstR, hsigR⟩ := Cond.declares_spec hdecl
  obtain ⟨cL, kL, r1, hcL, hkL, hiL, hfoundL, hn1⟩ := Cond.interfaceMethod_spec hface
  cases hn.symm.trans hn1
  obtain ⟨hnameR, hdescR⟩ := name_of_methodNamed hn hrm
  obtain ⟨mk, methM, hnamed, hmethM, -, habM⟩ := Cond.instanceMethod_spec hinst
  obtain ⟨c2, r2, m2, q1, q2, q3, q4, -⟩ := Cond.selects_spec hsel
  cases hcls.symm.trans q1
  cases (State.methodFound?_of_named hn hJ2).symm.trans q2
  cases hnamed.symm.trans q3
  have hselP : selectMethod e.platform s.vm cellB.cls r0 = .method mk := by rw [Launch.admits_selectMethod X.admits]; exact q4
  have hpubM : hasFlag methM.accessFlags Acc.public_ = true := Cond.publicMethod_spec hnamed hmethM hpub
  have hway : ((cellB.cls :: s.vm.superclasses cellB.cls).any fun k => (declaredIn s.vm r.name r.desc k).any fun (_, z) => z.isPrivate || z.isStatic) = false := by
    rw [hnameR, hdescR]; exact Cond.unhidden_spec hcls hunh
  obtain ⟨c3, t3, w1, w2, w3⟩ := Cond.castable_spec hcast
  cases hcls.symm.trans w1
  cases hcL.symm.trans w2
  have hl : argsL.length = r.sig.parameters.length := by
    have hsigR : parseMethodDescriptor x.desc = some r.sig := hsigR
    rw [hsigR] at hlen; exact (Option.some.inj hlen).symm
  obtain ⟨vm₁, X₁, hstep₁⟩ := X.invokeinterfaceUp hexec (J := J) hown hlink hface hdecl hpubJ hJ hx (cI := cL) hcL (a := b) (cell := cellB) (kcell := kB) hcell
    (fun z h => by rw [h] at hobj; cases hobj) hkB w3 hn hrm hselP hmethM hway hpubM habM (g := g) hg (argsL := argsL) (rest := rest) hl hstack hdg
  exact ⟨vm₁, mk, _, X₁, X₁.named hnamed, hdg, fun target h => hstep₁ _ fun acts => by rw [doInvoke_state]; exact h⟩
/-! (two of the kit's laws for exceptions, the first as it is) -/
theorem px_rebase {T : State} (X : Stand p l e R s m args below meth c T locs cells slots) {R' : Room} (hf : R'.frames ≤ R.frames) (hl : R'.locals ≤ R.locals) (hc : cells + R'.cells ≤ R.cells) (hs : slots + R'.slots ≤ R.slots) :
    Stand p l e R' ((T.setVm s.vm).setFrames (.invoking m args :: below)) m args below meth c T [] 0 0 := by
  have htop : (T.setVm s.vm).topJava?.isSome := X.here.top
  have hF : ((T.setVm s.vm).setFrames (.invoking m args :: below)).frames = .invoking m args :: below := State.frames_setFrames _ (State.cur_lt_of_top htop)
  obtain ⟨g₀, hg0⟩ := Option.isSome_iff_exists.mp htop
  obtain ⟨r, hr⟩ := State.topJava?_eq_some.mp hg0
  have hl9 : e.platform.stackLimits (T.setVm s.vm).me = e.platform.stackLimits s.me := X.limits
  have hb9 : (T.setVm s.vm).me.stackBytes = s.me.stackBytes := X.bytes
  refine ⟨X.admits, X.cas, X.clock, hF, ?_, X.hears, X.method, X.code, X.here, X.tail, X.warmed, ?_, ?_, ?_⟩
  · have h := X.room
    have hU : ((T.setVm s.vm).setFrames (.invoking m args :: below)).localsInUse = s.localsInUse := by
      rw [State.localsInUse_invoking hF (meth := meth) (c := c) X.method X.code, State.localsInUse_invoking X.frames X.method X.code]
    simp only [State.hasRoom, Bool.and_eq_true, decide_eq_true_eq] at h ⊢
    obtain ⟨⟨⟨⟨h1, h2, h3, h4, h5, h6⟩, h7⟩, h8⟩, h9⟩ := h
    rw [X.frames, List.length_cons] at h2 h3
    have q1 := X.heapSize
    have q2 := X.used
    simp only [hF, hU, List.length_cons, State.stackLimits_setFrames, State.stackBytes_setFrames, hl9, hb9]
    refine ⟨⟨⟨⟨by omega, by omega, by omega, by omega, by omega, h6⟩, ?_⟩, ?_⟩, X.book⟩
    · show T.heap.size + R'.cells ≤ e.platform.maxCells
      omega
    · show T.slotsUsed + R'.slots ≤ e.platform.maxSlots
      omega
  · rw [State.stackLimits_setFrames]; rfl
  · rw [State.stackBytes_setFrames]; rfl
  · refine ⟨?_, Nat.le_refl _, Nat.le_refl _, ?_, ?_, fun a c9 h9 => ⟨c9, h9, rfl, rfl, fun _ _ => rfl⟩⟩
    · obtain ⟨t, ht, -⟩ := State.frames_cons hr
      show T.setVm s.vm = { ((T.setVm s.vm).setFrames (.invoking m args :: below)).setFrames (T.setVm s.vm).frames with heap := T.heap, slotsUsed := T.slotsUsed }
      rw [State.setFrames_setFrames, State.setFrames_self ht]
      rfl
    · show T.slotsUsed = T.slotsUsed + ((T.heap.toList.drop T.heap.size).map (·.slots.size)).sum
      rw [List.drop_eq_nil_of_le (Nat.le_of_eq Array.length_toList)]
      rfl
    · show ((T.heap.toList.drop T.heap.size).map (·.slots.size)).sum ≤ 0
      rw [List.drop_eq_nil_of_le (Nat.le_of_eq Array.length_toList)]
      exact Nat.le_refl _
theorem px_back9 {T S : State} {R' : Room} {k n : Nat} {L : List Loc} (X : Stand p l e R s m args below meth c T locs cells slots) (Y : Stand p l e R' ((T.setVm s.vm).setFrames (.invoking m args :: below)) m args below meth c T [] 0 0) (Z : Stand p l e R' ((T.setVm s.vm).setFrames (.invoking m args :: below)) m args below meth c S L k n) :
    Stand p l e R s m args below meth c S (locs ++ L) (cells + k) (slots + n) := by
  have hW0 : s.WarmedH ((T.setVm s.vm).setFrames (.invoking m args :: below)).vm := State.WarmedH.refl s
  refine { admits := X.admits, cas := X.cas, clock := X.clock, frames := X.frames, room := X.room, hears := X.hears, method := X.method, code := X.code, here := Z.here, tail := Z.tail, warmed := State.WarmedH.trans hW0 Z.warmed, limits := Z.limits.trans (Y.limits.symm.trans X.limits), bytes := Z.bytes.trans (Y.bytes.symm.trans X.bytes), same := ?_ }
  obtain ⟨e1, e2⟩ := Z.same
  rw [State.setFrames_setFrames] at e1
  have h2 : (T.setVm s.vm).sameButNew (S.setVm s.vm) L k n := ⟨e1, e2⟩
  have h3 := X.same.trans h2
  exact h3
end
section
variable {E : pw_E} {M : pw_M} {d pc : Nat} {L : List (Option Value)} {st stk : List Value} {w : pw_W} {Post : pw_R → pw_W → Prop}
theorem r_NF {index count : Nat} (hd : decode M.2.1 pc = .ok (.invokeinterface index count, 5)) (i : Nat) {q : String × Nat × String × String × String × String} (hq : pw_nl[i]? = some q) (h1 : q.1 = M.1.cls ∧ q.2.1 = index) (My : pw_M) (hk : pw_known My) (h2 : Cond.instanceMethod My.1 ∈ lw_all) (k : Nat) (r : vw_C) (hr : pw_cl[k]? = some r)
    (h3 : Cond.selects r.1 ⟨q.2.2.2.2.2, q.2.2.2.1, q.2.2.2.2.1⟩ My.1 ∈ lw_all) (h4 : Cond.declares ⟨q.2.2.2.2.2, q.2.2.2.1, q.2.2.2.2.1⟩ ∈ lw_tbl) (h5 : Cond.publicMethod ⟨q.2.2.2.2.2, q.2.2.2.1, q.2.2.2.2.1⟩ ∈ lw_tbl) (h6 : Cond.publicMethod My.1 ∈ lw_tbl) (h7 : Cond.unhidden r.1 q.2.2.2.1 q.2.2.2.2.1 ∈ lw_tbl) (h8 : Cond.castable r.1 q.2.2.1 ∈ lw_tbl)
    (h9 : (q.2.2.1 ≠ q.2.2.2.2.2 ∧ q.2.2.1 ≠ "java/lang/invoke/MethodHandle" ∧ q.2.2.1 ≠ "java/lang/invoke/VarHandle") ∧ q.2.2.2.2.2 ≠ "java/lang/invoke/MethodHandle" ∧ q.2.2.2.2.2 ≠ "java/lang/invoke/VarHandle")
    {av : List Value} (hy : (parseMethodDescriptor q.2.2.2.2.1).map (fun d => d.parameters.length) = some av.length) {a : Nat} {us : List Value} (ha : w.1 a = some (k, us)) (hs : stk = av.reverse ++ va_rf (some a) :: st) (hst : pw_cs st) {dy : Nat} (hd1 : dy + 1 ≤ d) (hc : pw_Cl E My dy (va_rf (some a) :: av) w (pw_nx E M d pc 5 L st Post)) : pw_Wp E M d pc L stk w Post := by
  obtain ⟨r1, w1, hp, hEv⟩ := hc
  refine r_call hEv hk hd1 hst (fun p e R s m args below meth c locs cells slots ls T hC hH X => ?_) hp
  obtain ⟨cell, kB, q1, q2, q3, q4⟩ := pw_recv hC hH ha hr
  obtain ⟨hx, hb, -, -, -, hown, -, hts, hO, -⟩ := hC
  have g := fun {c : Cond} (hc : c ∈ lw_tbl) (h : pw_xok c = true) (ht : c.onTables = true) => va_Nw.use (A := args) ht (hO.2.2.2.1 c hc h)
  obtain ⟨n1, n2⟩ := hO.2.2.2.2.2.2.2.2.2.2.2.1 q (List.mem_of_getElem? hq)
  have n1 : (Cond.methodLink M.1.cls index ⟨q.2.2.1, q.2.2.2.1, q.2.2.2.2.1⟩).before args s = true := by
    rw [h1.1, h1.2] at n1
    exact va_tabs rfl rfl n1
  exact rs_NF X hx (x := ⟨q.2.2.1, q.2.2.2.1, q.2.2.2.2.1⟩) hown n1 (va_tabs rfl rfl n2) (g h4 rfl rfl) (g h5 rfl rfl) h9.1.1 (g h6 rfl rfl) (g h7 rfl rfl) (g h8 rfl rfl) (hts _ h3) (hts _ h2) h9.1.2 h9.2 q1 q2 q3 q4 rfl hy hs (by rw [hb]; exact hd)
theorem pw_thr : ∀ c ∈ Bundle.throwableAtoms ++ Bundle.chain0Atoms "java/lang/Exception" [], c ∈ lw_all ∨ (c ∈ lw_tbl ∧ pw_xok c = true ∧ c.onTables = true) ∨ ∃ q ∈ pw_ls, c = .laysStatic "java/lang/Throwable" q.1 q.2 := by
  intro c hc
  have h : ∀ c ∈ Bundle.throwableAtoms ++ Bundle.chain0Atoms "java/lang/Exception" [], c ∈ lw_all ∨ (c ∈ lw_tbl ∧ pw_xok c = true ∧ c.onTables = true) ∨ c ∈ pw_ls.map (fun q => Cond.laysStatic "java/lang/Throwable" q.1 q.2) := by decide +kernel
  rcases h c hc with h | h | h
  · exact Or.inl h
  · exact Or.inr (Or.inl h)
  · obtain ⟨q, hq, e⟩ := List.mem_map.mp h
    exact Or.inr (Or.inr ⟨q, hq, e.symm⟩)
theorem pw_goWC {pc' : Nat} {st' : List Value} {w1 : pw_W} (hw : w1.2 = w.2)
    (h : ∀ (p : Program) (e : Env) (R : Room) (s : State) (m : MethodId) (args : Array Value) (below : List Frame) (meth : Method) (c : Code) (H : Heap) (locs : List Loc) (cells slots : Nat) (ls : Array Slot) (Q : State → Prop),
      pw_C E M p s m args meth c → d ≤ R.frames → 64 * d ≤ R.locals → cells ≤ R.cells → slots ≤ R.slots → pw_Hp E w H → (∀ q ∈ locs, pw_base E ≤ q.base) → pw_L ls M.2.2.1 L → (∀ (H' : Heap) (locs' : List Loc), pw_Hp E w1 H' → (∀ q ∈ locs', pw_base E ≤ q.base) → W p E.1 e R s m args below meth c H' (locs ++ locs') cells slots Q (F0 m pc' ls st')) → W p E.1 e R s m args below meth c H locs cells slots Q (F0 m pc ls st))
    (k : pw_Wp E M d pc' L st' w1 Post) : pw_Wp E M d pc L st w Post := by
  obtain ⟨r, w', h1, h2, h3, h4⟩ := k
  rw [hw] at h2 h3
  refine ⟨r, w', h1, h2, h3, ?_⟩
  intro p e R s m args below meth c H locs cells slots ls hC hf hl hc hs hH hq hL
  refine h p e R s m args below meth c H locs cells slots ls _ hC hf hl (by omega) (by omega) hH hq hL (fun H' locs' hH' hq' => ?_)
  have := h4 p e R s m args below meth c H' (locs ++ locs') cells slots ls hC hf hl (by rw [hw]; exact hc) (by rw [hw]; exact hs) hH' (fun q hz => by
    rcases List.mem_append.mp hz with z | z
    · exact hq q z
    · exact hq' q z) hL
  rw [hw] at this
  exact this
/-- the superclass's part of the making of a fault -/
theorem r_fault {ic : Nat} (hd : decode M.2.1 pc = .ok (.invokespecial ic, 3)) (hw : Cond.methodLink M.1.cls ic (Bundle.init0 "java/lang/Exception") ∈ lw_all) {a : Nat} (ha : w.1 a = some (5, pw_df 5)) (hba : pw_base E ≤ a) {u n : Option Nat} (hu : E.2.2.2.2 4 = va_rf u) (hn : E.2.2.2.2 5 = va_rf n) (hd4 : 4 ≤ d) (hst : pw_cs st)
    (kk : pw_Wp E M d (pc + 3) L st (pw_up w a (5, [.ref a, va_rf u, va_rf n, .null, .null, .int 0, .int 0, .int 0])) Post) : pw_Wp E M d pc L (va_rf (some a) :: st) w Post := by
  refine pw_goWC (w1 := pw_up w a (5, [.ref a, va_rf u, va_rf n, .null, .null, .int 0, .int 0, .int 0])) rfl (fun p e R s0 m args below meth c H locs cells slots ls Q hC hf hl hcc hss hH hql hL kk => ?_) kk
  obtain ⟨hx, hb, -, -, hml, hown0, -, hts0, hO0, -⟩ := hC
  obtain ⟨cell, q1, q2, q3, q4⟩ := hH.2.2.2 a _ ha
  rw [if_pos (show (5, pw_df 5).1 < 1000 from by show 5 < 1000; decide)] at q4
  have q4 : (pw_df 5).length = pw_nf 5 ∧ ∀ (j : Nat) (v : Value), (pw_df 5)[j]? = some v → cell.slots[E.2.2.1 5 j]? = some v := q4
  obtain ⟨U, hU⟩ : ∃ z : Value, z = va_rf u := ⟨_, rfl⟩
  obtain ⟨N, hN⟩ : ∃ z : Value, z = va_rf n := ⟨_, rfl⟩
  have hUr : U.isRef = true := by rw [hU]; cases u <;> rfl
  have hNr : N.isRef = true := by rw [hN]; cases n <;> rfl
  rw [← hU, ← hN] at kk
  rw [← hU] at hu
  rw [← hN] at hn
  intro Ts hT X
  have howns : e.platform.frameOwnsMonitors = true := by rw [X.admits.platform]
  have hfin : e.platform.finalization = false := by rw [X.admits.platform]
  have hpl : e.platform.magicAccessors = ({} : Platform).magicAccessors := by rw [X.admits.platform]
  have htr : e.platform.stackTraces = false := (show e.platform.stackTraces = E.1.stackTraces by rw [X.admits.platform]).trans hO0.2.2.2.2.2.2.2.2.2.2.2.2.1
  have Xb := px_rebase X (R' := { frames := R.frames, locals := R.locals, cells := 0, slots := 0 }) (Nat.le_refl _) (Nat.le_refl _) hcc hss
  obtain ⟨s, hA⟩ : ∃ z, z = (Ts.setVm s0.vm).setFrames (.invoking m args :: below) := ⟨_, rfl⟩
  have Xb0 := Xb
  rw [← hA] at Xb
  have hvm : s.vm = s0.vm := by rw [hA]; rfl
  have hhp : s.heap = H := by rw [hA]; exact hT
  have hW0 : s0.WarmedH s.vm := by rw [hvm]; exact State.WarmedH.refl s0
  have hts : ∀ w ∈ lw_all, w.before args s = true := fun w hw => pay_in hts0 lw_self w hw args s hW0
  have hO : pw_Ok E s := hO0.warm hW0
  have hown : s.vm.findClass M.1.cls = some m.cls := by rw [hvm]; exact hown0
  have hE : ∀ q, q < pw_base E → s.heap[q]? = E.2.2.2.1[q]? := fun q hq => by rw [hhp]; exact hH.2.2.1 q hq
  have hat : ∀ c ∈ Bundle.throwableAtoms ++ Bundle.chain0Atoms "java/lang/Exception" [], c.before args s = true := fun c hc => by
    rcases pw_thr c hc with h | h | ⟨q, hq, e⟩
    · exact hts c h
    · exact va_Nw.use h.2.2 (hO.2.2.2.1 c h.1 h.2.1)
    · rw [e]; exact (hO.2.2.2.2.2.2.2.2.2.2.2.2.2 q hq).word hE
  obtain ⟨T, Z, Lk, LZ, Y⟩ := ThrowableC.of_atoms (args := args) howns hfin hpl (fun x hx => hat x (List.mem_append.mpr (Or.inl hx)))
  obtain ⟨P1, Ps, hlen, L1, hLs, hP1m, hlink1, hlink⟩ := Bundle.chain0 (args := args) hpl Y.init0 [] "java/lang/Exception" (by decide) (fun n hn => by cases hn) (fun x hx => hat x (List.mem_append.mpr (Or.inr hx)))
  obtain rfl : Ps = [] := List.eq_nil_of_length_eq_zero hlen
  obtain ⟨hS, hfc, kC, hkC, hkind⟩ := hO.1 5 _ rfl
  have hfc : s.vm.findClass "VersionSearch$Fault" = some cell.cls := by rw [q2]; exact hfc
  have hkC : s.vm.classes[cell.cls]? = some kC := by rw [q2]; exact hkC
  have hsel0 : selectMethod e.platform s.vm cell.cls T.fill0 = .method T.fill0 := by
    obtain ⟨c2, r2, m2, z1, z2, z3, z4, -⟩ := Cond.selects_spec (hts _ q631)
    cases hfc.symm.trans z1
    cases (State.methodFound?_of_named Y.fill0 (by decide)).symm.trans z2
    cases Y.fill0.symm.trans z3
    rw [Launch.admits_selectMethod X.admits]; exact z4
  have hselF : selectMethod e.platform s.vm cell.cls T.fill = .method T.fill := by
    obtain ⟨c2, r2, m2, z1, z2, z3, z4, -⟩ := Cond.selects_spec (hts _ q632)
    cases hfc.symm.trans z1
    cases (State.methodFound?_of_named Y.fill (by decide)).symm.trans z2
    cases Y.fill.symm.trans z3
    rw [Launch.admits_selectMethod X.admits]; exact z4
  obtain ⟨c4, k4, i4, f4, a4, cell4, u1, u2, u3, u4, u5, u6, u7, u8⟩ := hO.2.2.2.2.2.2.2.1 4 _ rfl
  obtain ⟨c5, k5, i5, f5, a5, cell5, v1, v2, v3, v4, v5, v6, v7, v8⟩ := hO.2.2.2.2.2.2.2.1 5 _ rfl
  cases Y.unassigned.symm.trans u1
  cases Y.sentinel.symm.trans v1
  cases u4.symm.trans v4
  cases u5.symm.trans v5
  have haS : T.aS = a4 := Option.some.inj (Lk.statics.symm.trans u4)
  rw [hu] at u7
  rw [hn] at v7
  have ha4 : a4 < pw_base E := (Array.getElem?_eq_some_iff.mp u5).1
  have hcS : Ts.heap[T.aS]? = some cell4 := by rw [hT, haS, hH.2.2.1 a4 ha4]; exact u5
  have hneS : T.aS ≠ a := by
    rw [haS]
    exact Nat.ne_of_lt (Nat.lt_of_lt_of_le ha4 hba)
  have hsl : ∀ j, j < 8 → ∃ v, (pw_df 5)[j]? = some v ∧ cell.slots[E.2.2.1 5 j]? = some v := fun j hj => by
    have h8 : (pw_df 5).length = 8 := q4.1
    exact ⟨_, List.getElem?_eq_getElem (by omega), q4.2 j _ (List.getElem?_eq_getElem (by omega))⟩
  have field : ∀ (j : Nat) (hj : j < 8) (cf : ClassId) (kf : Class) (fi : Nat) (f : Field), s.fieldFound? (TX6 j).1 (TX6 j).2.1 (TX6 j).2.2.1 = some (cf, kf, fi, f) → f.slot = E.2.2.1 5 j := fun j hj cf kf fi f h => by
    obtain ⟨cf', kf', fi', f', h', e'⟩ := hS j hj
    cases h.symm.trans h'
    exact e'
  have fC : T.fCause.slot = E.2.2.1 5 0 := field 0 (by decide) _ _ _ _ Y.cause
  have fS : T.fStack.slot = E.2.2.1 5 1 := field 1 (by decide) _ _ _ _ Y.stack
  have fP : T.fSupp.slot = E.2.2.1 5 2 := field 2 (by decide) _ _ _ _ Y.supp
  obtain ⟨ci198, i198, fB, hk198, hg198, ha198, hsB, -, hnB, htB, hffB⟩ := Cond.ownField (t := .object "java/lang/Object") Y.found Lk.cls (by decide +kernel) (hts _ q643) (hts _ q642) e.platform hpl
  have fB4 : fB.slot = E.2.2.1 5 4 := field 4 (by decide) _ _ _ _ hffB
  have hap : ∀ x y, x < 8 → y < 8 → x ≠ y → E.2.2.1 5 x ≠ E.2.2.1 5 y := pw_apart hts hO (k := 5) rfl
  have tk : ∀ (j : Nat) (hj : j < 8) (f : Field) (cf : ClassId) (kf : Class) (fi : Nat) (v : Value), s.fieldFound? (TX6 j).1 (TX6 j).2.1 (TX6 j).2.2.1 = some (cf, kf, fi, f) → (Cond.lays "VersionSearch$Fault" (TX6 j).1 (TX6 j).2.1 (TX6 j).2.2.1).before args s = true → fits f.type v = true → Takes s cell f v := fun j hj f cf kf fi v h hl hv => by
    obtain ⟨tyC, -⟩ := Cond.laysAt hfc hkC h hl
    obtain ⟨v0, -, z0⟩ := hsl j hj
    refine ⟨by rw [field j hj _ _ _ _ h]; exact (Array.getElem?_eq_some_iff.mp z0).1, ?_⟩
    rw [q3.own hba]
    simp [State.fitsSlot, State.slotType?, hkC, hkind, tyC, hv]
  have hskip : SkipFacts T e.platform s (fun u => u) ⟨U, hUr⟩ ((preparedCellV T.toThrowableT cell a ⟨U, hUr⟩ ⟨N, hNr⟩).withEntry Ts.cur) := by
    refine ⟨{ ci198 := ci198, i198 := i198, fBack := fB }, ⟨hk198, hg198, ha198, hsB⟩, ?_, fun _ _ => rfl⟩
    have h4 := q4.2 4 .null rfl
    show (((cell.slots.setIfInBounds T.fCause.slot _).setIfInBounds T.fStack.slot _).setIfInBounds T.fSupp.slot _)[fB.slot]? = some .null
    rw [fC, fS, fP, fB4, Array.getElem?_setIfInBounds_ne (hap 2 4 (by decide) (by decide) (by decide)), Array.getElem?_setIfInBounds_ne (hap 1 4 (by decide) (by decide) (by decide)), Array.getElem?_setIfInBounds_ne (hap 0 4 (by decide) (by decide) (by decide))]
    exact h4
  have hcs : (st.map fun v => v.category).sum ≤ 8 := hst
  obtain ⟨tm, methC, cdC, kD, vm₁, hnC, -, -, -, -, -, -, -, hW₁, st1⟩ := Steps.initCold (tb := p.tables) (e := e) (below := below) (s := s) (U := Ts) Xb.here hx Xb.warmed hpl hown (t := Bundle.init0 "java/lang/Exception") rfl rfl (by decide)
    (hts _ hw) (hts _ q665) (bytes := Bundle.five) (maxL := 1) (hts _ q666)
    (f := F0 m pc ls (va_rf (some a) :: st)) rfl (a := a) (rest := st) rfl (by rw [hb]; exact hd)
  cases hnC.symm.trans hP1m
  have X₁ := Xb.noted hW₁
  have hT1 : (Ts.setVm vm₁).heap[a]? = some cell := by show Ts.heap[a]? = _; rw [hT]; exact q1
  have hdg : decode c.code pc = .ok (.invokespecial ic, 3) := by rw [hb]; exact hd
  obtain ⟨vm₂, X₂, st2⟩ := X₁.ctorPlainOffV hx (g := { F0 m pc ls (va_rf (some a) :: st) with stack := st }) rfl (by show ls.size = _; rw [hL.1, hml]) T Lk Z LZ [P1]
    (fun P hP => by rcases List.mem_cons.mp hP with rfl | hP; exact L1; cases hP) ⟨hlink1, hlink⟩ (u0 := ⟨U, hUr⟩) (sen := ⟨N, hNr⟩) (self := a) (cell := cell) (cellS := cell4)
    hT1 (fun k => q3.nost k) q3.known (q3.2 hba).1 (q3.2 hba).2 hsel0 hselF hcS hneS (fun h => by rw [h] at u6; cases u6) u7 v7
    (tk 0 (by decide) _ _ _ _ _ Y.cause (hts _ q633) (by rw [Y.causeType]; rfl)) (tk 1 (by decide) _ _ _ _ _ Y.stack (hts _ q635) (by rw [Y.stackType]; exact fits_refV_array _ ⟨U, hUr⟩)) (tk 2 (by decide) _ _ _ _ _ Y.supp (hts _ q637) (by rw [Y.suppType]; exact fits_refV_object _ ⟨N, hNr⟩)) Y.objLocals hskip htr [] hdg
    (by show 1 + 2 < R.frames; omega) (by show 2 * 0 + (st.map fun v => v.category).sum + (13 * 1 + 41) ≤ R.locals; omega)
  have hlt : a < H.size := (Array.getElem?_eq_some_iff.mp q1).1
  subst hA
  have X5 := px_back9 X Xb0 X₂
  have X6 : Stand p E.1 e R s0 m args below meth c (((Ts.setVm vm₁).setVm vm₂).setCell a ((preparedCellV T.toThrowableT cell a ⟨U, hUr⟩ ⟨N, hNr⟩).setSlot T.fStack.slot U)) (locs ++ [⟨a, T.fCause.slot⟩, ⟨a, T.fStack.slot⟩, ⟨a, T.fSupp.slot⟩, ⟨a, T.fStack.slot⟩]) cells slots := X5
  have hz : ∀ i, i < 8 → E.2.2.1 5 i < cell.slots.size := fun i hi => by
    obtain ⟨_, -, z⟩ := hsl i hi
    exact (Array.getElem?_eq_some_iff.mp z).1
  have hnew : ∀ (j : Nat) (v : Value), ([.ref a, U, N, .null, .null, .int 0, .int 0, .int 0] : List Value)[j]? = some v → ((((cell.slots.setIfInBounds (E.2.2.1 5 0) (.ref a)).setIfInBounds (E.2.2.1 5 1) U).setIfInBounds (E.2.2.1 5 2) N).setIfInBounds (E.2.2.1 5 1) U)[E.2.2.1 5 j]? = some v := by
    intro j v hv
    have h0 := hz 0 (by decide)
    have h1 := hz 1 (by decide)
    have h2 := hz 2 (by decide)
    have far : ∀ j, j < 8 → 3 ≤ j → ((((cell.slots.setIfInBounds (E.2.2.1 5 0) (.ref a)).setIfInBounds (E.2.2.1 5 1) U).setIfInBounds (E.2.2.1 5 2) N).setIfInBounds (E.2.2.1 5 1) U)[E.2.2.1 5 j]? = cell.slots[E.2.2.1 5 j]? := fun j h8 h3 => by
      rw [Array.getElem?_setIfInBounds_ne (hap 1 j (by decide) h8 (by omega)), Array.getElem?_setIfInBounds_ne (hap 2 j (by decide) h8 (by omega)), Array.getElem?_setIfInBounds_ne (hap 1 j (by decide) h8 (by omega)), Array.getElem?_setIfInBounds_ne (hap 0 j (by decide) h8 (by omega))]
    match j, hv with
    | 0, hv => cases hv; rw [Array.getElem?_setIfInBounds_ne (hap 1 0 (by decide) (by decide) (by decide)), Array.getElem?_setIfInBounds_ne (hap 2 0 (by decide) (by decide) (by decide)), Array.getElem?_setIfInBounds_ne (hap 1 0 (by decide) (by decide) (by decide))]; simp [Array.getElem?_setIfInBounds, h0]
    | 1, hv => cases hv; simp [Array.getElem?_setIfInBounds, h1]
    | 2, hv => cases hv; rw [Array.getElem?_setIfInBounds_ne (hap 1 2 (by decide) (by decide) (by decide))]; simp [Array.getElem?_setIfInBounds, h2]
    | 3, hv => cases hv; rw [far 3 (by decide) (by decide)]; exact q4.2 3 _ rfl
    | 4, hv => cases hv; rw [far 4 (by decide) (by decide)]; exact q4.2 4 _ rfl
    | 5, hv => cases hv; rw [far 5 (by decide) (by decide)]; exact q4.2 5 _ rfl
    | 6, hv => cases hv; rw [far 6 (by decide) (by decide)]; exact q4.2 6 _ rfl
    | 7, hv => cases hv; rw [far 7 (by decide) (by decide)]; exact q4.2 7 _ rfl
    | j + 8, hv => simp at hv
  have hpa : pw_at E a (5, [.ref a, U, N, .null, .null, .int 0, .int 0, .int 0]) (H.setIfInBounds a ((preparedCellV T.toThrowableT cell a ⟨U, hUr⟩ ⟨N, hNr⟩).setSlot T.fStack.slot U)) := by
    refine ⟨(preparedCellV T.toThrowableT cell a ⟨U, hUr⟩ ⟨N, hNr⟩).setSlot T.fStack.slot U, by simp [Array.getElem?_setIfInBounds, hlt], q2, q3, ?_⟩
    rw [if_pos (show (5, ([.ref a, U, N, .null, .null, .int 0, .int 0, .int 0] : List Value)).1 < 1000 from by show 5 < 1000; decide)]
    refine ⟨rfl, fun j v hv => ?_⟩
    show ((((cell.slots.setIfInBounds T.fCause.slot _).setIfInBounds T.fStack.slot _).setIfInBounds T.fSupp.slot _).setIfInBounds T.fStack.slot _)[E.2.2.1 5 j]? = some v
    rw [fC, fS, fP]
    exact hnew j v hv
  obtain ⟨t9, a1, b1⟩ := kk _ _ (hH.set hba (by simp) (fun q hq => by simp [Array.getElem?_setIfInBounds, Ne.symm hq]) hpa)
    (fun q hq => by
      simp only [List.mem_cons, List.not_mem_nil, or_false] at hq
      rcases hq with rfl | rfl | rfl | rfl <;> exact hba)
    _ (by rw [← hT]; rfl) X6
  refine ⟨t9, st1 _ (fun acts => ?_), b1⟩
  rw [doInvoke_state]
  exact st2 _ a1
def f_fault (E : pw_E) (d : Nat) (w : pw_W) (o : Option Nat) (K : pw_W → Prop) : Prop := 3 ≤ d ∧ ∃ (a : Nat) (u n : Option Nat), o = some a ∧ w.1 a = some (5, pw_df 5) ∧ pw_base E ≤ a ∧ E.2.2.2.2 4 = va_rf u ∧ E.2.2.2.2 5 = va_rf n ∧ K (pw_up w a (5, [.ref a, va_rf u, va_rf n, .null, .null, .int 0, .int 0, .int 0]))
theorem r_faultF {ic : Nat} (hd : decode M.2.1 pc = .ok (.invokespecial ic, 3)) (hw : Cond.methodLink M.1.cls ic (Bundle.init0 "java/lang/Exception") ∈ lw_all) {o : Option Nat} {K : pw_W → Prop} (H : f_fault E d w o K) (hst : pw_cs st) (kk : ∀ w', K w' → pw_Wp E M (d + 1) (pc + 3) L st w' Post) : pw_Wp E M (d + 1) pc L (va_rf o :: st) w Post := by
  obtain ⟨h3, a, u, n, rfl, ha, hba, hu, hn, H⟩ := H
  exact r_fault hd hw ha hba hu hn (by omega) hst (kk _ H)
/-- caught by the one row of this method's table -/
theorem r_catch (x : ExceptionTableEntry) (hx : tableOf M.2.2.2.2 = [x]) (hc : covers x pc = true) (h0 : x.catchType ≠ 0) (tgt : Nat) (ht : x.handlerPc = tgt) (hl : Cond.classLink M.1.cls x.catchType "VersionSearch$Fault" ∈ lw_all) {q : Nat} {us : List Value} (hq : w.1 q = some (5, us)) (hb : pw_base E ≤ q)
    (kk : pw_Wp E M d tgt L [va_rf (some q)] w Post) : pw_Wx E M d q pc L w Post := by
  obtain ⟨r, w', hp, h1, h2, h3⟩ := kk
  refine ⟨r, w', hp, fun st => ⟨h1, h2, ?_⟩⟩
  intro p e R s m args below meth c H locs cells slots ls hC hf hl9 hcc hss hH hql hL
  have k9 := h3 p e R s m args below meth c H locs cells slots ls hC hf hl9 hcc hss hH hql hL
  obtain ⟨hx9, hb1, hr, hlocks, hml, hown, -, hts, hO, htb⟩ := hC
  obtain ⟨cell, q1, q2, q3, q4⟩ := hH.2.2.2 q _ hq
  have hat := (hO.1 5 _ rfl).2
  exact px_catch hown [] x [] (by rw [htb, hx]; rfl) (fun z hz => by cases hz) hc h0 (hts _ hl) (va_Nw.use rfl (hO.2.2.2.1 _ q626 rfl)) q1 (q3.own hb) (by rw [q2]; exact hat.1) (by rw [ht]; exact k9)
/-- a thrown object that is caught here -/
def x_in (E : pw_E) (w : pw_W) (q : Nat) (F : Prop) : Prop := ∃ us : List Value, w.1 q = some (5, us) ∧ pw_base E ≤ q ∧ F
end
