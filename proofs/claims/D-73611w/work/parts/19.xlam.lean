set_option maxRecDepth 100000
/-! lambdas: made at a site, called through their interface -/
def lm_fits : List FieldType → List Value → Prop
  | [], [] => True
  | t :: ts, v :: vs => narrow t v = v ∧ fits t v = true ∧ lm_fits ts vs
  | _, _ => False
theorem lm_fits_len : ∀ {ts : List FieldType} {vs : List Value}, lm_fits ts vs → vs.length = ts.length
  | [], [], _ => rfl
  | _ :: _, _ :: _, h => by rw [List.length_cons, List.length_cons, lm_fits_len h.2.2]
theorem lm_fits_nar : ∀ {ts : List FieldType} {vs : List Value}, lm_fits ts vs → ((ts.zip vs).map fun (t, v) => narrow t v) = vs
  | [], [], _ => rfl
  | _ :: _, _ :: _, h => by rw [List.zip_cons_cons, List.map_cons, lm_fits_nar h.2.2]; show narrow _ _ :: _ = _; rw [h.1]
theorem lm_fits_at : ∀ {ts : List FieldType} {vs : List Value}, lm_fits ts vs → ∀ {i : Nat} {v : Value}, vs[i]? = some v → ∃ t : FieldType, ts[i]? = some t ∧ fits t v = true
  | [], [], _, i, v, hv => by simp at hv
  | t :: _, _ :: _, h, 0, v, hv => by cases hv; exact ⟨t, rfl, h.2.1⟩
  | _ :: _, _ :: _, h, i + 1, v, hv => by
    obtain ⟨t, h1, h2⟩ := lm_fits_at h.2.2 (i := i) (v := v) (by simpa using hv)
    exact ⟨t, by simpa using h1, h2⟩
theorem lm_weaken {tb : Tables} {e : Env} {mid below : List Frame} {a b : State} (h : Steps tb e (mid ++ below) a b) : Steps tb e below a b := by
  obtain ⟨n, hn, w⟩ := h
  exact ⟨n, hn, fun k hk => (w k hk).weaken⟩
theorem lm_via {vm : Vm} {c : ClassId} {name desc : String} {k : Class} {m : MethodId} (hk : vm.classes[c]? = some k) (h : ((methodIn c name desc true none).ask { classPath := fun _ => none } vm).1 = .ok m) : k.isInterface = true := by
  cases hi : k.isInterface with
  | true => rfl
  | false => simp [methodIn, VmM.ask, VmM.bind_run, getClass, VmM.getVm, hk, hi, VmM.pure_run, VmM.failAs] at h
/-- the method found is the one that is named -/
theorem lm_found {U : State} {y : MethodName} {t : ClassId} {k : Class} {mk tg : MethodId} (hn : U.methodNamed? y = some mk) (hy : y.cls ≠ "java/lang/invoke/MethodHandle" ∧ y.cls ≠ "java/lang/invoke/VarHandle")
    (ht : U.vm.findClass y.cls = some t) (hk : U.vm.classes[t]? = some k) (h : ((methodIn t y.name y.desc k.isInterface none).ask { classPath := fun _ => none } U.vm).1 = .ok tg) : tg = mk := by
  have h1 := State.methodFound?_of_named hn hy
  simp only [State.methodFound?, ht, hk, Option.bind_eq_bind, Option.bind_some] at h1
  rw [h] at h1
  exact Option.some.inj h1
section
variable {E : pw_E} {M : pw_M} {d pc : Nat} {L : List (Option Value)} {st stk : List Value} {w : pw_W} {Post : pw_R → pw_W → Prop}
/-- invokedynamic at the site i -/
theorem r_dyn {i : Nat} {q : lm_S} {K : lm_K} (hq : pw_la[i]? = some q) (hK : lm_ok q.1.cls q.2.2.2 K) (hM : q.1 = M.1) (hpc : q.2.1 = pc) {index : Nat} (hi : q.2.2.1 = index) (hd : decode M.2.1 pc = .ok (.invokedynamic index, 5))
    {cv : List Value} (hs : stk = cv.reverse ++ st) (hf : lm_fits q.2.2.2.captured cv) {n : Nat} (hn : cv.length = n) (hd50 : 50 ≤ d) (hst : pw_cs stk) (k : pw_Wp E M d (pc + 5) L (va_rf (some w.2.1) :: st) (pw_new w (2000 + i, cv) n) Post) : pw_Wp E M d pc L stk w Post := by
  subst hs
  subst hn
  subst hi
  subst hpc
  refine pw_goN (n := cv.length) rfl rfl (fun p e R s m args below meth c H locs cells slots ls Q hC hf' hl hH hL hc1 hc2 kk => ?_) k
  obtain ⟨hx, hb, -, -, hml, hown, ⟨-, hnm⟩, -, hO, -⟩ := hC
  intro T hT X
  have hla := hO.2.2.2.2.2.2.2.2.2.1 i q hq
  have hF := hla.facts hK
  obtain ⟨⟨m', k0, cf, i0, p0, h1, h2, h3, h4, h5, h6⟩, -, -⟩ := hla
  rw [hM] at h1
  cases h1.symm.trans hnm
  obtain ⟨kc, -, -, -, -, -, -, -, -, ⟨f1, -, f3, -, f5⟩, -⟩ := hF
  obtain ⟨b, nt, name, desc, sig, g1, g2, g3, g4⟩ := lm_shape h4
  have hnar : ((kc.instanceTypes.toList.zip cv).map fun (t, v) => narrow t v) = cv := by rw [f5]; exact lm_fits_nar hf
  have hcs := hst
  unfold pw_cs at hcs
  obtain ⟨X', step⟩ := X.lambdaMakes hx (g := F0 m q.2.1 ls (cv.reverse ++ st)) rfl (by rw [hml]; exact hL.1) (by rw [hb]; exact hd) h2 h5 h3 g1 g2 g3 (vals := cv) (rest := st) (by rw [g4]; exact lm_fits_len hf) rfl f1
    (by rw [X.admits.platform]; show 2 * 0 + ((cv.reverse ++ st).map fun v => v.category).sum + 3072 ≤ _; omega) hc1 (by rw [hnar]; exact hc2)
    (by
      rw [hnar]
      intro j v hv
      obtain ⟨t, t1, t2⟩ := lm_fits_at hf (i := j) (v := v) (by simpa using hv)
      have t3 : kc.instanceTypes[j]? = some t := by rw [← Array.getElem?_toList, f5]; exact t1
      simp [State.fitsSlot, State.slotType?, f1, f3, t3, t2])
  rw [hnar] at X' step
  rw [List.size_toArray] at X'
  have hz : T.heap.size = w.2.1 := by rw [hT]; exact hH.1
  obtain ⟨t, a1, a2⟩ := kk (H.push { cls := E.2.1 (2000 + i), slots := cv.toArray, vm := .none }) (hH.push (by simp) (fun q hq => by rw [Array.getElem?_push, if_neg (by omega)]) ⟨{ cls := E.2.1 (2000 + i), slots := cv.toArray, vm := .none }, by simp, rfl, ⟨Or.inl rfl, fun _ => ⟨rfl, rfl⟩⟩, by rw [if_neg (show ¬ 2000 + i < 1000 by omega)]⟩)
    (T.pushCell { cls := E.2.1 (2000 + i), slots := cv.toArray, vm := .none }) (by rw [← hT]; rfl) X'
  refine ⟨t, step t ?_, a2⟩
  rw [hz]
  exact a1
/-- the made method's run: from its entry to its end with v -/
def lm_In (E : pw_E) (q : lm_S) (K : lm_K) (i d a : Nat) (av : List Value) (w w1 : pw_W) (v : Value) : Prop :=
  w.2.1 ≤ w1.2.1 ∧ w.2.2 ≤ w1.2.2 ∧ ∀ (p : Program) (e : Env) (R : Room) (s : State) (mk : MethodId) (below : List Frame) (meth : Method) (c : Code) (H : Heap) (ls : Array Slot),
    p.tables.exec = Jvm.exec → (∀ x ∈ lw_all, x.before (Value.ref a :: av).toArray s = true) → pw_Ok E s → mk = ⟨E.2.1 (2000 + i), 1⟩ → c.code = K.1 → c.maxLocals = K.2.1 → meth.locks = false → meth.sig = q.2.2.2.sam →
    d ≤ R.frames → 64 * d ≤ R.locals → w1.2.1 - w.2.1 ≤ R.cells → w1.2.2 - w.2.2 ≤ R.slots → pw_Hp E w H → lv_has ls K.2.1 (lv_args 0 (.ref a :: av)) →
    W p E.1 e R s mk (Value.ref a :: av).toArray below meth c H [] 0 0 (MQ below (pw_Qc E (.inl (some v)) w1) (Value.ref a :: av).toArray s (w1.2.1 - w.2.1) (w1.2.2 - w.2.2) (pw_fr E)) (F0 mk 0 ls [])
theorem lm_enter {i : Nat} {q : lm_S} {K : lm_K} (hq : pw_la[i]? = some q) (hK : lm_ok q.1.cls q.2.2.2 K) (hpn : plainName (q.1.cls ++ "$$Lambda") = true) {index count : Nat} (hd : decode M.2.1 pc = .ok (.invokeinterface index count, 5))
    (x : MethodName) (hx1 : q.2.2.2.iface = x.cls) (hx2 : q.2.2.2.name = x.name) (hx3 : q.2.2.2.sam.toString = x.desc) (h1 : Cond.methodLink M.1.cls index x ∈ lw_all) (h2 : Cond.declares x ∈ lw_tbl)
    {a : Nat} {cv av : List Value} (hy : pw_ny x av.length) (hlen : (lg_sl (Value.ref a :: av)).length = K.2.1) (hml : K.2.1 ≤ 3) (ha : w.1 a = some (2000 + i, cv)) (hs : stk = av.reverse ++ va_rf (some a) :: st) (hst : pw_cs st) {e : Nat} (hde : d = e + 1) {w1 : pw_W} {v : Value}
    (hin : lm_In E q K i e a av w w1 v) (k : pw_Wp E M d (pc + 5) L (v :: st) w1 Post) : pw_Wp E M d pc L stk w Post := by
  subst hs
  subst hde
  obtain ⟨u1, u2, hin⟩ := hin
  obtain ⟨r, w', hp, k1, k2, k3⟩ := k
  refine ⟨r, w', hp, by omega, by omega, ?_⟩
  intro p e' R s m args below meth c H locs cells slots ls hC hf hl hc hs hH hql hL
  intro T hT X
  have hC0 := hC
  obtain ⟨hx, hb, -, -, hmL, hown, -, hts, hO, -⟩ := hC
  obtain ⟨cell, p1, p2, p3, p4⟩ := hH.2.2.2 a _ ha
  have hla := hO.2.2.2.2.2.2.2.2.2.1 i q hq
  obtain ⟨kc, tk, file, methk, ck, t, iface, tg, found, ⟨f1, f2, f3, f4, f5⟩, ⟨b1, b2, b3, b4, b5, b6, b7, b8⟩, -, ⟨i1, i2, i3⟩, -⟩ := hla.facts hK
  obtain ⟨r0, rm, hn, hrm, hstR, hsigR⟩ := Cond.declares_spec (va_Nw.use rfl (hO.2.2.2.1 _ h2 rfl) : (Cond.declares x).before args s = true)
  have hcls0 : s.vm.findClass x.cls = some r0.cls := findClass_of_methodNamed hn
  rw [hx1] at i1
  cases i1.symm.trans hcls0
  obtain ⟨ki, hki, -⟩ := className_of_methodNamed hn
  rw [hx2, hx3] at i2
  have hii := lm_via hki i2
  obtain rfl : found = r0 := lm_found hn hy.1 hcls0 hki (by rw [hii]; exact i2)
  obtain ⟨j1, j2, j3, j4⟩ := State.lambdaCallable_spec hla.2.1
  rw [hx1] at j2
  cases j2.symm.trans hcls0
  obtain ⟨hnameR, hdescR⟩ := name_of_methodNamed hn hrm
  rw [hx2, hx3] at j4
  have hl' : av.length = rm.sig.parameters.length := by
    have := hy.2
    rw [hsigR] at this
    exact (Option.some.inj this).symm
  obtain ⟨vm₁, X₁, hstep₁⟩ := X.invokeinterface hx hown (hts _ h1) hn hrm hstR hki hii hy.1 (a := a) (cell := cell) (kcell := kc) (by rw [hT]; exact p1) (fun z hz => p3.nost z hz) (by rw [p2]; exact f1) (by rw [p2]; exact j3)
    (m' := ⟨E.2.1 (2000 + i), 1⟩) (meth' := methk) (by rw [Launch.admits_selectMethod X.admits, p2]; exact i3) b1 (by rw [hnameR, hdescR, p2]; exact j4) (by rw [b6]; decide) (by simp [Method.isAbstract, b6, hasFlag, Acc.abstract])
    (g := F0 m pc ls (av.reverse ++ va_rf (some a) :: st)) rfl (argsL := av) (rest := st) hl' rfl (by rw [hb]; exact hd)
  have hW1 : s.WarmedH vm₁ := X₁.warmed
  obtain ⟨kc₁, tk₁, file₁, methk₁, ck₁, t₁, iface₁, tg₁, found₁, ⟨f1₁, f2₁, -, -, -⟩, ⟨b1₁, b2₁, b3₁, b4₁, b5₁, b6₁, b7₁, b8₁⟩, -⟩ := (hla.warm (U := T.setVm vm₁) hW1).facts hK
  have hsz : (F0 m pc ls st).locals.size = c.maxLocals := by show ls.size = _; rw [hL.1, hmL]
  have hcs := hst
  unfold pw_cs at hcs
  obtain ⟨Y₀, hent⟩ := X₁.into (g := F0 m pc ls st) rfl hsz (ig := .invokeinterface index count) (len := 5) (by rw [hb]; exact hd) (Value.ref a :: av).toArray (mk := ⟨E.2.1 (2000 + i), 1⟩) (R' := { frames := e, cells := w1.2.1 - w.2.1, slots := w1.2.2 - w.2.2, locals := 64 * e }) b1₁ b2₁ b5₁
    (fun k hk => plain_of_name (by cases f1₁.symm.trans hk; rw [f2₁]; exact hpn))
    (by show e + 1 ≤ _; exact hf) (by show 2 * 0 + (st.map fun v => v.category).sum + (ck₁.maxLocals + 11) + 64 * e ≤ _; rw [b4₁]; omega) (by show cells + (w1.2.1 - w.2.1) ≤ _; omega) (by show slots + (w1.2.2 - w.2.2) ≤ _; omega)
  have hle := lv_entry (Value.ref a :: av) (n := K.2.1) (by rw [hlen]; exact Nat.le_refl _)
  have hrun := hin p e' _ _ _ _ _ _ _ ((lg_sl (Value.ref a :: av) ++ List.replicate (K.2.1 - (lg_sl (Value.ref a :: av)).length) Slot.unset).toArray) hx (fun x hxx => pay_in hts lw_self x hxx _ _ hW1) (hO.warm hW1) rfl b3₁ b4₁ b5₁ b7₁ (Nat.le_refl e) (Nat.le_refl _) (Nat.le_refl _) (Nat.le_refl _) hH hle
    ((T.setVm vm₁).setTop (F0 m pc ls st) |>.pushFrame (.java (entryFrame ⟨E.2.1 (2000 + i), 1⟩ (Value.ref a :: av).toArray ck₁.maxLocals))) (by rw [← hT]; rfl) Y₀
  obtain ⟨t9, hst9, o, -, hended, ⟨v', hv', rfl, hH1⟩, L9, ⟨-, hW9, hframe9⟩, hL9⟩ := hrun
  cases hv'
  obtain ⟨T', X', hW', -, ht⟩ := X₁.outOf (g := F0 m pc ls st) rfl (ig := .invokeinterface index count) (len := 5) (by rw [hb]; exact hd) hended hW9 hframe9
  have e1 : T'.heap = t9.heap := by rw [ht]; rfl
  have := k3 p e' R s m args below meth c T'.heap (locs ++ L9) (cells + (w1.2.1 - w.2.1)) (slots + (w1.2.2 - w.2.2)) ls hC0 hf hl (by omega) (by omega) (by rw [e1]; exact hH1) (fun z hz => by
    rcases List.mem_append.mp hz with h | h
    · exact hql z h
    · exact hL9 z h) hL
  rw [show cells + (w1.2.1 - w.2.1) + (w'.2.1 - w1.2.1) = cells + (w'.2.1 - w.2.1) by omega, show slots + (w1.2.2 - w.2.2) + (w'.2.2 - w1.2.2) = slots + (w'.2.2 - w.2.2) by omega] at this
  obtain ⟨t10, a1, a2⟩ := this T' rfl X'
  refine ⟨t10, hstep₁ _ (fun acts => ?_), a2⟩
  rw [hent acts]
  refine Steps.trans (lm_weaken (mid := [.java (F0 m pc ls st)]) ?_) (ht ▸ a1)
  have ee : entryFrame ⟨E.2.1 (2000 + i), 1⟩ (Value.ref a :: av).toArray ck₁.maxLocals = F0 ⟨E.2.1 (2000 + i), 1⟩ 0 ((lg_sl (Value.ref a :: av) ++ List.replicate (K.2.1 - (lg_sl (Value.ref a :: av)).length) Slot.unset).toArray) [] := by rw [b4₁, lg_entry_eq]
  rw [← ee] at hst9
  exact hst9
/-- what a made method answers -/
def lm_rv (K : lm_K) (pc : Nat) (ret : Option FieldType) (v : Value) : Prop :=
  (∃ (x : Int32) (ty : FieldType), v = .int x ∧ ret = some ty ∧ narrow ty (.int x) = .int x ∧ decode K.1 pc = .ok (.ireturn, 1)) ∨ (∃ (o : Option Nat) (ty : FieldType), v = va_rf o ∧ ret = some (.array ty) ∧ decode K.1 pc = .ok (.areturn, 1))
theorem lm_call {p : Program} {e : Env} {R : Room} {s : State} {m : MethodId} {args : Array Value} {below : List Frame} {meth : Method} {c : Code} {H : Heap} {My : pw_M} {dy : Nat} {av : List Value} {w1 : pw_W} {v : Value} (hEv : pw_Ev E My dy av w (.inl (some v)) w1) (hk : pw_known My)
    (hts : ∀ w ∈ lw_all, w.before args s = true) (hO : pw_Ok E s) (hd1 : dy + 1 ≤ d) (hf : d ≤ R.frames) (hl : 64 * d ≤ R.locals) (hc : w1.2.1 - w.2.1 ≤ R.cells) (hs : w1.2.2 - w.2.2 ≤ R.slots) (hH : pw_Hp E w H) {ls : Array Slot} {ig : Instr} (hsz : ls.size = c.maxLocals) (hdg : decode c.code pc = .ok (ig, 3))
    (step : ∀ T : State, T.heap = H → Stand p E.1 e R s m args below meth c T [] 0 0 → ∃ mk : MethodId, T.methodNamed? My.1 = some mk ∧ ∀ target, Steps p.tables e below (doInvoke e (T.setTop (F0 m pc ls [])) [] mk av.toArray).1 target → Steps p.tables e below (T.setTop (F0 m pc ls stk)) target)
    {Q : State → Prop} (k : ∀ (H1 : Heap) (L9 : List Loc), pw_Hp E w1 H1 → (∀ q ∈ L9, pw_base E ≤ q.base) → W p E.1 e R s m args below meth c H1 L9 (w1.2.1 - w.2.1) (w1.2.2 - w.2.2) Q (F0 m (pc + 3) ls [v])) : W p E.1 e R s m args below meth c H [] 0 0 Q (F0 m pc ls stk) := by
  intro T hT X
  obtain ⟨mk, hn, hstep⟩ := step T hT X
  rcases hEv.back hk (e := e) (below := below) hts hd1 hf hl m meth c ⟨T, [], 0, 0⟩ (F0 m pc ls []) ig mk av.toArray X rfl hsz hdg (by show 2 * 0 + 0 ≤ 8; omega) hn
    ⟨by show 0 + _ ≤ _; omega, by show 0 + _ ≤ _; omega, rfl, hO.warm X.warmed, by show pw_Hp E w T.heap; rw [hT]; exact hH⟩ with ⟨v', ⟨U', l2, c2, s2⟩, X', ⟨g', mk', t, L9, e1, e2, hqc, h1, hL9, h2, h3⟩, st9⟩ | ⟨q, ⟨U', l2, c2, s2⟩, X', ⟨g', mk', t, L9, F, ce, e1, e2, hxc, -⟩, st9⟩
  · dsimp only [Pt.U, Pt.locs, Pt.cells, Pt.slots] at X' e1 e2 h1 h2 h3 st9
    rw [h1, h2, h3] at X'
    obtain ⟨v2, hv2, hv3, hH1⟩ := hqc
    cases hv2
    cases hv3
    simp only [List.nil_append, Nat.zero_add] at X'
    obtain ⟨t9, a1, b1⟩ := k U'.heap L9 (by rw [e1]; exact hH1) hL9 U' rfl X'
    exact ⟨t9, hstep _ (st9.trans a1), b1⟩
  · obtain ⟨hr, -, -⟩ := hxc
    cases hr
theorem lm_end {p : Program} {e : Env} {R : Room} {s : State} {m : MethodId} {args : Array Value} {below : List Frame} {meth : Method} {c : Code} {H : Heap} {K : lm_K} {ret : Option FieldType} {v : Value} {ls : Array Slot} {locs : List Loc} {cells slots : Nat} (hx : p.tables.exec = Jvm.exec) (hb : c.code = K.1) (hlk : meth.locks = false) (hr : meth.sig.returnType = ret) (hv : lm_rv K pc ret v)
    (hH : pw_Hp E w H) (hq : ∀ q ∈ locs, pw_base E ≤ q.base) : W p E.1 e R s m args below meth c H locs cells slots (MQ below (pw_Qc E (.inl (some v)) w) args s cells slots (pw_fr E)) (F0 m pc ls [v]) := by
  subst hr
  rcases hv with ⟨x, ty, rfl, h1, h2, h3⟩ | ⟨o, ty, rfl, h1, h3⟩
  · exact W.zret hx hb h1 h2 (fun t ht _ => ⟨_, rfl, rfl, by rw [ht]; exact hH⟩) hq h3
  · exact W.aret hx hb h1 (Or.inr ⟨ty, rfl⟩) (by cases o with
      | none => exact Or.inl rfl
      | some a => exact Or.inr ⟨a, rfl⟩) (fun t ht _ => ⟨_, rfl, rfl, by rw [ht]; exact hH⟩) hq h3
/-- the made method calls My by what the site says -/
def lm_my (q : lm_S) (My : pw_M) : Prop := q.2.2.2.implClass = My.1.cls ∧ q.2.2.2.implName = My.1.name ∧ q.2.2.2.implDesc.toString = My.1.desc
theorem lm_runS {i : Nat} {q : lm_S} {K : lm_K} (hq : pw_la[i]? = some q) (hK : lm_ok q.1.cls q.2.2.2 K) {pcI a : Nat} {cv av : List Value} (hld : lm_Ld K pcI K.2.1 a cv av) {My : pw_M} (hMy : lm_my q My) (hk : pw_known My) (hny : pw_ny My.1 (cv ++ av).length) (hstw : Cond.static My.1 ∈ lw_all) (ha : w.1 a = some (2000 + i, cv))
    (hinv : decode K.1 pcI = .ok (.invokestatic K.2.2.2.1, 3)) {dy : Nat} {w1 : pw_W} {v : Value} (hEv : pw_Ev E My dy (cv ++ av) w (.inl (some v)) w1) (hret : lm_rv K (pcI + 3) q.2.2.2.sam.returnType v) {e : Nat} (hde : dy + 1 ≤ e) : lm_In E q K i e a av w w1 v := by
  have hE := hEv
  obtain ⟨u1, u2, -⟩ := hE
  refine ⟨u1, u2, ?_⟩
  intro p e' R s mk below meth c H ls hx hts hO hmk hb hmL hlk hsig hf hl hc hs hH hls
  subst hmk
  obtain ⟨cell, p1, p2, p3, p4⟩ := hH.2.2.2 a _ ha
  rw [if_neg (show ¬ 2000 + i < 1000 by omega)] at p4
  have hla := hO.2.2.2.2.2.2.2.2.2.1 i q hq
  refine hld p E.1 e' R s _ _ below meth c H _ cell ls hx hb (fun y hy U hW => ?_) p1 p3.known p4 hls ?_
  · obtain ⟨kc, tk, file, methk, ck, t, iface, tg, found, -, -, -, -, -, -, hfl⟩ := (hla.warm (U := U) hW).facts hK
    exact hfl y hy
  · refine lm_call hEv hk hts hO hde hf hl hc hs hH (hls.1.trans hmL.symm) (by rw [hb]; exact hinv) (fun T hT X => ?_) (fun H1 L9 hH1 hL9 => lm_end hx hb hlk (by rw [hsig]) hret hH1 hL9)
    obtain ⟨mkM, methM, hnM, hmM, hsgM⟩ := pw_cw_sg (hts _ hk.1)
    have hnT := X.named hnM
    refine ⟨mkM, hnT, fun target h => ?_⟩
    obtain ⟨kc, tk, file, methk, ck, t, iface, tg, found, ⟨f1, -, -, f4, -⟩, -, ⟨t1, t2, t3, t4⟩, -, ⟨g1, g2⟩, ⟨r1, r2⟩, -⟩ := (hla.warm (U := T) X.warmed).facts hK
    rw [hMy.1] at t1
    rw [hMy.2.1, hMy.2.2] at t4 g2
    obtain rfl : tg = mkM := lm_found hnT hny.1 t1 t2 t4
    have hpay := fun x hx' => pay_in hts lw_self x hx' (Value.ref a :: av).toArray T X.warmed
    have hmT : T.vm.method? tg = some methM := by rw [X.warmed.alike.method?]; exact hmM
    have hstatic := Cond.static_spec hnT hmT (hpay _ hstw)
    obtain ⟨kP, hkP, hnameP⟩ := className_of_methodNamed hnT
    have hinit := Cond.initialized_spec (findClass_of_methodNamed hnT) hkP (hpay _ hk.2.1)
    have hpoly : signaturePolymorphic kP methM = false := by simp [signaturePolymorphic, hnameP, hny.1.1, hny.1.2]
    obtain ⟨kt, hkt, hnamet⟩ := Vm.findClass_spec t1
    cases t2.symm.trans hkt
    obtain ⟨bb, hask⟩ := memberRef_ask' (e := e') f1 f4 (Or.inl g1) g2
    have hlen : (cv ++ av).length = methM.sig.parameters.length := by
      have := hny.2
      rw [hsgM] at this
      exact (Option.some.inj this).symm
    have hdg' : decode c.code pcI = .ok (.invokestatic K.2.2.2.1, 3) := by rw [hb]; exact hinv
    generalize hstk : (cv ++ av).reverse = stk9
    jvm_step X.here [X.here.top, hx, hdg', invokestatic.wp_ready (e := e') (s := T) (m := tg) (k := kP) (meth := methM) (args := cv ++ av) (rest := []) (f := F0 ⟨E.2.1 (2000 + i), 1⟩ pcI ls stk9) X.here.top ⟨_, _, _, bb, t, tk, hask, r2, t2, by simp [signaturePolymorphic, hnamet, hny.1.1, hny.1.2]⟩ r1 hkP hmT hpoly hstatic hinit hlen (by rw [List.append_nil]; exact hstk.symm)]
    intro acts
    rw [doInvoke_state]
    exact h
theorem lm_runV {i : Nat} {q : lm_S} {K : lm_K} (hq : pw_la[i]? = some q) (hK : lm_ok q.1.cls q.2.2.2 K) {pcI a b : Nat} {cv av : List Value} (hld : lm_Ld K pcI K.2.1 a (.ref b :: cv) av) {My : pw_M} (hMy : lm_my q My) (hk : pw_known My) (hny : pw_ny My.1 (cv ++ av).length) (h2 : Cond.instanceMethod My.1 ∈ lw_all) (k : Nat) (r : vw_C) (hr : pw_cl[k]? = some r) (h3 : Cond.selects r.1 My.1 My.1 ∈ lw_all) (ha : w.1 a = some (2000 + i, .ref b :: cv)) {us : List Value} (hb0 : w.1 b = some (k, us))
    (hinv : decode K.1 pcI = .ok (.invokevirtual K.2.2.2.1, 3)) {dy : Nat} {w1 : pw_W} {v : Value} (hEv : pw_Ev E My dy (.ref b :: (cv ++ av)) w (.inl (some v)) w1) (hret : lm_rv K (pcI + 3) q.2.2.2.sam.returnType v) {e : Nat} (hde : dy + 1 ≤ e) : lm_In E q K i e a av w w1 v := by
  have hE := hEv
  obtain ⟨u1, u2, -⟩ := hE
  refine ⟨u1, u2, ?_⟩
  intro p e' R s mk below meth c H ls hx hts hO hmk hb hmL hlk hsig hf hl hc hs hH hls
  subst hmk
  obtain ⟨cell, p1, p2, p3, p4⟩ := hH.2.2.2 a _ ha
  rw [if_neg (show ¬ 2000 + i < 1000 by omega)] at p4
  have hla := hO.2.2.2.2.2.2.2.2.2.1 i q hq
  refine hld p E.1 e' R s _ _ below meth c H _ cell ls hx hb (fun y hy U hW => ?_) p1 p3.known p4 hls ?_
  · obtain ⟨kc, tk, file, methk, ck, t, iface, tg, found, -, -, -, -, -, -, hfl⟩ := (hla.warm (U := U) hW).facts hK
    exact hfl y hy
  · refine lm_call (av := .ref b :: (cv ++ av)) hEv hk hts hO hde hf hl hc hs hH (hls.1.trans hmL.symm) (by rw [hb]; exact hinv) (fun T hT X => ?_) (fun H1 L9 hH1 hL9 => lm_end hx hb hlk (by rw [hsig]) hret hH1 hL9)
    obtain ⟨mkM, methM, hnM, hmM, hsgM⟩ := pw_cw_sg (hts _ hk.1)
    have hnT := X.named hnM
    refine ⟨mkM, hnT, fun target h => ?_⟩
    obtain ⟨kc, tk, file, methk, ck, t, iface, tg, found, ⟨f1, -, -, f4, -⟩, -, ⟨t1, t2, t3, t4⟩, -, ⟨g1, g2⟩, ⟨r1, r2⟩, -⟩ := (hla.warm (U := T) X.warmed).facts hK
    rw [hMy.1] at t1
    rw [hMy.2.1, hMy.2.2] at t4 g2
    obtain rfl : tg = mkM := lm_found hnT hny.1 t1 t2 t4
    have hpay := fun x hx' => pay_in hts lw_self x hx' (Value.ref a :: av).toArray T X.warmed
    have hmT : T.vm.method? tg = some methM := by rw [X.warmed.alike.method?]; exact hmM
    obtain ⟨kP, hkP, hnameP⟩ := className_of_methodNamed hnT
    have hpoly : signaturePolymorphic kP methM = false := by simp [signaturePolymorphic, hnameP, hny.1.1, hny.1.2]
    have hlen : (cv ++ av).length = methM.sig.parameters.length := by
      have := hny.2
      rw [hsgM] at this
      exact (Option.some.inj this).symm
    obtain ⟨mk2, meth2, n1, n2, n3, n4⟩ := Cond.instanceMethod_spec (hpay _ h2)
    cases n1.symm.trans hnT
    cases n2.symm.trans hmT
    obtain ⟨cellB, c1, c2, c3, -⟩ := hH.2.2.2 b _ hb0
    obtain ⟨cc2, rr2, mm2, q1, q2, q3, q4, kP2, hkP2, hkPi⟩ := Cond.selects_spec (hpay _ h3)
    cases (State.methodFound?_of_named hnT hny.1).symm.trans q2
    cases hnT.symm.trans q3
    cases hkP2.symm.trans hkP
    have hclsB : T.vm.findClass r.1 = some cellB.cls := by
      rw [X.warmed.alike.findClass, c2]
      obtain ⟨-, z1, -⟩ := hO.1 k r hr
      exact z1
    cases hclsB.symm.trans q1
    have hdg' : decode c.code pcI = .ok (.invokevirtual K.2.2.2.1, 3) := by rw [hb]; exact hinv
    generalize hstk : (.ref b :: cv ++ av).reverse = stk9
    jvm_step X.here [X.here.top, hx, hdg', invokevirtual.wp_ready (e := e') (s := T) (r := tg) (m := tg) (k := kP) (mk := kP) (rmeth := methM) (meth := methM) (a := b) (args := cv ++ av) (rest := []) (cell := cellB) (f := F0 ⟨E.2.1 (2000 + i), 1⟩ pcI ls stk9) X.here.top ⟨_, _, _, _, t, tk, f1, f4, g1, r2, t2, t3⟩ r1 hkP hmT hpoly n3 hlen (by show stk9 = _; rw [← hstk]; simp) (by rw [hT]; exact c1) (fun z => c3.nost z) (by rw [Launch.admits_selectMethod X.admits]; exact q4) hmT n4 hkP hkPi]
    intro acts
    rw [doInvoke_state]
    exact h
end
