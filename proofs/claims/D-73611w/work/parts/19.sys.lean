set_option maxRecDepth 100000
/-! Math.max, Math.min, System.arraycopy, throw -/
def pw_cpy (us vs : List Value) (sp dp n : Nat) : List Value := vs.take dp ++ ((us.drop sp).take n ++ vs.drop (dp + n))
theorem pw_cpy_len {us vs : List Value} {sp dp n : Nat} (h4 : sp + n ≤ us.length) (h5 : dp + n ≤ vs.length) : (pw_cpy us vs sp dp n).length = vs.length := by
  simp [pw_cpy]; omega
theorem pw_cpy_get {us vs : List Value} {sp dp n j : Nat} (h4 : sp + n ≤ us.length) (h5 : dp + n ≤ vs.length) : (pw_cpy us vs sp dp n)[j]? = if dp ≤ j ∧ j < dp + n then us[sp + (j - dp)]? else vs[j]? := by
  unfold pw_cpy
  by_cases h1 : j < dp
  · rw [List.getElem?_append_left (by simp; omega), List.getElem?_take_of_lt h1, if_neg (by omega)]
  · rw [List.getElem?_append_right (by simp; omega), List.length_take, Nat.min_eq_left (by omega)]
    by_cases h2 : j < dp + n
    · rw [List.getElem?_append_left (by simp; omega), List.getElem?_take_of_lt (by omega), List.getElem?_drop, if_pos (by omega)]
    · rw [List.getElem?_append_right (by simp; omega), if_neg (by omega), List.getElem?_drop]
      congr 1
      simp
      omega
theorem pw_nn {z : Int32} (hz : ¬ z < 0) : z.toInt = (z.toNatClampNeg : Int) := by
  have hz0 : (0 : Int) ≤ z.toInt := by
    have := Int32.not_lt.mp hz
    simpa using Int32.le_iff_toInt_le.mp this
  show z.toInt = ((z.toInt.toNat : Nat) : Int)
  omega
theorem pw_copied {cs cd : Cell} {us vs : List Value} {sp dp n : Nat} (e1 : cs.slots = us.toArray) (e2 : cd.slots = vs.toArray) (h4 : sp + n ≤ us.length) (h5 : dp + n ≤ vs.length) :
    (cd.storeRun dp (cs.stretch sp n)).slots = (pw_cpy us vs sp dp n).toArray := by
  apply Array.ext_getElem?
  intro j
  rw [Cell.storeRun_get _ _ _ _ (by rw [Cell.stretch_length, e2]; simpa using h5), Cell.stretch_length, e2, List.getElem?_toArray, List.getElem?_toArray, pw_cpy_get h4 h5]
  by_cases h : dp ≤ j ∧ j < dp + n
  · rw [if_pos h, if_pos h]
    unfold Cell.stretch
    rw [List.getElem?_map, List.getElem?_range (by omega)]
    show some (cs.slots.getD (sp + (j - dp)) .null) = _
    rw [e1, Array.getD_eq_getD_getElem?, List.getElem?_toArray, List.getElem?_eq_getElem (by omega)]
    rfl
  · rw [if_neg h, if_neg h]
/-- what an array over ty takes -/
def pw_fit (w : pw_W) (ty : FieldType) (v : Value) : Prop := fits ty v = true ∧ ∀ b : Nat, v = .ref b → ∃ C : String, ty = .object C ∧ pw_ok1 w C (some b)
section
variable {E : pw_E} {M : pw_M} {d pc : Nat} {L : List (Option Value)} {st : List Value} {w : pw_W} {Post : pw_R → pw_W → Prop}
theorem pw_goC {pc' : Nat} {L' : List (Option Value)} {st st' : List Value}
    (h : ∀ (p : Program) (e : Env) (R : Room) (s : State) (m : MethodId) (args : Array Value) (below : List Frame) (meth : Method) (c : Code) (H : Heap) (locs : List Loc) (cells slots : Nat) (ls : Array Slot) (Q : State → Prop),
      pw_C E M p s m args meth c → d ≤ R.frames → 64 * d ≤ R.locals → cells ≤ R.cells → slots ≤ R.slots → pw_Hp E w H → pw_L ls M.2.2.1 L → (∀ ls', pw_L ls' M.2.2.1 L' → W p E.1 e R s m args below meth c H locs cells slots Q (F0 m pc' ls' st')) → W p E.1 e R s m args below meth c H locs cells slots Q (F0 m pc ls st))
    (k : pw_Wp E M d pc' L' st' w Post) : pw_Wp E M d pc L st w Post := by
  obtain ⟨r, w', h1, h2, h3, h4⟩ := k
  refine ⟨r, w', h1, h2, h3, ?_⟩
  intro p e R s m args below meth c H locs cells slots ls hC hf hl hc hs hH hq hL
  exact h p e R s m args below meth c H locs cells slots ls _ hC hf hl (by omega) (by omega) hH hL (fun ls' hL' => h4 p e R s m args below meth c H locs cells slots ls' hC hf hl hc hs hH hq hL')
theorem r_max {index : Nat} (hd : decode M.2.1 pc = .ok (.invokestatic index, 3)) (h1 : Cond.methodLink M.1.cls index Lib.Math.max.name ∈ lw_all) (h2 : Cond.static Lib.Math.max.name ∈ lw_all) (h3 : Cond.initialized "java/lang/Math" ∈ lw_all) (h4 : Cond.code Lib.Math.max.name Lib.Math.max.code 2 (some .int) ∈ lw_all)
    (hdd : 1 ≤ d) (hst : pw_cs st) {x y : Int32} (kk : pw_Wp E M d (pc + 3) L (.int (if x < y then y else x) :: st) w Post) : pw_Wp E M d pc L (.int y :: .int x :: st) w Post :=
  pw_goC (fun p e R s m args below meth c H locs cells slots ls Q hC hf hl hcc hss hH hL kk => by
    obtain ⟨hx, hb, -, -, hml, hown, -, hts, -⟩ := hC
    have hcs := hst
    unfold pw_cs at hcs
    exact va_mmax hx hb (by rw [hml]; exact hL.1.symm) hown (hts _ h1) (hts _ h2) (hts _ h3) (hts _ h4) (by omega) (by omega) hcc hss hd (kk ls hL)) kk
theorem r_min {index : Nat} (hd : decode M.2.1 pc = .ok (.invokestatic index, 3)) (h1 : Cond.methodLink M.1.cls index Lib.Math.min.name ∈ lw_all) (h2 : Cond.static Lib.Math.min.name ∈ lw_all) (h3 : Cond.initialized "java/lang/Math" ∈ lw_all) (h4 : Cond.code Lib.Math.min.name Lib.Math.min.code 2 (some .int) ∈ lw_all)
    (hdd : 1 ≤ d) (hst : pw_cs st) {x y : Int32} (kk : pw_Wp E M d (pc + 3) L (.int (if y < x then y else x) :: st) w Post) : pw_Wp E M d pc L (.int y :: .int x :: st) w Post :=
  pw_goC (fun p e R s m args below meth c H locs cells slots ls Q hC hf hl hcc hss hH hL kk => by
    obtain ⟨hx, hb, -, -, hml, hown, -, hts, -⟩ := hC
    have hcs := hst
    unfold pw_cs at hcs
    exact va_mmin hx hb (by rw [hml]; exact hL.1.symm) hown (hts _ h1) (hts _ h2) (hts _ h3) (hts _ h4) (by omega) (by omega) hcc hss hd (kk ls hL)) kk
theorem r_copy {index : Nat} (hd : decode M.2.1 pc = .ok (.invokestatic index, 3)) (hl1 : Cond.methodLink M.1.cls index arraycopyName ∈ lw_all) (hl2 : Cond.native arraycopyName ∈ lw_all) (hl3 : Cond.static arraycopyName ∈ lw_all) (hl4 : Cond.initialized "java/lang/System" ∈ lw_all)
    (t0 t1 : Nat) {ty0 ty1 : FieldType} (ht0 : pw_ar[t0]? = some ty0) (ht1 : pw_ar[t1]? = some ty1) (hty : ((refKind ty0 != refKind ty1) || (!refKind ty0 && ty0 != ty1)) = false) (h6 : refKind ty1 = true → t1 < 6)
    {a0 a1 : Nat} {us vs : List Value} (ha0 : w.1 a0 = some (1000 + t0, us)) (ha1 : w.1 a1 = some (1000 + t1, vs)) (hba : pw_base E ≤ a1) {sp dp n : Int32} (h1 : ¬ sp < 0) (h2 : ¬ dp < 0) (h3 : ¬ n < 0) (h4 : sp.toNatClampNeg + n.toNatClampNeg ≤ us.length) (h5 : dp.toNatClampNeg + n.toNatClampNeg ≤ vs.length)
    (hv : ∀ i : Nat, i < n.toNatClampNeg → ∀ v : Value, us[sp.toNatClampNeg + i]? = some v → pw_fit w ty1 v) (hdd : 1 ≤ d) (hst : pw_cs st)
    (kk : pw_Wp E M d (pc + 3) L st (pw_up w a1 (1000 + t1, pw_cpy us vs sp.toNatClampNeg dp.toNatClampNeg n.toNatClampNeg)) Post) : pw_Wp E M d pc L (.int n :: .int dp :: va_rf (some a1) :: .int sp :: va_rf (some a0) :: st) w Post :=
  pw_goW (w1 := pw_up w a1 (1000 + t1, pw_cpy us vs sp.toNatClampNeg dp.toNatClampNeg n.toNatClampNeg)) rfl (fun p e R s m args below meth c H locs cells slots ls Q hC hf hl hH hL kk => by
    obtain ⟨hx, hb, -, -, hml, hown, -, hts, hO, -⟩ := hC
    have hcs := hst
    unfold pw_cs at hcs
    obtain ⟨cs, p1, p2, p3, p4⟩ := pw_arrc hH ha0
    obtain ⟨cd, q1, q2, q3, q4⟩ := pw_arrc hH ha1
    obtain ⟨ks, sComp, k1, k2⟩ := hO.arr ht0
    obtain ⟨kd, dComp, k3, k4⟩ := hO.arr ht1
    intro T hT X
    obtain ⟨vm', X', step⟩ := X.arraycopy hx hown (hts _ hl1) (hts _ hl2) (hts _ hl3) (hts _ hl4) (src := a0) (dst := a1) (cs := cs) (cd := cd) (srcPos := sp) (destPos := dp) (n := n) (by rw [hT]; exact p1) (by rw [hT]; exact q1)
      (fun q => p3.nost q) (fun q => q3.nost q) p3.known q3.known (by rw [p2]; exact k1) (by rw [q2]; exact k3) k2 k4 hty h1 h2 h3
      (by rw [pw_nn h1, pw_nn h3, p4]; simp only [List.size_toArray]; omega) (by rw [pw_nn h2, pw_nn h3, q4]; simp only [List.size_toArray]; omega)
      (fun vm₁ hal i hi => by
        have e1 : sp.toNatClampNeg + i < us.length := by omega
        have e : cs.slots.getD (sp.toNatClampNeg + i) .null = us[sp.toNatClampNeg + i] := by
          rw [p4, Array.getD_eq_getD_getElem?, List.getElem?_toArray, List.getElem?_eq_getElem e1]
          rfl
        obtain ⟨f1, f2⟩ := hv i hi _ (List.getElem?_eq_getElem e1)
        rw [e]
        refine ⟨f1, ?_⟩
        generalize hz : us[sp.toNatClampNeg + i] = z at f1 f2
        cases z with
        | ref y =>
          obtain ⟨C, hC1, hok⟩ := f2 y rfl
          rcases hok with hok | ⟨b, k, us', e2, hb2, hcan⟩
          · cases hok
          · cases e2
            subst hC1
            obtain ⟨cb, b1, b2, b3, -⟩ := hH.2.2.2 y _ hb2
            obtain ⟨kA, comp, r1, r2, r3, -⟩ := hO.2.2.1 t1 _ (h6 rfl) ht1
            cases k3.symm.trans r1
            cases k4.symm.trans r2
            obtain ⟨cT, c1, c2⟩ := hcan.use hO
            cases r3.symm.trans c1
            obtain ⟨kE, hkE, -⟩ := Vm.findClass_spec r3
            obtain ⟨kV, hkV⟩ := pw_kcls hO hcan
            obtain ⟨kE', hkE', -⟩ := hal.2.2 _ _ hkE
            obtain ⟨kV', hkV', -⟩ := hal.2.2 _ _ hkV
            exact ⟨cb, (show T.heap[y]? = some cb by rw [hT]; exact b1), (fun q => b3.nost q), ⟨kV', by rw [b2]; exact hkV'⟩, ⟨kE', hkE'⟩, by
              show vm₁.assignable _ _ = true
              rw [hal.assignable, b2]
              exact c2⟩
        | _ => trivial)
      (g := F0 m pc ls (.int n :: .int dp :: .ref a1 :: .int sp :: .ref a0 :: st)) rfl (by rw [hml]; exact hL.1) (rest := st) rfl (by rw [hb]; exact hd) (by omega) (by show 2 * 0 + _ + _ ≤ _; have hw : nativeFrameWords "java/lang/System" "arraycopy" 5 ≤ 20 := (by decide); omega)
    have hl1 : a1 < H.size := (Array.getElem?_eq_some_iff.mp q1).1
    have hheap : ((T.setVm vm').setCell a1 (copied cs cd sp dp n)).heap = H.setIfInBounds a1 (copied cs cd sp dp n) := by rw [← hT]; rfl
    obtain ⟨t, b1, b2⟩ := kk (H.setIfInBounds a1 (copied cs cd sp dp n)) ((cs.stretch sp.toNatClampNeg n.toNatClampNeg).zipIdx.map fun q => ⟨a1, dp.toNatClampNeg + q.2⟩)
      (hH.set hba (by simp) (fun q hq => by simp [Array.getElem?_setIfInBounds, Ne.symm hq]) ⟨copied cs cd sp dp n, by simp [Array.getElem?_setIfInBounds, hl1], by rw [← q2]; exact (Cell.storeRun_facts cd _ _).1, ⟨by rw [show (copied cs cd sp dp n).vm = cd.vm from (Cell.storeRun_facts cd _ _).2.1]; exact q3.1, fun h => by rw [show (copied cs cd sp dp n).monitor = cd.monitor from (Cell.storeRun_facts cd _ _).2.2.2.2]; exact q3.2 h⟩, by
        rw [if_neg (show ¬ 1000 + t1 < 1000 by omega)]
        exact pw_copied p4 q4 h4 h5⟩)
      (fun q hq => by
        obtain ⟨z, -, hz⟩ := List.mem_map.mp hq
        rw [← hz]
        exact hba) _ hheap X'
    exact ⟨t, step t b1, b2⟩) kk
/-- throw -/
theorem r_athrow (hd : decode M.2.1 pc = .ok (.athrow, 1)) {q : Nat} (k : pw_Wx E M d q pc L w Post) : pw_Wp E M d pc L (va_rf (some q) :: st) w Post := by
  obtain ⟨r, w', hp, k⟩ := k
  refine ⟨r, w', hp, (k st).1, (k st).2.1, ?_⟩
  intro p e R s m args below meth c H locs cells slots ls hC hf hl hc hs hH hq hL
  have kx := (k st).2.2 p e R s m args below meth c H locs cells slots ls hC hf hl hc hs hH hq hL
  intro T hT X
  obtain ⟨t, st9, hq9⟩ := kx T hT X
  refine ⟨t, ?_, hq9⟩
  have hdg' : decode c.code pc = .ok (.athrow, 1) := by rw [hC.2.1]; exact hd
  jvm_step X.here [X.here.top, hC.1, hdg', athrow.wp_sem]
  exact st9
end
theorem pw_fwm (i : Nat) {q : String × MethodName × MethodName} (h : pw_fw[i]? = some q) : q ∈ pw_fw := List.mem_of_getElem? h
/-- System.arraycopy between arrays of w -/
def f_copy (E : pw_E) (w : pw_W) (a : Option Nat) (sp : Int32) (b : Option Nat) (dp n : Int32) (K : pw_W → Prop) : Prop :=
  ∃ (a0 a1 t0 t1 : Nat) (ty0 ty1 : FieldType) (us vs : List Value), a = some a0 ∧ b = some a1 ∧ pw_ar[t0]? = some ty0 ∧ pw_ar[t1]? = some ty1 ∧ ((refKind ty0 != refKind ty1) || (!refKind ty0 && ty0 != ty1)) = false ∧ (refKind ty1 = true → t1 < 6) ∧ w.1 a0 = some (1000 + t0, us) ∧ w.1 a1 = some (1000 + t1, vs) ∧ pw_base E ≤ a1 ∧ ¬ sp < 0 ∧ ¬ dp < 0 ∧ ¬ n < 0 ∧ sp.toNatClampNeg + n.toNatClampNeg ≤ us.length ∧ dp.toNatClampNeg + n.toNatClampNeg ≤ vs.length ∧
    (∀ i : Nat, i < n.toNatClampNeg → ∀ v : Value, us[sp.toNatClampNeg + i]? = some v → pw_fit w ty1 v) ∧ K (pw_up w a1 (1000 + t1, pw_cpy us vs sp.toNatClampNeg dp.toNatClampNeg n.toNatClampNeg))
theorem r_copyF {E : pw_E} {M : pw_M} {d pc : Nat} {L : List (Option Value)} {st : List Value} {w : pw_W} {Post : pw_R → pw_W → Prop} {index : Nat} (hd : decode M.2.1 pc = .ok (.invokestatic index, 3)) (hl1 : Cond.methodLink M.1.cls index arraycopyName ∈ lw_all) (hl2 : Cond.native arraycopyName ∈ lw_all) (hl3 : Cond.static arraycopyName ∈ lw_all) (hl4 : Cond.initialized "java/lang/System" ∈ lw_all)
    {a b : Option Nat} {sp dp n : Int32} {K : pw_W → Prop} (H : f_copy E w a sp b dp n K) (hst : pw_cs st) (kk : ∀ w', K w' → pw_Wp E M (d + 1) (pc + 3) L st w' Post) : pw_Wp E M (d + 1) pc L (.int n :: .int dp :: va_rf b :: .int sp :: va_rf a :: st) w Post := by
  obtain ⟨a0, a1, t0, t1, ty0, ty1, us, vs, rfl, rfl, ht0, ht1, hty, h6, ha0, ha1, hba, h1, h2, h3, h4, h5, hv, H⟩ := H
  exact r_copy hd hl1 hl2 hl3 hl4 t0 t1 ht0 ht1 hty h6 ha0 ha1 hba h1 h2 h3 h4 h5 hv (by omega) hst (kk _ H)
section
variable {p : Program} {l : Launch} {e : Env} {R : Room} {s : State} {m : MethodId} {args : Array Value} {below : List Frame} {meth : Method} {c : Code} {T : State} {locs : List Loc} {cells slots : Nat}
/-- super's method -/
theorem rs_SU (X : Stand p l e R s m args below meth c T locs cells slots) (hexec : p.tables.exec = Jvm.exec) {own : String} {index : Nat} {y : MethodName}
    (hown : s.vm.findClass own = some m.cls) (hlink : (Cond.methodLink own index y).before args s = true) (hsame : (Cond.sameMethod y.cls y.cls y.name y.desc).before args s = true) (hsup : (Cond.superclass own y.cls).before args s = true)
    (hinst : (Cond.instanceMethod y).before args s = true) (hsg : pw_Sg s y) (hno : y.name ≠ "<init>")
    {b : Addr} {cellB : Cell} {kB : Class} (hcell : T.heap[b]? = some cellB) (hobj : cellB.vm.isStatics = false) (hkB : s.vm.classes[cellB.cls]? = some kB)
    {g : JFrame} (hg : g.method = m) {argsL rest : List Value} (hlen : (parseMethodDescriptor y.desc).map (fun d => d.parameters.length) = some argsL.length)
    (hstack : g.stack = argsL.reverse ++ .ref b :: rest) (hdg : decode c.code g.pc = .ok (.invokespecial index, 3)) : pw_Rs p l e R s m args below meth c T locs cells slots y 3 g (.ref b :: argsL) rest := by
  obtain ⟨mk, methM, hnamed, hmethM, hstM, habM⟩ := Cond.instanceMethod_spec hinst
  obtain ⟨mk', methM', hn', hm', hsigM⟩ := hsg
  cases hn'.symm.trans hnamed
  cases hm'.symm.trans hmethM
  obtain ⟨ps, dk, kp, hps, hdk, hkp, hsuper, -, -, hnid⟩ := Cond.superclass_spec hown hsup
  have hn : s.methodNamed? ⟨y.cls, y.name, y.desc⟩ = some mk := hnamed
  have hpm : ps = mk.cls := Option.some.inj (hps.symm.trans (findClass_of_methodNamed hnamed))
  have hsub : s.vm.isSubclass ps mk.cls = true := by rw [hpm]; simp [Vm.isSubclass, Vm.isSubclassAux]
  have hl : argsL.length = methM.sig.parameters.length := by rw [hsigM] at hlen; exact (Option.some.inj hlen).symm
  obtain ⟨vm₁, X₁, hstep₁⟩ := X.invokespecialUp hexec hown hlink hsame hn hmethM hstM habM hno hdk hnid hps hsuper hsub (a := b) (cell := cellB) hcell
    (fun z h => by rw [h] at hobj; cases hobj) hkB (g := g) hg (argsL := argsL) (rest := rest) hl hstack hdg
  exact ⟨vm₁, mk, _, X₁, X₁.named hnamed, hdg, fun target h => hstep₁ _ (by rw [doInvoke_state]; exact h)⟩
end
theorem r_SU {E : pw_E} {M : pw_M} {d pc : Nat} {L : List (Option Value)} {st stk : List Value} {w : pw_W} {Post : pw_R → pw_W → Prop} {index : Nat} (hd : decode M.2.1 pc = .ok (.invokespecial index, 3)) (My : pw_M) (hk : pw_known My) (h1 : Cond.methodLink M.1.cls index My.1 ∈ lw_all) (h5 : Cond.sameMethod My.1.cls My.1.cls My.1.name My.1.desc ∈ lw_all) (h6 : Cond.superclass M.1.cls My.1.cls ∈ lw_all) (h2 : Cond.instanceMethod My.1 ∈ lw_all) (hno : (My.1.name == "<init>") = false)
    (k : Nat) (r : vw_C) (hr : pw_cl[k]? = some r) {av : List Value} (hy : pw_ny My.1 av.length) {a : Nat} {us : List Value} (ha : w.1 a = some (k, us)) (hs : stk = av.reverse ++ va_rf (some a) :: st) (hst : pw_cs st) {dy : Nat} (hd1 : dy + 1 ≤ d) (hc : pw_Cl E My dy (va_rf (some a) :: av) w (pw_nx E M d pc 3 L st Post)) : pw_Wp E M d pc L stk w Post := by
  obtain ⟨r1, w1, hp, hEv⟩ := hc
  refine r_call hEv hk hd1 hst (fun p e R s m args below meth c locs cells slots ls T hC hH X => ?_) hp
  obtain ⟨cell, kB, q1, q2, q3, q4⟩ := pw_recv hC hH ha hr
  obtain ⟨hx, hb, -, -, -, hown, -, hts, hO, -⟩ := hC
  exact rs_SU X hx hown (hts _ h1) (hts _ h5) (hts _ h6) (hts _ h2) (pw_cw_sg (hts _ hk.1)) (fun e => by rw [e] at hno; revert hno; decide) q1 q2 q4 rfl hy.2 hs (by rw [hb]; exact hd)
section
variable {p : Program} {l : Launch} {e : Env} {R : Room} {s : State} {m : MethodId} {args : Array Value} {below : List Frame} {meth : Method} {c : Code} {T : State} {locs : List Loc} {cells slots : Nat}
/-- a private method, of an object of any class -/
theorem rs_P (X : Stand p l e R s m args below meth c T locs cells slots) (hexec : p.tables.exec = Jvm.exec) {own : String} {index : Nat} {y : MethodName}
    (hown : s.vm.findClass own = some m.cls) (hlink : (Cond.methodLink own index y).before args s = true) (hinst : (Cond.instanceMethod y).before args s = true) {C0 : String} {x0 y0 : MethodName} (hsel : (Cond.selects C0 x0 y0).before args s = true) (h0 : y0.cls = y.cls) (hpriv : s.PrivateAt y)
    (hsg : pw_Sg s y) (hy : y.cls ≠ "java/lang/invoke/MethodHandle" ∧ y.cls ≠ "java/lang/invoke/VarHandle")
    {b : Addr} {cellB : Cell} (hcell : T.heap[b]? = some cellB) (hobj : cellB.vm.isStatics = false)
    {g : JFrame} (hg : g.method = m) {argsL rest : List Value} (hlen : (parseMethodDescriptor y.desc).map (fun d => d.parameters.length) = some argsL.length)
    (hstack : g.stack = argsL.reverse ++ .ref b :: rest) (hdg : decode c.code g.pc = .ok (.invokevirtual index, 3)) : pw_Rs p l e R s m args below meth c T locs cells slots y 3 g (.ref b :: argsL) rest := by
  obtain ⟨mk, methM, hnamed, hmethM, hstM, habM⟩ := Cond.instanceMethod_spec hinst
  obtain ⟨mk', methM', hn', hm', hsigM⟩ := hsg
  cases hn'.symm.trans hnamed
  cases hm'.symm.trans hmethM
  obtain ⟨c2, r2, m2, -, -, q3, -, kP, hkP, hkPi⟩ := Cond.selects_spec hsel
  have e0 : m2.cls = mk.cls := by
    have z1 := findClass_of_methodNamed q3
    rw [h0] at z1
    exact Option.some.inj (z1.symm.trans (findClass_of_methodNamed hnamed))
  rw [e0] at hkP
  have hselP : selectMethod e.platform s.vm cellB.cls mk = .method mk := selectMethod_private hmethM (hpriv mk methM hnamed hmethM)
  have hl : argsL.length = methM.sig.parameters.length := by rw [hsigM] at hlen; exact (Option.some.inj hlen).symm
  obtain ⟨vm₁, X₁, hstep₁⟩ := X.invokevirtual hexec hown hlink hnamed hmethM hstM hkP hkPi hy (a := b) (cell := cellB) hcell
    (fun z h => by rw [h] at hobj; cases hobj) hselP hmethM habM hkP hkPi (g := g) hg (argsL := argsL) (rest := rest) hl hstack hdg
  exact ⟨vm₁, mk, _, X₁, X₁.named hnamed, hdg, fun target h => hstep₁ _ fun acts => by rw [doInvoke_state]; exact h⟩
end
theorem r_P {E : pw_E} {M : pw_M} {d pc : Nat} {L : List (Option Value)} {st stk : List Value} {w : pw_W} {Post : pw_R → pw_W → Prop} {index : Nat} (hd : decode M.2.1 pc = .ok (.invokevirtual index, 3)) (My : pw_M) (hk : pw_known My) (h1 : Cond.methodLink M.1.cls index My.1 ∈ lw_all) (h2 : Cond.instanceMethod My.1 ∈ lw_all) {C0 : String} {x0 y0 : MethodName} (h3 : Cond.selects C0 x0 y0 ∈ lw_all) (h0 : y0.cls = My.1.cls) (h4 : Cond.privateMethod My.1 ∈ lw_tbl)
    (k : Nat) (r : vw_C) (hr : pw_cl[k]? = some r) {av : List Value} (hy : pw_ny My.1 av.length) {a : Nat} {us : List Value} (ha : w.1 a = some (k, us)) (hs : stk = av.reverse ++ va_rf (some a) :: st) (hst : pw_cs st) {dy : Nat} (hd1 : dy + 1 ≤ d) (hc : pw_Cl E My dy (va_rf (some a) :: av) w (pw_nx E M d pc 3 L st Post)) : pw_Wp E M d pc L stk w Post := by
  obtain ⟨r1, w1, hp, hEv⟩ := hc
  refine r_call hEv hk hd1 hst (fun p e R s m args below meth c locs cells slots ls T hC hH X => ?_) hp
  obtain ⟨cell, kB, q1, q2, q3, q4⟩ := pw_recv hC hH ha hr
  obtain ⟨hx, hb, -, -, -, hown, -, hts, hO, -⟩ := hC
  exact rs_P X hx hown (hts _ h1) (hts _ h2) (hts _ h3) h0 (Cond.privateMethod_at (args := #[]) (hO.2.2.2.1 _ h4 rfl)) (pw_cw_sg (hts _ hk.1)) hy.1 q1 q2 rfl hy.2 hs (by rw [hb]; exact hd)
/-- the receiver is of one of some kinds; the method goes by the kind -/
def f_VA (E : pw_E) (w : pw_W) (o : Option Nat) (ks : List (Nat × pw_M)) (d : Nat) (av : List Value) (K : pw_R → pw_W → Prop) : Prop := ∃ (a : Nat) (us : List Value) (k : Nat) (M : pw_M), o = some a ∧ w.1 a = some (k, us) ∧ (k, M) ∈ ks ∧ pw_Cl E M d (va_rf (some a) :: av) w K
theorem r_alt2 {E : pw_E} {d : Nat} {av : List Value} {w : pw_W} {K nx : pw_R → pw_W → Prop} {G : Prop} {k k1 k2 : Nat} {M M1 M2 : pw_M} (hk : (k, M) ∈ [(k1, M1), (k2, M2)]) (H : pw_Cl E M d av w K) (hn : ∀ r w, K r w → nx r w) (h1 : k = k1 → pw_Cl E M1 d av w nx → G) (h2 : k = k2 → pw_Cl E M2 d av w nx → G) : G := by
  have H := H.mono hn
  rcases List.mem_cons.mp hk with e | e
  · cases e; exact h1 rfl H
  · rcases List.mem_cons.mp e with e | e
    · cases e; exact h2 rfl H
    · cases e
theorem r_alt3 {E : pw_E} {d : Nat} {av : List Value} {w : pw_W} {K nx : pw_R → pw_W → Prop} {G : Prop} {k k1 k2 k3 : Nat} {M M1 M2 M3 : pw_M} (hk : (k, M) ∈ [(k1, M1), (k2, M2), (k3, M3)]) (H : pw_Cl E M d av w K) (hn : ∀ r w, K r w → nx r w) (h1 : k = k1 → pw_Cl E M1 d av w nx → G) (h2 : k = k2 → pw_Cl E M2 d av w nx → G) (h3 : k = k3 → pw_Cl E M3 d av w nx → G) : G := by
  have H := H.mono hn
  rcases List.mem_cons.mp hk with e | e
  · cases e; exact h1 rfl H
  · rcases List.mem_cons.mp e with e | e
    · cases e; exact h2 rfl H
    · rcases List.mem_cons.mp e with e | e
      · cases e; exact h3 rfl H
      · cases e
theorem pw_nyl {desc : String} {n : Nat} (h : ((parseMethodDescriptor desc).map (fun d => d.parameters.length) == some n) = true) : (parseMethodDescriptor desc).map (fun d => d.parameters.length) = some n := eq_of_beq h
