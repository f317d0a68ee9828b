set_option maxRecDepth 100000
/-! the judgements: pw_Ev (a method, called so, answers so), pw_Wp (from here, an end of Post is reached) -/
def pw_Qc (E : pw_E) (r : pw_R) (w' : pw_W) : Array Value → State → Outcome → State → Prop := fun _ _ o t => ∃ v : Option Value, r = .inl v ∧ o = .returned v ∧ pw_Hp E w' t.heap
def pw_XC (E : pw_E) (r : pw_R) (w' : pw_W) : String → Addr → State → State → Prop := fun F q _ t => r = .inr q ∧ F = "VersionSearch$Fault" ∧ pw_Hp E w' t.heap
def pw_cw (M : pw_M) : Cond := match M.2.2.2.2 with
  | [] => Cond.code M.1 M.2.1 M.2.2.1 M.2.2.2.1
  | h :: t => Cond.codeWith M.1 M.2.1 M.2.2.1 M.2.2.2.1 (h :: t)
def pw_ws (M : pw_M) : List Cond := pw_cw M :: lw_all
def pw_fr (E : pw_E) : Addr → Prop := fun q => pw_base E ≤ q
def pw_rm (d : Nat) (w w' : pw_W) : Room := { frames := d, cells := w'.2.1 - w.2.1, slots := w'.2.2 - w.2.2, locals := 64 * d }
def pw_Pc (E : pw_E) (av : List Value) (w : pw_W) : Array Value → State → Prop := va_Pc av (fun U => pw_Ok E U ∧ pw_Hp E w U.heap)
def pw_Ev (E : pw_E) (M : pw_M) (d : Nat) (av : List Value) (w : pw_W) (r : pw_R) (w' : pw_W) : Prop :=
  w.2.1 ≤ w'.2.1 ∧ w.2.2 ≤ w'.2.2 ∧ px_Met E.1 M.1 (pw_ws M) (pw_rm d w w') (pw_Pc E av w) (pw_Qc E r w') (pw_XC E r w') (w'.2.1 - w.2.1) (w'.2.2 - w.2.2) (pw_fr E)
/-- what stands about a body -/
def pw_C (E : pw_E) (M : pw_M) (p : Program) (s : State) (m : MethodId) (args : Array Value) (meth : Method) (c : Code) : Prop :=
  p.tables.exec = Jvm.exec ∧ c.code = M.2.1 ∧ meth.sig.returnType = M.2.2.2.1 ∧ meth.locks = false ∧ c.maxLocals = M.2.2.1 ∧ s.vm.findClass M.1.cls = some m.cls ∧ (meth.name = M.1.name ∧ s.methodNamed? M.1 = some m) ∧ (∀ w ∈ lw_all, w.before args s = true) ∧ pw_Ok E s ∧ c.exceptionTable.toList = tableOf M.2.2.2.2
/-- from the frame at pc, or (x: with q thrown over it), the end r, w' -/
def pw_T (E : pw_E) (M : pw_M) (d : Nat) (x : Option Addr) (pc : Nat) (L : List (Option Value)) (st : List Value) (w : pw_W) (r : pw_R) (w' : pw_W) : Prop :=
  w.2.1 ≤ w'.2.1 ∧ w.2.2 ≤ w'.2.2 ∧ ∀ (p : Program) (e : Env) (R : Room) (s : State) (m : MethodId) (args : Array Value) (below : List Frame) (meth : Method) (c : Code) (H : Heap) (locs : List Loc) (cells slots : Nat) (ls : Array Slot),
    pw_C E M p s m args meth c → d ≤ R.frames → 64 * d ≤ R.locals → cells + (w'.2.1 - w.2.1) ≤ R.cells → slots + (w'.2.2 - w.2.2) ≤ R.slots → pw_Hp E w H → (∀ q ∈ locs, pw_base E ≤ q.base) → pw_L ls M.2.2.1 L →
    match x with
    | none => W p E.1 e R s m args below meth c H locs cells slots (px_MQ below (pw_Qc E r w') (pw_XC E r w') args s (cells + (w'.2.1 - w.2.1)) (slots + (w'.2.2 - w.2.2)) (pw_fr E)) (F0 m pc ls st)
    | some q => px_W p E.1 e R s m args below meth c H locs cells slots (px_MQ below (pw_Qc E r w') (pw_XC E r w') args s (cells + (w'.2.1 - w.2.1)) (slots + (w'.2.2 - w.2.2)) (pw_fr E)) (F0 m pc ls st) q
def pw_Wp (E : pw_E) (M : pw_M) (d : Nat) (pc : Nat) (L : List (Option Value)) (st : List Value) (w : pw_W) (Post : pw_R → pw_W → Prop) : Prop :=
  ∃ (r : pw_R) (w' : pw_W), Post r w' ∧ pw_T E M d none pc L st w r w'
/-- with q thrown over the frame at pc -/
def pw_Wx (E : pw_E) (M : pw_M) (d : Nat) (q : Addr) (pc : Nat) (L : List (Option Value)) (w : pw_W) (Post : pw_R → pw_W → Prop) : Prop :=
  ∃ (r : pw_R) (w' : pw_W), Post r w' ∧ ∀ st : List Value, pw_T E M d (some q) pc L st w r w'
theorem pw_Wp.mono {E : pw_E} {M : pw_M} {d pc : Nat} {L : List (Option Value)} {st : List Value} {w : pw_W} {P Q : pw_R → pw_W → Prop} (h : ∀ r w', P r w' → Q r w') (k : pw_Wp E M d pc L st w P) : pw_Wp E M d pc L st w Q := by
  obtain ⟨r, w', h1, h2⟩ := k
  exact ⟨r, w', h r w' h1, h2⟩
/-- a row that leaves the heap -/
theorem pw_go {E : pw_E} {M : pw_M} {d pc pc' : Nat} {L L' : List (Option Value)} {st st' : List Value} {w : pw_W} {Post : pw_R → pw_W → Prop}
    (h : ∀ (p : Program) (e : Env) (R : Room) (s : State) (m : MethodId) (args : Array Value) (below : List Frame) (meth : Method) (c : Code) (H : Heap) (locs : List Loc) (cells slots : Nat) (ls : Array Slot) (Q : State → Prop),
      pw_C E M p s m args meth c → d ≤ R.frames → 64 * d ≤ R.locals → pw_Hp E w H → pw_L ls M.2.2.1 L → (∀ ls', pw_L ls' M.2.2.1 L' → W p E.1 e R s m args below meth c H locs cells slots Q (F0 m pc' ls' st')) → W p E.1 e R s m args below meth c H locs cells slots Q (F0 m pc ls st))
    (k : pw_Wp E M d pc' L' st' w Post) : pw_Wp E M d pc L st w Post := by
  obtain ⟨r, w', h1, h2, h3, h4⟩ := k
  refine ⟨r, w', h1, h2, h3, ?_⟩
  intro p e R s m args below meth c H locs cells slots ls hC hf hl hc hs hH hq hL
  exact h p e R s m args below meth c H locs cells slots ls _ hC hf hl hH hL (fun ls' hL' => h4 p e R s m args below meth c H locs cells slots ls' hC hf hl hc hs hH hq hL')
/-- a row that writes -/
theorem pw_goW {E : pw_E} {M : pw_M} {d pc pc' : Nat} {L : List (Option Value)} {st st' : List Value} {w w1 : pw_W} {Post : pw_R → pw_W → Prop} (hw : w1.2 = w.2)
    (h : ∀ (p : Program) (e : Env) (R : Room) (s : State) (m : MethodId) (args : Array Value) (below : List Frame) (meth : Method) (c : Code) (H : Heap) (locs : List Loc) (cells slots : Nat) (ls : Array Slot) (Q : State → Prop),
      pw_C E M p s m args meth c → d ≤ R.frames → 64 * d ≤ R.locals → pw_Hp E w H → pw_L ls M.2.2.1 L → (∀ (H' : Heap) (locs' : List Loc), pw_Hp E w1 H' → (∀ q ∈ locs', pw_base E ≤ q.base) → W p E.1 e R s m args below meth c H' (locs ++ locs') cells slots Q (F0 m pc' ls st')) → W p E.1 e R s m args below meth c H locs cells slots Q (F0 m pc ls st))
    (k : pw_Wp E M d pc' L st' w1 Post) : pw_Wp E M d pc L st w Post := by
  obtain ⟨r, w', h1, h2, h3, h4⟩ := k
  rw [hw] at h2 h3
  refine ⟨r, w', h1, h2, h3, ?_⟩
  intro p e R s m args below meth c H locs cells slots ls hC hf hl hc hs hH hq hL
  refine h p e R s m args below meth c H locs cells slots ls _ hC hf hl hH hL (fun H' locs' hH' hq' => ?_)
  have := h4 p e R s m args below meth c H' (locs ++ locs') cells slots ls hC hf hl (by rw [hw]; exact hc) (by rw [hw]; exact hs) hH' (fun q hz => by
    rcases List.mem_append.mp hz with z | z
    · exact hq q z
    · exact hq' q z) hL
  rw [hw] at this
  exact this
/-- a row that makes a thing of n slots -/
theorem pw_goN {E : pw_E} {M : pw_M} {d pc pc' : Nat} {L : List (Option Value)} {st st' : List Value} {w w1 : pw_W} {n : Nat} {Post : pw_R → pw_W → Prop} (hw1 : w1.2.1 = w.2.1 + 1) (hw2 : w1.2.2 = w.2.2 + n)
    (h : ∀ (p : Program) (e : Env) (R : Room) (s : State) (m : MethodId) (args : Array Value) (below : List Frame) (meth : Method) (c : Code) (H : Heap) (locs : List Loc) (cells slots : Nat) (ls : Array Slot) (Q : State → Prop),
      pw_C E M p s m args meth c → d ≤ R.frames → 64 * d ≤ R.locals → pw_Hp E w H → pw_L ls M.2.2.1 L → cells + 1 ≤ R.cells → slots + n ≤ R.slots → (∀ (H' : Heap), pw_Hp E w1 H' → W p E.1 e R s m args below meth c H' locs (cells + 1) (slots + n) Q (F0 m pc' ls st')) → W p E.1 e R s m args below meth c H locs cells slots Q (F0 m pc ls st))
    (k : pw_Wp E M d pc' L st' w1 Post) : pw_Wp E M d pc L st w Post := by
  obtain ⟨r, w', h1, h2, h3, h4⟩ := k
  rw [hw1] at h2
  rw [hw2] at h3
  refine ⟨r, w', h1, by omega, by omega, ?_⟩
  intro p e R s m args below meth c H locs cells slots ls hC hf hl hc hs hH hq hL
  refine h p e R s m args below meth c H locs cells slots ls _ hC hf hl hH hL (by omega) (by omega) (fun H' hH' => ?_)
  have := h4 p e R s m args below meth c H' locs (cells + 1) (slots + n) ls hC hf hl (by rw [hw1]; omega) (by rw [hw2]; omega) hH' hq hL
  rw [hw1, hw2, show cells + 1 + (w'.2.1 - (w.2.1 + 1)) = cells + (w'.2.1 - w.2.1) by omega, show slots + n + (w'.2.2 - (w.2.2 + n)) = slots + (w'.2.2 - w.2.2) by omega] at this
  exact this
/-- an end -/
theorem pw_end {E : pw_E} {M : pw_M} {d pc : Nat} {L : List (Option Value)} {st : List Value} {w : pw_W} {v : Option Value} {Post : pw_R → pw_W → Prop} (hp : Post (.inl v) w)
    (h : ∀ (p : Program) (e : Env) (R : Room) (s : State) (m : MethodId) (args : Array Value) (below : List Frame) (meth : Method) (c : Code) (H : Heap) (locs : List Loc) (cells slots : Nat) (ls : Array Slot),
      pw_C E M p s m args meth c → pw_Hp E w H → (∀ q ∈ locs, pw_fr E q.base) → (∀ t : State, t.heap = H → s.WarmedH t.vm → pw_Qc E (.inl v) w args s (.returned v) t) → W p E.1 e R s m args below meth c H locs cells slots (MQ below (pw_Qc E (.inl v) w) args s cells slots (pw_fr E)) (F0 m pc ls st)) :
    pw_Wp E M d pc L st w Post := by
  refine ⟨.inl v, w, hp, Nat.le_refl _, Nat.le_refl _, ?_⟩
  intro p e R s m args below meth c H locs cells slots ls hC hf hl hc hs hH hq hL
  show W p E.1 e R s m args below meth c H locs cells slots (px_MQ below (pw_Qc E (.inl v) w) (pw_XC E (.inl v) w) args s (cells + (w.2.1 - w.2.1)) (slots + (w.2.2 - w.2.2)) (pw_fr E)) (F0 m pc ls st)
  rw [Nat.sub_self, Nat.sub_self, Nat.add_zero, Nat.add_zero]
  exact px_ret (h p e R s m args below meth c H locs cells slots ls hC hH hq (fun t ht _ => ⟨v, rfl, rfl, by rw [ht]; exact hH⟩))
section
variable {E : pw_E} {M : pw_M} {d pc : Nat} {L : List (Option Value)} {st : List Value} {w : pw_W} {Post : pw_R → pw_W → Prop}
/-! constants, locals, stack, arithmetic -/
theorem r_iconst {n : Int} (hd : decode M.2.1 pc = .ok (.iconst n, 1)) (v : Int32) (hv : Int32.ofInt n = v) (k : pw_Wp E M d (pc + 1) L (.int v :: st) w Post) : pw_Wp E M d pc L st w Post :=
  pw_go (fun p e R s m args below meth c H locs cells slots ls Q hC _ _ hH hL kk => lv_iconst hC.1 hC.2.1 hd hv (kk ls hL)) k
theorem r_bipush {n : Int} (hd : decode M.2.1 pc = .ok (.bipush n, 2)) (v : Int32) (hv : (Int8.ofInt n).toInt32 = v) (k : pw_Wp E M d (pc + 2) L (.int v :: st) w Post) : pw_Wp E M d pc L st w Post :=
  pw_go (fun p e R s m args below meth c H locs cells slots ls Q hC _ _ hH hL kk => lv_bipush hC.1 hC.2.1 hd hv (kk ls hL)) k
theorem r_sipush {n : Int} (hd : decode M.2.1 pc = .ok (.sipush n, 3)) (v : Int32) (hv : (Int16.ofInt n).toInt32 = v) (k : pw_Wp E M d (pc + 3) L (.int v :: st) w Post) : pw_Wp E M d pc L st w Post :=
  pw_go (fun p e R s m args below meth c H locs cells slots ls Q hC _ _ hH hL kk => lv_sipush hC.1 hC.2.1 hd hv (kk ls hL)) k
theorem r_lconst {n : Fin 2} (hd : decode M.2.1 pc = .ok (.lconst n, 1)) (v : Int64) (hv : Int64.ofNat (n : Nat) = v) (k : pw_Wp E M d (pc + 1) L (.long v :: st) w Post) : pw_Wp E M d pc L st w Post :=
  pw_go (fun p e R s m args below meth c H locs cells slots ls Q hC _ _ hH hL kk => lv_lconst hC.1 hC.2.1 hd hv (kk ls hL)) k
theorem r_ldc {index : Nat} (hd : decode M.2.1 pc = .ok (.ldc index, 2)) (v : Int32) (hw : Cond.constant M.1.cls index v ∈ lw_all) (k : pw_Wp E M d (pc + 2) L (.int v :: st) w Post) : pw_Wp E M d pc L st w Post :=
  pw_go (fun p e R s m args below meth c H locs cells slots ls Q hC _ _ hH hL kk => lv_ldc hC.1 hC.2.1 hC.2.2.2.2.2.1 (hC.2.2.2.2.2.2.2.1 _ hw) hd (kk ls hL)) k
theorem r_ldcw {index : Nat} (hd : decode M.2.1 pc = .ok (.ldc_w index, 3)) (v : Int32) (hw : Cond.constant M.1.cls index v ∈ lw_all) (k : pw_Wp E M d (pc + 3) L (.int v :: st) w Post) : pw_Wp E M d pc L st w Post :=
  pw_go (fun p e R s m args below meth c H locs cells slots ls Q hC _ _ hH hL kk => lv_ldcw hC.1 hC.2.1 hC.2.2.2.2.2.1 (hC.2.2.2.2.2.2.2.1 _ hw) hd (kk ls hL)) k
theorem r_ldc2 {index : Nat} (hd : decode M.2.1 pc = .ok (.ldc2_w index, 3)) (v : Int64) (hw : Cond.constantLong M.1.cls index v ∈ lw_all) (k : pw_Wp E M d (pc + 3) L (.long v :: st) w Post) : pw_Wp E M d pc L st w Post :=
  pw_go (fun p e R s m args below meth c H locs cells slots ls Q hC _ _ hH hL kk => lv_ldc2 hC.1 hC.2.1 hC.2.2.2.2.2.1 (hC.2.2.2.2.2.2.2.1 _ hw) hd (kk ls hL)) k
theorem r_iload_n {k : Fin 4} (hd : decode M.2.1 pc = .ok (.iload_n k, 1)) (i : Nat) (hi : (k : Nat) = i) {x : Int32} (hl : L[i]? = some (some (.int x))) (kk : pw_Wp E M d (pc + 1) L (.int x :: st) w Post) : pw_Wp E M d pc L st w Post :=
  pw_go (fun p e R s m args below meth c H locs cells slots ls Q hC _ _ hH hL kk => lv_iload_n hC.1 hC.2.1 hd hi (hL.2.2 i _ hl) (kk ls hL)) kk
theorem r_iload {i : Nat} (hd : decode M.2.1 pc = .ok (.iload i, 2)) {x : Int32} (hl : L[i]? = some (some (.int x))) (kk : pw_Wp E M d (pc + 2) L (.int x :: st) w Post) : pw_Wp E M d pc L st w Post :=
  pw_go (fun p e R s m args below meth c H locs cells slots ls Q hC _ _ hH hL kk => lv_iload hC.1 hC.2.1 hd (hL.2.2 i _ hl) (kk ls hL)) kk
theorem r_lload_n {k : Fin 4} (hd : decode M.2.1 pc = .ok (.lload_n k, 1)) (i : Nat) (hi : (k : Nat) = i) {x : Int64} (hl : L[i]? = some (some (.long x))) (kk : pw_Wp E M d (pc + 1) L (.long x :: st) w Post) : pw_Wp E M d pc L st w Post :=
  pw_go (fun p e R s m args below meth c H locs cells slots ls Q hC _ _ hH hL kk => lv_lload_n hC.1 hC.2.1 hd hi (hL.2.2 i _ hl) (kk ls hL)) kk
theorem r_lload {i : Nat} (hd : decode M.2.1 pc = .ok (.lload i, 2)) {x : Int64} (hl : L[i]? = some (some (.long x))) (kk : pw_Wp E M d (pc + 2) L (.long x :: st) w Post) : pw_Wp E M d pc L st w Post :=
  pw_go (fun p e R s m args below meth c H locs cells slots ls Q hC _ _ hH hL kk => lv_lload hC.1 hC.2.1 hd (hL.2.2 i _ hl) (kk ls hL)) kk
theorem r_aload_n {k : Fin 4} (hd : decode M.2.1 pc = .ok (.aload_n k, 1)) (i : Nat) (hi : (k : Nat) = i) {o : Option Nat} (hl : L[i]? = some (some (va_rf o))) (kk : pw_Wp E M d (pc + 1) L (va_rf o :: st) w Post) : pw_Wp E M d pc L st w Post :=
  pw_go (fun p e R s m args below meth c H locs cells slots ls Q hC _ _ hH hL kk => by
    cases o with
    | none => exact lv_aload_nN hC.1 hC.2.1 hd hi (hL.2.2 i _ hl) (kk ls hL)
    | some a => exact lv_aload_n hC.1 hC.2.1 hd hi (hL.2.2 i _ hl) (kk ls hL)) kk
theorem r_aload {i : Nat} (hd : decode M.2.1 pc = .ok (.aload i, 2)) {o : Option Nat} (hl : L[i]? = some (some (va_rf o))) (kk : pw_Wp E M d (pc + 2) L (va_rf o :: st) w Post) : pw_Wp E M d pc L st w Post :=
  pw_go (fun p e R s m args below meth c H locs cells slots ls Q hC _ _ hH hL kk => by
    cases o with
    | none => exact lv_aloadN hC.1 hC.2.1 hd (hL.2.2 i _ hl) (kk ls hL)
    | some a => exact lv_aload hC.1 hC.2.1 hd (hL.2.2 i _ hl) (kk ls hL)) kk
theorem r_istore_n {k : Fin 4} (hd : decode M.2.1 pc = .ok (.istore_n k, 1)) (i : Nat) (hi : (k : Nat) = i) {x : Int32} (hn : i < M.2.2.1) (hp : pw_pre L i = true) (kk : pw_Wp E M d (pc + 1) (L.set i (some (.int x))) st w Post) : pw_Wp E M d pc L (.int x :: st) w Post :=
  pw_go (fun p e R s m args below meth c H locs cells slots ls Q hC _ _ hH hL kk => lv_istore_n hC.1 hC.2.1 hd hi hL.has hn rfl (fun ls' h => kk ls' (pw_L.store1 hp h))) kk
theorem r_istore {i : Nat} (hd : decode M.2.1 pc = .ok (.istore i, 2)) {x : Int32} (hn : i < M.2.2.1) (hp : pw_pre L i = true) (kk : pw_Wp E M d (pc + 2) (L.set i (some (.int x))) st w Post) : pw_Wp E M d pc L (.int x :: st) w Post :=
  pw_go (fun p e R s m args below meth c H locs cells slots ls Q hC _ _ hH hL kk => lv_istore hC.1 hC.2.1 hd hL.has hn rfl (fun ls' h => kk ls' (pw_L.store1 hp h))) kk
theorem r_lstore_n {k : Fin 4} (hd : decode M.2.1 pc = .ok (.lstore_n k, 1)) (i : Nat) (hi : (k : Nat) = i) {x : Int64} (hn : i + 1 < M.2.2.1) (hp : pw_pre L i = true) (kk : pw_Wp E M d (pc + 1) ((L.set i (some (.long x))).set (i + 1) none) st w Post) : pw_Wp E M d pc L (.long x :: st) w Post :=
  pw_go (fun p e R s m args below meth c H locs cells slots ls Q hC _ _ hH hL kk => lv_lstore_n hC.1 hC.2.1 hd hi hL.has hn rfl (fun ls' h => kk ls' (pw_L.store2 hp h))) kk
theorem r_lstore {i : Nat} (hd : decode M.2.1 pc = .ok (.lstore i, 2)) {x : Int64} (hn : i + 1 < M.2.2.1) (hp : pw_pre L i = true) (kk : pw_Wp E M d (pc + 2) ((L.set i (some (.long x))).set (i + 1) none) st w Post) : pw_Wp E M d pc L (.long x :: st) w Post :=
  pw_go (fun p e R s m args below meth c H locs cells slots ls Q hC _ _ hH hL kk => lv_lstore hC.1 hC.2.1 hd hL.has hn rfl (fun ls' h => kk ls' (pw_L.store2 hp h))) kk
theorem r_astore_n {k : Fin 4} (hd : decode M.2.1 pc = .ok (.astore_n k, 1)) (i : Nat) (hi : (k : Nat) = i) {o : Option Nat} (hn : i < M.2.2.1) (hp : pw_pre L i = true) (kk : pw_Wp E M d (pc + 1) (L.set i (some (va_rf o))) st w Post) : pw_Wp E M d pc L (va_rf o :: st) w Post :=
  pw_go (fun p e R s m args below meth c H locs cells slots ls Q hC _ _ hH hL kk => by
    cases o with
    | none => exact lv_astore_nN hC.1 hC.2.1 hd hi hL.has hn rfl (fun ls' h => kk ls' (pw_L.store1 hp h))
    | some a => exact lv_astore_n hC.1 hC.2.1 hd hi hL.has hn rfl (fun ls' h => kk ls' (pw_L.store1 hp h))) kk
theorem r_astore {i : Nat} (hd : decode M.2.1 pc = .ok (.astore i, 2)) {o : Option Nat} (hn : i < M.2.2.1) (hp : pw_pre L i = true) (kk : pw_Wp E M d (pc + 2) (L.set i (some (va_rf o))) st w Post) : pw_Wp E M d pc L (va_rf o :: st) w Post :=
  pw_go (fun p e R s m args below meth c H locs cells slots ls Q hC _ _ hH hL kk => by
    cases o with
    | none => exact lv_astoreN hC.1 hC.2.1 hd hL.has hn rfl (fun ls' h => kk ls' (pw_L.store1 hp h))
    | some a => exact lv_astore hC.1 hC.2.1 hd hL.has hn rfl (fun ls' h => kk ls' (pw_L.store1 hp h))) kk
theorem r_iinc {i : Nat} {n : Int} (hd : decode M.2.1 pc = .ok (.iinc i n, 3)) {x : Int32} (y : Int32) (hy : Int32.ofInt n = y) (hl : L[i]? = some (some (.int x))) (hn : i < M.2.2.1) (hp : pw_pre L i = true) (kk : pw_Wp E M d (pc + 3) (L.set i (some (.int (x + y)))) st w Post) : pw_Wp E M d pc L st w Post :=
  pw_go (fun p e R s m args below meth c H locs cells slots ls Q hC _ _ hH hL kk => by
    obtain ⟨q, hq⟩ := List.getElem?_of_mem (pw_ll_mem.mpr hl)
    exact lv_iinc (k := q) hC.1 hC.2.1 hd hL.has hq (by rw [hy]) hn rfl (fun ls' h => kk ls' (pw_L.store1 hp h))) kk
theorem r_null (hd : decode M.2.1 pc = .ok (.aconst_null, 1)) (k : pw_Wp E M d (pc + 1) L (va_rf none :: st) w Post) : pw_Wp E M d pc L st w Post :=
  pw_go (fun p e R s m args below meth c H locs cells slots ls Q hC _ _ hH hL kk => lv_null hC.1 hC.2.1 hd (kk ls hL)) k
theorem r_iadd {x y : Int32} (hd : decode M.2.1 pc = .ok (.iadd, 1)) (k : pw_Wp E M d (pc + 1) L (.int (x + y) :: st) w Post) : pw_Wp E M d pc L (.int y :: .int x :: st) w Post :=
  pw_go (fun p e R s m args below meth c H locs cells slots ls Q hC _ _ hH hL kk => lv_iadd hC.1 hC.2.1 hd (kk ls hL)) k
theorem r_isub {x y : Int32} (hd : decode M.2.1 pc = .ok (.isub, 1)) (k : pw_Wp E M d (pc + 1) L (.int (x - y) :: st) w Post) : pw_Wp E M d pc L (.int y :: .int x :: st) w Post :=
  pw_go (fun p e R s m args below meth c H locs cells slots ls Q hC _ _ hH hL kk => lv_isub hC.1 hC.2.1 hd (kk ls hL)) k
theorem r_imul {x y : Int32} (hd : decode M.2.1 pc = .ok (.imul, 1)) (k : pw_Wp E M d (pc + 1) L (.int (x * y) :: st) w Post) : pw_Wp E M d pc L (.int y :: .int x :: st) w Post :=
  pw_go (fun p e R s m args below meth c H locs cells slots ls Q hC _ _ hH hL kk => lv_imul hC.1 hC.2.1 hd (kk ls hL)) k
theorem r_iand {x y : Int32} (hd : decode M.2.1 pc = .ok (.iand, 1)) (k : pw_Wp E M d (pc + 1) L (.int (x &&& y) :: st) w Post) : pw_Wp E M d pc L (.int y :: .int x :: st) w Post :=
  pw_go (fun p e R s m args below meth c H locs cells slots ls Q hC _ _ hH hL kk => lv_iand hC.1 hC.2.1 hd (kk ls hL)) k
theorem r_ior {x y : Int32} (hd : decode M.2.1 pc = .ok (.ior, 1)) (k : pw_Wp E M d (pc + 1) L (.int (x ||| y) :: st) w Post) : pw_Wp E M d pc L (.int y :: .int x :: st) w Post :=
  pw_go (fun p e R s m args below meth c H locs cells slots ls Q hC _ _ hH hL kk => lv_ior hC.1 hC.2.1 hd (kk ls hL)) k
theorem r_ixor {x y : Int32} (hd : decode M.2.1 pc = .ok (.ixor, 1)) (k : pw_Wp E M d (pc + 1) L (.int (x ^^^ y) :: st) w Post) : pw_Wp E M d pc L (.int y :: .int x :: st) w Post :=
  pw_go (fun p e R s m args below meth c H locs cells slots ls Q hC _ _ hH hL kk => lv_ixor hC.1 hC.2.1 hd (kk ls hL)) k
theorem r_idiv {x y : Int32} (hd : decode M.2.1 pc = .ok (.idiv, 1)) (hne : ¬ y = 0) (k : pw_Wp E M d (pc + 1) L (.int (x / y) :: st) w Post) : pw_Wp E M d pc L (.int y :: .int x :: st) w Post :=
  pw_go (fun p e R s m args below meth c H locs cells slots ls Q hC _ _ hH hL kk => lv_idiv hC.1 hC.2.1 hd hne (kk ls hL)) k
theorem r_irem {x y : Int32} (hd : decode M.2.1 pc = .ok (.irem, 1)) (hne : ¬ y = 0) (k : pw_Wp E M d (pc + 1) L (.int (x - x / y * y) :: st) w Post) : pw_Wp E M d pc L (.int y :: .int x :: st) w Post :=
  pw_go (fun p e R s m args below meth c H locs cells slots ls Q hC _ _ hH hL kk => lv_irem hC.1 hC.2.1 hd hne (kk ls hL)) k
theorem r_ineg {x : Int32} (hd : decode M.2.1 pc = .ok (.ineg, 1)) (k : pw_Wp E M d (pc + 1) L (.int (-x) :: st) w Post) : pw_Wp E M d pc L (.int x :: st) w Post :=
  pw_go (fun p e R s m args below meth c H locs cells slots ls Q hC _ _ hH hL kk => lv_ineg hC.1 hC.2.1 hd (kk ls hL)) k
theorem r_ishl {x y : Int32} (hd : decode M.2.1 pc = .ok (.ishl, 1)) (k : pw_Wp E M d (pc + 1) L (.int (x <<< (y &&& 31)) :: st) w Post) : pw_Wp E M d pc L (.int y :: .int x :: st) w Post :=
  pw_go (fun p e R s m args below meth c H locs cells slots ls Q hC _ _ hH hL kk => lv_ishl hC.1 hC.2.1 hd (kk ls hL)) k
theorem r_ishr {x y : Int32} (hd : decode M.2.1 pc = .ok (.ishr, 1)) (k : pw_Wp E M d (pc + 1) L (.int (x >>> (y &&& 31)) :: st) w Post) : pw_Wp E M d pc L (.int y :: .int x :: st) w Post :=
  pw_go (fun p e R s m args below meth c H locs cells slots ls Q hC _ _ hH hL kk => lv_ishr hC.1 hC.2.1 hd (kk ls hL)) k
theorem r_iushr {x y : Int32} (hd : decode M.2.1 pc = .ok (.iushr, 1)) (k : pw_Wp E M d (pc + 1) L (.int ((x.toUInt32 >>> (y.toUInt32 &&& Int32.toUInt32 31)).toInt32) :: st) w Post) : pw_Wp E M d pc L (.int y :: .int x :: st) w Post :=
  pw_go (fun p e R s m args below meth c H locs cells slots ls Q hC _ _ hH hL kk => lv_iushr hC.1 hC.2.1 hd rfl (kk ls hL)) k
theorem r_i2l {x : Int32} (hd : decode M.2.1 pc = .ok (.i2l, 1)) (k : pw_Wp E M d (pc + 1) L (.long x.toInt64 :: st) w Post) : pw_Wp E M d pc L (.int x :: st) w Post :=
  pw_go (fun p e R s m args below meth c H locs cells slots ls Q hC _ _ hH hL kk => lv_i2l hC.1 hC.2.1 hd rfl (kk ls hL)) k
theorem r_l2i {x : Int64} (hd : decode M.2.1 pc = .ok (.l2i, 1)) (k : pw_Wp E M d (pc + 1) L (.int x.toInt32 :: st) w Post) : pw_Wp E M d pc L (.long x :: st) w Post :=
  pw_go (fun p e R s m args below meth c H locs cells slots ls Q hC _ _ hH hL kk => lv_l2i hC.1 hC.2.1 hd rfl (kk ls hL)) k
theorem r_i2b {x : Int32} (hd : decode M.2.1 pc = .ok (.i2b, 1)) (k : pw_Wp E M d (pc + 1) L (.int x.toInt8.toInt32 :: st) w Post) : pw_Wp E M d pc L (.int x :: st) w Post :=
  pw_go (fun p e R s m args below meth c H locs cells slots ls Q hC _ _ hH hL kk => lv_i2b hC.1 hC.2.1 hd rfl (kk ls hL)) k
theorem r_i2c {x : Int32} (hd : decode M.2.1 pc = .ok (.i2c, 1)) (k : pw_Wp E M d (pc + 1) L (.int (x.toUInt32 % 65536).toInt32 :: st) w Post) : pw_Wp E M d pc L (.int x :: st) w Post :=
  pw_go (fun p e R s m args below meth c H locs cells slots ls Q hC _ _ hH hL kk => lv_i2c hC.1 hC.2.1 hd rfl (kk ls hL)) k
theorem r_ladd {x y : Int64} (hd : decode M.2.1 pc = .ok (.ladd, 1)) (k : pw_Wp E M d (pc + 1) L (.long (x + y) :: st) w Post) : pw_Wp E M d pc L (.long y :: .long x :: st) w Post :=
  pw_go (fun p e R s m args below meth c H locs cells slots ls Q hC _ _ hH hL kk => lv_ladd hC.1 hC.2.1 hd (kk ls hL)) k
theorem r_land {x y : Int64} (hd : decode M.2.1 pc = .ok (.land, 1)) (k : pw_Wp E M d (pc + 1) L (.long (x &&& y) :: st) w Post) : pw_Wp E M d pc L (.long y :: .long x :: st) w Post :=
  pw_go (fun p e R s m args below meth c H locs cells slots ls Q hC _ _ hH hL kk => lv_land hC.1 hC.2.1 hd (kk ls hL)) k
theorem r_lor {x y : Int64} (hd : decode M.2.1 pc = .ok (.lor, 1)) (k : pw_Wp E M d (pc + 1) L (.long (x ||| y) :: st) w Post) : pw_Wp E M d pc L (.long y :: .long x :: st) w Post :=
  pw_go (fun p e R s m args below meth c H locs cells slots ls Q hC _ _ hH hL kk => lv_lor hC.1 hC.2.1 hd (kk ls hL)) k
theorem r_lshl {x : Int64} {y : Int32} (hd : decode M.2.1 pc = .ok (.lshl, 1)) (k : pw_Wp E M d (pc + 1) L (.long (x <<< (y.toInt64 &&& 63)) :: st) w Post) : pw_Wp E M d pc L (.int y :: .long x :: st) w Post :=
  pw_go (fun p e R s m args below meth c H locs cells slots ls Q hC _ _ hH hL kk => lv_lshl hC.1 hC.2.1 hd rfl (kk ls hL)) k
theorem r_lshr {x : Int64} {y : Int32} (hd : decode M.2.1 pc = .ok (.lshr, 1)) (k : pw_Wp E M d (pc + 1) L (.long (x >>> (y.toInt64 &&& 63)) :: st) w Post) : pw_Wp E M d pc L (.int y :: .long x :: st) w Post :=
  pw_go (fun p e R s m args below meth c H locs cells slots ls Q hC _ _ hH hL kk => lv_lshr hC.1 hC.2.1 hd rfl (kk ls hL)) k
theorem r_lcmp {x y : Int64} (hd : decode M.2.1 pc = .ok (.lcmp, 1)) (k : pw_Wp E M d (pc + 1) L (.int (lg_cmp x y) :: st) w Post) : pw_Wp E M d pc L (.long y :: .long x :: st) w Post :=
  pw_go (fun p e R s m args below meth c H locs cells slots ls Q hC _ _ hH hL kk => W.lcmp hC.1 hC.2.1 hd (kk ls hL)) k
theorem pw_cat_rf (o : Option Nat) : (va_rf o).category = 1 := by cases o <;> rfl
theorem r_dup {v : Value} (hd : decode M.2.1 pc = .ok (.dup, 1)) (hv : v.category = 1) (k : pw_Wp E M d (pc + 1) L (v :: v :: st) w Post) : pw_Wp E M d pc L (v :: st) w Post :=
  pw_go (fun p e R s m args below meth c H locs cells slots ls Q hC _ _ hH hL kk => lv_dup hC.1 hC.2.1 hd hv (kk ls hL)) k
theorem r_pop {v : Value} (hd : decode M.2.1 pc = .ok (.pop, 1)) (hv : v.category = 1) (k : pw_Wp E M d (pc + 1) L st w Post) : pw_Wp E M d pc L (v :: st) w Post :=
  pw_go (fun p e R s m args below meth c H locs cells slots ls Q hC _ _ hH hL kk => lv_pop hC.1 hC.2.1 hd hv (kk ls hL)) k
theorem r_dup_x1 {v u : Value} (hd : decode M.2.1 pc = .ok (.dup_x1, 1)) (hv : v.category = 1) (hu : u.category = 1) (k : pw_Wp E M d (pc + 1) L (v :: u :: v :: st) w Post) : pw_Wp E M d pc L (v :: u :: st) w Post :=
  pw_go (fun p e R s m args below meth c H locs cells slots ls Q hC _ _ hH hL kk => lv_dup_x1 hC.1 hC.2.1 hd hv hu (kk ls hL)) k
theorem r_dup2 {v u : Value} (hd : decode M.2.1 pc = .ok (.dup2, 1)) (hv : v.category = 1) (hu : u.category = 1) (k : pw_Wp E M d (pc + 1) L (v :: u :: v :: u :: st) w Post) : pw_Wp E M d pc L (v :: u :: st) w Post :=
  pw_go (fun p e R s m args below meth c H locs cells slots ls Q hC _ _ hH hL kk => lv_dup2_11 hC.1 hC.2.1 hd hv hu (kk ls hL)) k
theorem r_goto {off : Int} (hd : decode M.2.1 pc = .ok (.goto off, 3)) (tgt : Nat) (ht : (pc : Int) + off = (tgt : Int)) (k : pw_Wp E M d tgt L st w Post) : pw_Wp E M d pc L st w Post :=
  pw_go (fun p e R s m args below meth c H locs cells slots ls Q hC _ _ hH hL kk => lv_goto hC.1 hC.2.1 hd ht (kk ls hL)) k
end
