set_option maxRecDepth 100000
/-! what a call answers: an int, a reference, nothing, a long; or q is thrown -/
def c_i (K : Int32 → pw_W → Prop) : pw_R → pw_W → Prop := fun r w => ∃ x : Int32, r = .inl (some (.int x)) ∧ K x w
def c_r (K : Option Nat → pw_W → Prop) : pw_R → pw_W → Prop := fun r w => ∃ o : Option Nat, r = .inl (some (va_rf o)) ∧ K o w
def c_v (K : pw_W → Prop) : pw_R → pw_W → Prop := fun r w => r = .inl none ∧ K w
def c_l (K : Int64 → pw_W → Prop) : pw_R → pw_W → Prop := fun r w => ∃ x : Int64, r = .inl (some (.long x)) ∧ K x w
def c_x (K : pw_R → pw_W → Prop) (X : Nat → pw_W → Prop) : pw_R → pw_W → Prop := fun r w => K r w ∨ ∃ q : Nat, r = .inr q ∧ X q w
theorem pw_nx_i {E : pw_E} {M : pw_M} {d pc len : Nat} {L : List (Option Value)} {st : List Value} {Post : pw_R → pw_W → Prop} {K : Int32 → pw_W → Prop} (h : ∀ x w, K x w → pw_Wp E M d (pc + len) L (.int x :: st) w Post) : ∀ r w, c_i K r w → pw_nx E M d pc len L st Post r w := by
  rintro r w ⟨x, rfl, k⟩
  exact h x w k
theorem pw_nx_r {E : pw_E} {M : pw_M} {d pc len : Nat} {L : List (Option Value)} {st : List Value} {Post : pw_R → pw_W → Prop} {K : Option Nat → pw_W → Prop} (h : ∀ x w, K x w → pw_Wp E M d (pc + len) L (va_rf x :: st) w Post) : ∀ r w, c_r K r w → pw_nx E M d pc len L st Post r w := by
  rintro r w ⟨x, rfl, k⟩
  exact h x w k
theorem pw_nx_v {E : pw_E} {M : pw_M} {d pc len : Nat} {L : List (Option Value)} {st : List Value} {Post : pw_R → pw_W → Prop} {K : pw_W → Prop} (h : ∀ w, K w → pw_Wp E M d (pc + len) L st w Post) : ∀ r w, c_v K r w → pw_nx E M d pc len L st Post r w := by
  rintro r w ⟨rfl, k⟩
  exact h w k
theorem pw_nx_l {E : pw_E} {M : pw_M} {d pc len : Nat} {L : List (Option Value)} {st : List Value} {Post : pw_R → pw_W → Prop} {K : Int64 → pw_W → Prop} (h : ∀ x w, K x w → pw_Wp E M d (pc + len) L (.long x :: st) w Post) : ∀ r w, c_l K r w → pw_nx E M d pc len L st Post r w := by
  rintro r w ⟨x, rfl, k⟩
  exact h x w k
theorem pw_nx_x {E : pw_E} {M : pw_M} {d pc len : Nat} {L : List (Option Value)} {st : List Value} {Post K : pw_R → pw_W → Prop} {X : Nat → pw_W → Prop} (h : ∀ r w, K r w → pw_nx E M d pc len L st Post r w) (hx : ∀ q w, X q w → pw_Wx E M d q pc L w Post) : ∀ r w, c_x K X r w → pw_nx E M d pc len L st Post r w := by
  rintro r w (k | ⟨q, rfl, k⟩)
  · exact h r w k
  · exact hx q w k
/-- not java.lang.invoke's, as many arguments -/
def pw_ny (y : MethodName) (n : Nat) : Prop := (y.cls ≠ "java/lang/invoke/MethodHandle" ∧ y.cls ≠ "java/lang/invoke/VarHandle") ∧ (parseMethodDescriptor y.desc).map (fun d => d.parameters.length) = some n
section
variable {E : pw_E} {M : pw_M} {d pc : Nat} {L : List (Option Value)} {st stk : List Value} {w : pw_W} {Post : pw_R → pw_W → Prop}
theorem pw_recv {s : State} {p : Program} {m : MethodId} {args : Array Value} {meth : Method} {c : Code} (hC : pw_C E M p s m args meth c) {H : Heap} (hH : pw_Hp E w H) {a k : Nat} {us : List Value} (ha : w.1 a = some (k, us)) {r : vw_C} (hk : pw_cl[k]? = some r) : ∃ (cell : Cell) (kB : Class), H[a]? = some cell ∧ cell.vm.isStatics = false ∧ s.vm.findClass r.1 = some cell.cls ∧ s.vm.classes[cell.cls]? = some kB := by
  obtain ⟨cell, q1, q2, q3, -⟩ := hH.2.2.2 a _ ha
  obtain ⟨-, h1, kC, h2, -⟩ := hC.2.2.2.2.2.2.2.2.1.1 k r hk
  exact ⟨cell, kC, q1, q3.stat, by rw [q2]; exact h1, by rw [q2]; exact h2⟩
theorem r_V {index : Nat} (hd : decode M.2.1 pc = .ok (.invokevirtual index, 3)) (My : pw_M) (hk : pw_known My) (h1 : Cond.methodLink M.1.cls index My.1 ∈ lw_all) (h2 : Cond.instanceMethod My.1 ∈ lw_all) (k : Nat) (r : vw_C) (hr : pw_cl[k]? = some r) (h3 : Cond.selects r.1 My.1 My.1 ∈ lw_all)
    {av : List Value} (hy : pw_ny My.1 av.length) {a : Nat} {us : List Value} (ha : w.1 a = some (k, us)) (hs : stk = av.reverse ++ va_rf (some a) :: st) (hst : pw_cs st) {dy : Nat} (hd1 : dy + 1 ≤ d) (hc : pw_Cl E My dy (va_rf (some a) :: av) w (pw_nx E M d pc 3 L st Post)) : pw_Wp E M d pc L stk w Post := by
  obtain ⟨r1, w1, hp, hEv⟩ := hc
  refine r_call hEv hk hd1 hst (fun p e R s m args below meth c locs cells slots ls T hC hH X => ?_) hp
  obtain ⟨cell, kB, q1, q2, q3, q4⟩ := pw_recv hC hH ha hr
  obtain ⟨hx, hb, -, -, -, hown, -, hts, -⟩ := hC
  exact rs_V X hx hown (hts _ h1) (hts _ h2) (hts _ h3) (pw_cw_sg (hts _ hk.1)) hy.1 q1 q2 q3 rfl hy.2 hs (by rw [hb]; exact hd)
theorem r_VN {index : Nat} (hd : decode M.2.1 pc = .ok (.invokevirtual index, 3)) (host : String) (My : pw_M) (hk : pw_known My) (h1 : Cond.methodLinkNest M.1.cls index My.1 host ∈ lw_tbl) (h2 : Cond.instanceMethod My.1 ∈ lw_all) (k : Nat) (r : vw_C) (hr : pw_cl[k]? = some r) (h3 : Cond.selects r.1 My.1 My.1 ∈ lw_all)
    {av : List Value} (hy : pw_ny My.1 av.length) {a : Nat} {us : List Value} (ha : w.1 a = some (k, us)) (hs : stk = av.reverse ++ va_rf (some a) :: st) (hst : pw_cs st) {dy : Nat} (hd1 : dy + 1 ≤ d) (hc : pw_Cl E My dy (va_rf (some a) :: av) w (pw_nx E M d pc 3 L st Post)) : pw_Wp E M d pc L stk w Post := by
  obtain ⟨r1, w1, hp, hEv⟩ := hc
  refine r_call hEv hk hd1 hst (fun p e R s m args below meth c locs cells slots ls T hC hH X => ?_) hp
  obtain ⟨cell, kB, q1, q2, q3, q4⟩ := pw_recv hC hH ha hr
  obtain ⟨hx, hb, -, -, -, hown, -, hts, hO, -⟩ := hC
  exact rs_VN X hx hown (va_Nw.use rfl (hO.2.2.2.1 _ h1 rfl)) (hts _ h2) (hts _ h3) (pw_cw_sg (hts _ hk.1)) hy.1 q1 q2 q3 rfl hy.2 hs (by rw [hb]; exact hd)
/-- by the receiver's class: the name's own class is another, or abstract -/
theorem r_U {index : Nat} (hd : decode M.2.1 pc = .ok (.invokevirtual index, 3)) (x : MethodName) (owner : String) (My : pw_M) (hk : pw_known My) (h1 : Cond.methodLink M.1.cls index x ∈ lw_all) (h5 : Cond.sameMethod x.cls owner x.name x.desc ∈ lw_all) (h2 : Cond.instanceMethod My.1 ∈ lw_all) (k : Nat) (r : vw_C) (hr : pw_cl[k]? = some r) (h3 : Cond.selects r.1 x My.1 ∈ lw_all)
    (h6 : (Cond.declares ⟨owner, x.name, x.desc⟩ ∈ lw_tbl) ∨ (∃ Mo : pw_M, Mo.1 = ⟨owner, x.name, x.desc⟩ ∧ pw_cw Mo ∈ lw_all ∧ Cond.instanceMethod Mo.1 ∈ lw_all)) (ho : owner ≠ "java/lang/invoke/MethodHandle" ∧ owner ≠ "java/lang/invoke/VarHandle")
    {av : List Value} (hy : (parseMethodDescriptor x.desc).map (fun d => d.parameters.length) = some av.length) {a : Nat} {us : List Value} (ha : w.1 a = some (k, us)) (hs : stk = av.reverse ++ va_rf (some a) :: st) (hst : pw_cs st) {dy : Nat} (hd1 : dy + 1 ≤ d) (hc : pw_Cl E My dy (va_rf (some a) :: av) w (pw_nx E M d pc 3 L st Post)) : pw_Wp E M d pc L stk w Post := by
  obtain ⟨r1, w1, hp, hEv⟩ := hc
  refine r_call hEv hk hd1 hst (fun p e R s m args below meth c locs cells slots ls T hC hH X => ?_) hp
  obtain ⟨cell, kB, q1, q2, q3, q4⟩ := pw_recv hC hH ha hr
  obtain ⟨hx, hb, -, -, -, hown, -, hts, hO, -⟩ := hC
  have hdc : va_Decl s ⟨owner, x.name, x.desc⟩ := by
    rcases h6 with h6 | ⟨Mo, e1, e2, e3⟩
    · exact va_Decl.abs (hO.2.2.2.1 _ h6 rfl)
    · obtain ⟨mk, methM, n1, n2, n3⟩ := pw_cw_sg (hts _ e2)
      obtain ⟨mk', methM', n1', n2', n3', -⟩ := Cond.instanceMethod_spec (hts _ e3)
      cases n1.symm.trans n1'
      cases n2.symm.trans n2'
      rw [← e1]
      exact ⟨mk, methM, n1, n2, n3', n3⟩
  exact rs_U X hx hown (hts _ h1) (hts _ h5) hdc ho (hts _ h3) (hts _ h2) q1 q2 q3 rfl hy hs (by rw [hb]; exact hd)
theorem r_F {index count : Nat} (hd : decode M.2.1 pc = .ok (.invokeinterface index count, 5)) (x : MethodName) (My : pw_M) (hk : pw_known My) (h1 : Cond.methodLink M.1.cls index x ∈ lw_all) (h2 : Cond.instanceMethod My.1 ∈ lw_all) (k : Nat) (r : vw_C) (hr : pw_cl[k]? = some r) (h3 : Cond.selects r.1 x My.1 ∈ lw_all) (hF : (r.1, x, My.1) ∈ pw_fw)
    {av : List Value} (hy : pw_ny x av.length) {a : Nat} {us : List Value} (ha : w.1 a = some (k, us)) (hs : stk = av.reverse ++ va_rf (some a) :: st) (hst : pw_cs st) {dy : Nat} (hd1 : dy + 1 ≤ d) (hc : pw_Cl E My dy (va_rf (some a) :: av) w (pw_nx E M d pc 5 L st Post)) : pw_Wp E M d pc L stk w Post := by
  obtain ⟨r1, w1, hp, hEv⟩ := hc
  refine r_call hEv hk hd1 hst (fun p e R s m args below meth c locs cells slots ls T hC hH X => ?_) hp
  obtain ⟨cell, kB, q1, q2, q3, q4⟩ := pw_recv hC hH ha hr
  obtain ⟨hx, hb, -, -, -, hown, -, hts, hO, -⟩ := hC
  exact rs_F X hx hown (hts _ h1) (hO.2.2.2.2.1 _ hF) (hts _ h3) (hts _ h2) hy.1 q1 q2 q3 q4 rfl hy.2 hs (by rw [hb]; exact hd)
theorem r_S {index : Nat} (hd : decode M.2.1 pc = .ok (.invokestatic index, 3)) (My : pw_M) (hk : pw_known My) (h1 : Cond.methodLink M.1.cls index My.1 ∈ lw_all) (h2 : Cond.static My.1 ∈ lw_all)
    {av : List Value} (hy : pw_ny My.1 av.length) (hs : stk = av.reverse ++ st) (hst : pw_cs st) {dy : Nat} (hd1 : dy + 1 ≤ d) (hc : pw_Cl E My dy av w (pw_nx E M d pc 3 L st Post)) : pw_Wp E M d pc L stk w Post := by
  obtain ⟨r1, w1, hp, hEv⟩ := hc
  refine r_call hEv hk hd1 hst (fun p e R s m args below meth c locs cells slots ls T hC hH X => ?_) hp
  obtain ⟨hx, hb, -, -, -, hown, -, hts, -⟩ := hC
  exact rs_S X hx hown (hts _ h1) (hts _ h2) (hts _ hk.2.1) (pw_cw_sg (hts _ hk.1)) hy.1 rfl hy.2 hs (by rw [hb]; exact hd)
theorem r_SN {index : Nat} (hd : decode M.2.1 pc = .ok (.invokestatic index, 3)) (host : String) (My : pw_M) (hk : pw_known My) (h1 : Cond.methodLinkNest M.1.cls index My.1 host ∈ lw_tbl) (h2 : Cond.static My.1 ∈ lw_all)
    {av : List Value} (hy : pw_ny My.1 av.length) (hs : stk = av.reverse ++ st) (hst : pw_cs st) {dy : Nat} (hd1 : dy + 1 ≤ d) (hc : pw_Cl E My dy av w (pw_nx E M d pc 3 L st Post)) : pw_Wp E M d pc L stk w Post := by
  obtain ⟨r1, w1, hp, hEv⟩ := hc
  refine r_call hEv hk hd1 hst (fun p e R s m args below meth c locs cells slots ls T hC hH X => ?_) hp
  obtain ⟨hx, hb, -, -, -, hown, -, hts, hO, -⟩ := hC
  exact rs_SN X hx hown (va_Nw.use rfl (hO.2.2.2.1 _ h1 rfl)) (hts _ h2) (hts _ hk.2.1) (pw_cw_sg (hts _ hk.1)) hy.1 rfl hy.2 hs (by rw [hb]; exact hd)
theorem r_I {index : Nat} (hd : decode M.2.1 pc = .ok (.invokespecial index, 3)) (My : pw_M) (hk : pw_known My) (hi : My.1.name = "<init>") (hn : My.2.2.2 = (none, [])) (h1 : Cond.methodLink M.1.cls index My.1 ∈ lw_all) (h2 : Cond.instanceMethod My.1 ∈ lw_all)
    {av : List Value} (hy : pw_ny My.1 av.length) {a : Nat} (hs : stk = av.reverse ++ va_rf (some a) :: st) (hst : pw_cs st) {dy : Nat} (hd1 : dy + 1 ≤ d) (hc : pw_Cl E My dy (va_rf (some a) :: av) w (pw_nx E M d pc 3 L st Post)) : pw_Wp E M d pc L stk w Post := by
  obtain ⟨r1, w1, hp, hEv⟩ := hc
  refine r_call hEv hk hd1 hst (fun p e R s m args below meth c locs cells slots ls T hC hH X => ?_) hp
  obtain ⟨hx, hb, -, -, -, hown, -, hts, -⟩ := hC
  obtain ⟨y, b, mL, rt, hh⟩ := My
  cases hn
  exact rs_I (y := y) (bytes := b) (maxL := mL) X hx hown hi (hts _ h1) (hts _ h2) (hts _ hk.1) hy.1 rfl hy.2 hs (by rw [hb]; exact hd)
theorem r_IN {index : Nat} (hd : decode M.2.1 pc = .ok (.invokespecial index, 3)) (host : String) (My : pw_M) (hk : pw_known My) (hi : My.1.name = "<init>") (hn : My.2.2.2 = (none, [])) (h1 : Cond.methodLinkNest M.1.cls index My.1 host ∈ lw_tbl) (h2 : Cond.instanceMethod My.1 ∈ lw_all)
    {av : List Value} (hy : pw_ny My.1 av.length) {a : Nat} (hs : stk = av.reverse ++ va_rf (some a) :: st) (hst : pw_cs st) {dy : Nat} (hd1 : dy + 1 ≤ d) (hc : pw_Cl E My dy (va_rf (some a) :: av) w (pw_nx E M d pc 3 L st Post)) : pw_Wp E M d pc L stk w Post := by
  obtain ⟨r1, w1, hp, hEv⟩ := hc
  refine r_call hEv hk hd1 hst (fun p e R s m args below meth c locs cells slots ls T hC hH X => ?_) hp
  obtain ⟨hx, hb, -, -, -, hown, -, hts, hO, -⟩ := hC
  obtain ⟨y, b, mL, rt, hh⟩ := My
  cases hn
  exact rs_IN (y := y) (bytes := b) (maxL := mL) X hx hown hi (va_Nw.use rfl (hO.2.2.2.1 _ h1 rfl)) (hts _ h2) (hts _ hk.1) hy.1 rfl hy.2 hs (by rw [hb]; exact hd)
end
