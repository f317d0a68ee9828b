set_option maxRecDepth 100000
/-! calls through an interface, to an object of a class or to a lambda; enums; clone; mirrors -/
def lm_rt (ret : Option FieldType) (v : Value) : Prop := (∃ (x : Int32) (ty : FieldType), v = .int x ∧ ret = some ty ∧ narrow ty (.int x) = .int x ∧ ∀ t, ty ≠ .array t) ∨ (∃ (o : Option Nat) (ty : FieldType), v = va_rf o ∧ ret = some (.array ty))
theorem lm_rvi {K : lm_K} {pc : Nat} {ty : FieldType} (hd : decode K.1 pc = .ok (.ireturn, 1)) (ht : ∀ t, ty ≠ .array t) : ∀ v, lm_rt (some ty) v → lm_rv K pc (some ty) v := by
  rintro v (⟨x, t, h1, h2, h3, -⟩ | ⟨o, t, h1, h2⟩)
  · exact Or.inl ⟨x, t, h1, h2, h3, hd⟩
  · cases h2
    exact absurd rfl (ht t)
theorem lm_rva {K : lm_K} {pc : Nat} {ty : FieldType} (hd : decode K.1 pc = .ok (.areturn, 1)) : ∀ v, lm_rt (some (.array ty)) v → lm_rv K pc (some (.array ty)) v := by
  rintro v (⟨x, t, h1, h2, h3, h4⟩ | ⟨o, t, h1, h2⟩)
  · cases h2
    exact absurd rfl (h4 ty)
  · exact Or.inr ⟨o, t, h1, h2, hd⟩
theorem lm_rz {K : Bool → pw_W → Prop} : ∀ r w, c_z K r w → ∃ v, r = .inl (some v) ∧ lm_rt (some .boolean) v := by
  rintro r w ⟨b, rfl, -⟩
  exact ⟨_, rfl, Or.inl ⟨_, _, rfl, rfl, nar_bI b, by rintro t ⟨⟩⟩⟩
theorem lm_ri {K : Int32 → pw_W → Prop} : ∀ r w, c_i K r w → ∃ v, r = .inl (some v) ∧ lm_rt (some .int) v := by
  rintro r w ⟨x, rfl, -⟩
  exact ⟨_, rfl, Or.inl ⟨_, _, rfl, rfl, rfl, by rintro t ⟨⟩⟩⟩
theorem lm_rr {K : Option Nat → pw_W → Prop} {ty : FieldType} : ∀ r w, c_r K r w → ∃ v, r = .inl (some v) ∧ lm_rt (some (.array ty)) v := by
  rintro r w ⟨x, rfl, -⟩
  exact ⟨_, rfl, Or.inr ⟨_, _, rfl, rfl⟩⟩
/-- a lambda at a of the site i: its method x calls My with what is captured ahead of the arguments -/
def lm_site (w : pw_W) (i a : Nat) (x : MethodName) (ret : Option FieldType) (av : List Value) (My : pw_M) (cv : List Value) : Prop := ∃ (q : lm_S) (K : lm_K) (pcI : Nat),
  (pw_la[i]? = some q ∧ lm_ok q.1.cls q.2.2.2 K ∧ plainName (q.1.cls ++ "$$Lambda") = true ∧ q.2.2.2.iface = x.cls ∧ q.2.2.2.name = x.name ∧ q.2.2.2.sam.toString = x.desc ∧ q.2.2.2.sam.returnType = ret) ∧
  (lm_my q My ∧ pw_known My) ∧ ((lg_sl (Value.ref a :: av)).length = K.2.1 ∧ K.2.1 ≤ 3) ∧ lm_Ld K pcI K.2.1 a cv av ∧ (∀ v, lm_rt ret v → lm_rv K (pcI + 3) ret v) ∧
  ((pw_ny My.1 (cv ++ av).length ∧ Cond.static My.1 ∈ lw_all ∧ decode K.1 pcI = .ok (.invokestatic K.2.2.2.1, 3)) ∨
   (∃ (b k : Nat) (cv' us : List Value) (r : vw_C), cv = .ref b :: cv' ∧ pw_ny My.1 (cv' ++ av).length ∧ Cond.instanceMethod My.1 ∈ lw_all ∧ pw_cl[k]? = some r ∧ Cond.selects r.1 My.1 My.1 ∈ lw_all ∧ w.1 b = some (k, us) ∧ decode K.1 pcI = .ok (.invokevirtual K.2.2.2.1, 3)))
/-- the object at o does K when x is called -/
def f_F (E : pw_E) (w : pw_W) (o : Option Nat) (x : MethodName) (ret : Option FieldType) (e : Nat) (av : List Value) (K : pw_R → pw_W → Prop) : Prop := ∃ a : Nat, o = some a ∧
  ((∃ (k : Nat) (us : List Value) (r : vw_C) (My : pw_M), w.1 a = some (k, us) ∧ pw_cl[k]? = some r ∧ pw_known My ∧ Cond.instanceMethod My.1 ∈ lw_all ∧ Cond.selects r.1 x My.1 ∈ lw_all ∧ (r.1, x, My.1) ∈ pw_fw ∧ pw_Cl E My e (va_rf (some a) :: av) w K) ∨
   (∃ (i : Nat) (cv : List Value) (My : pw_M) (e0 : Nat), w.1 a = some (2000 + i, cv) ∧ lm_site w i a x ret av My cv ∧ e = e0 + 1 ∧ pw_Cl E My e0 (cv ++ av) w K))
theorem f_F.mono {E : pw_E} {w : pw_W} {o : Option Nat} {x : MethodName} {ret : Option FieldType} {e : Nat} {av : List Value} {K K' : pw_R → pw_W → Prop} (h : f_F E w o x ret e av K) (hk : ∀ r w', K r w' → K' r w') : f_F E w o x ret e av K' := by
  obtain ⟨a, rfl, ⟨k, us, r, My, h1, h2, h3, h4, h5, h6, h7⟩ | ⟨i, cv, My, e0, h1, h2, h3, h4⟩⟩ := h
  · exact ⟨a, rfl, Or.inl ⟨k, us, r, My, h1, h2, h3, h4, h5, h6, h7.mono hk⟩⟩
  · exact ⟨a, rfl, Or.inr ⟨i, cv, My, e0, h1, h2, h3, h4.mono hk⟩⟩
section
variable {E : pw_E} {M : pw_M} {d pc : Nat} {L : List (Option Value)} {st stk : List Value} {w : pw_W} {Post : pw_R → pw_W → Prop}
theorem r_FF {index count : Nat} (hd : decode M.2.1 pc = .ok (.invokeinterface index count, 5)) (x : MethodName) (h1 : Cond.methodLink M.1.cls index x ∈ lw_all) (h2 : Cond.declares x ∈ lw_tbl) (ret : Option FieldType) {av : List Value} (hy : pw_ny x av.length) {o : Option Nat} {e : Nat} {KK : pw_R → pw_W → Prop}
    (H : f_F E w o x ret e av KK) (hs : stk = av.reverse ++ va_rf o :: st) (hst : pw_cs st) (hret : ∀ r w', KK r w' → ∃ v, r = .inl (some v) ∧ lm_rt ret v) (kk : ∀ r w', KK r w' → pw_nx E M (e + 1) pc 5 L st Post r w') : pw_Wp E M (e + 1) pc L stk w Post := by
  obtain ⟨a, rfl, ⟨k, us, r, My, ha, hr, hk, h3, h4, hF, hc⟩ | ⟨i, cv, My, e0, ha, ⟨q, K, pcI, ⟨s1, s2, s3, s4, s5, s6, rfl⟩, ⟨s7, s8⟩, ⟨s9, s10⟩, s11, s12, s13⟩, rfl, hc⟩⟩ := H
  · exact r_F hd x My hk h1 h3 k r hr h4 hF hy ha hs hst (Nat.le_refl _) (hc.mono kk)
  · obtain ⟨r1, w1, hK, hEv⟩ := hc
    obtain ⟨v, rfl, hrt⟩ := hret _ _ hK
    have nx := kk _ _ hK
    rcases s13 with ⟨t1, t2, t3⟩ | ⟨b, k, cv', us, r, rfl, t1, t2, t3, t4, t5, t6⟩
    · exact lm_enter s1 s2 s3 hd x s4 s5 s6 h1 h2 hy s9 s10 ha hs hst rfl (lm_runS s1 s2 s11 s7 s8 t1 t2 ha t3 hEv (s12 v hrt) (Nat.le_refl _)) nx
    · exact lm_enter s1 s2 s3 hd x s4 s5 s6 h1 h2 hy s9 s10 ha hs hst rfl (lm_runV s1 s2 s11 s7 s8 t1 t2 k r t3 t4 ha t5 t6 hEv (s12 v hrt) (Nat.le_refl _)) nx
/-- an enum's ordinal, read in Enum.ordinal -/
theorem r_getE {index : Nat} (hd : decode M.2.1 pc = .ok (.getfield index, 3)) (hw : Cond.fieldLink M.1.cls index "java/lang/Enum" "ordinal" "I" ∈ lw_all) {a i : Nat} {nm : String} (hi : pw_en[i]? = some nm) {x : Int32} (ha : w.1 a = some (29 + i, [.int x])) (kk : pw_Wp E M d (pc + 3) L (.int x :: st) w Post) : pw_Wp E M d pc L (va_rf (some a) :: st) w Post := by
  refine pw_go (fun p e R s m args below meth c H locs cells slots ls Q hC _ _ hH hL kk => ?_) kk
  obtain ⟨hx, hb, -, -, -, hown, -, hts, hO, -⟩ := hC
  obtain ⟨cell, q1, q2, q3, q4⟩ := hH.2.2.2 a _ ha
  obtain ⟨-, -, cf, kf, fi, f, h1, h2, h3⟩ := hO.2.2.2.2.2.2.2.2.1 i nm hi
  have hi2 : i < 2 := (List.getElem?_eq_some_iff.mp hi).1
  rw [if_pos (show 29 + i < 1000 by omega)] at q4
  refine W.getf hx hb hown (hts _ hw) h1 h2 q1 q3.known (v := .int x) ?_ rfl rfl hd (kk ls hL)
  rw [h3]
  exact q4.2 0 _ rfl
theorem r_UE {index : Nat} (hd : decode M.2.1 pc = .ok (.invokevirtual index, 3)) (x : MethodName) (owner : String) (My : pw_M) (hk : pw_known My) (h1 : Cond.methodLink M.1.cls index x ∈ lw_all) (h5 : Cond.sameMethod x.cls owner x.name x.desc ∈ lw_all) (h2 : Cond.instanceMethod My.1 ∈ lw_all) {i : Nat} {nm : String} (hi : pw_en[i]? = some nm) (h3 : Cond.selects nm x My.1 ∈ lw_all)
    (h6 : Cond.declares ⟨owner, x.name, x.desc⟩ ∈ lw_tbl) (ho : owner ≠ "java/lang/invoke/MethodHandle" ∧ owner ≠ "java/lang/invoke/VarHandle")
    {av : List Value} (hy : (parseMethodDescriptor x.desc).map (fun d => d.parameters.length) = some av.length) {a : Nat} {us : List Value} (ha : w.1 a = some (29 + i, us)) (hs : stk = av.reverse ++ va_rf (some a) :: st) (hst : pw_cs st) {dy : Nat} (hd1 : dy + 1 ≤ d) (hc : pw_Cl E My dy (va_rf (some a) :: av) w (pw_nx E M d pc 3 L st Post)) : pw_Wp E M d pc L stk w Post := by
  obtain ⟨r1, w1, hp, hEv⟩ := hc
  refine r_call hEv hk hd1 hst (fun p e R s m args below meth c locs cells slots ls T hC hH X => ?_) hp
  obtain ⟨hx, hb, -, -, -, hown, -, hts, hO, -⟩ := hC
  obtain ⟨cell, q1, q2, q3, q4⟩ := hH.2.2.2 a _ ha
  obtain ⟨g1, -, -⟩ := hO.2.2.2.2.2.2.2.2.1 i nm hi
  exact rs_U X hx hown (hts _ h1) (hts _ h5) (va_Decl.abs (hO.2.2.2.1 _ h6 rfl)) ho (hts _ h3) (hts _ h2) q1 q3.stat (by rw [q2]; exact g1) rfl hy hs (by rw [hb]; exact hd)
/-- an array's clone -/
theorem r_clone {index : Nat} (hd : decode M.2.1 pc = .ok (.invokevirtual index, 3)) (t : Nat) (ad : String) {ty : FieldType} (ht : pw_ar[t]? = some ty) (ht6 : t < 6) (had : "[" ++ ty.toString = ad) (hty : ∀ C, ty ≠ .object C) (hlink : Cond.methodLink M.1.cls index ⟨ad, "clone", "()Ljava/lang/Object;"⟩ ∈ lw_all) (hsame : Cond.sameMethod ad "java/lang/Object" "clone" "()Ljava/lang/Object;" ∈ lw_all)
    (hnat : Cond.native ⟨"java/lang/Object", "clone", "()Ljava/lang/Object;"⟩ ∈ lw_all) (hinst : Cond.instanceMethod ⟨"java/lang/Object", "clone", "()Ljava/lang/Object;"⟩ ∈ lw_all) (hsel : Cond.selects ad ⟨ad, "clone", "()Ljava/lang/Object;"⟩ ⟨"java/lang/Object", "clone", "()Ljava/lang/Object;"⟩ ∈ lw_all) (hcl : Cond.castable ad "java/lang/Cloneable" ∈ lw_tbl)
    {a : Nat} {vs : List Value} (ha : w.1 a = some (1000 + t, vs)) (hfit : ∀ v ∈ vs, fits ty v = true) (hdd : 1 ≤ d) (hst : pw_cs st) (kk : pw_Wp E M d (pc + 3) L (va_rf (some w.2.1) :: st) (pw_new w (1000 + t, vs) vs.length) Post) : pw_Wp E M d pc L (va_rf (some a) :: st) w Post := by
  refine pw_goN (n := vs.length) rfl rfl (fun p e R s m args below meth c H locs cells slots ls Q hC hf hl hH hL hc1 hc2 kk => ?_) kk
  obtain ⟨hx, hb, -, -, hml, hown, -, hts, hO, -⟩ := hC
  obtain ⟨cell, q1, q2, q3, q4⟩ := hH.2.2.2 a _ ha
  rw [if_neg (show ¬ 1000 + t < 1000 by omega)] at q4
  have hRA := hO.2.2.1 t ty ht6 ht
  have hnm : s.vm.findClass ad = some (E.2.1 (1000 + t)) := by
    rw [← had]
    cases ty with
    | object C => exact absurd rfl (hty C)
    | _ => exact hRA
  obtain ⟨c0, t0, f1, f2, f3⟩ := Cond.castable_spec (va_Nw.use (A := args) rfl (hO.2.2.2.1 _ hcl rfl))
  cases hnm.symm.trans f1
  intro T hT X
  obtain ⟨-, kA, hkA, comp, hkind⟩ := State.isArrayOf_alike X.warmed.alike ((hO.2.1 t ty ht) 0 (fun _ => .null))
  obtain ⟨-, kS, hkS, compS, hkindS⟩ := (hO.2.1 t ty ht) 0 (fun _ => .null)
  have hcs := hst
  unfold pw_cs at hcs
  obtain ⟨vm', X', step⟩ := X.cloneArray hx hown (hts _ hlink) (hts _ hsame) (hts _ hnat) (hts _ hinst) (hts _ hsel) (a := a) (cell := cell) (by rw [hT]; exact q1) (fun k h => q3.nost k h) q3.known (by rw [q2]; exact hnm) f2 (by rw [q2]; exact f3)
    (fun i v hv => by
      rw [q2]
      have hk' : T.vm.classes[E.2.1 (1000 + t)]? = some kA := hkA
      have hm : v ∈ vs := by rw [q4] at hv; exact List.mem_of_getElem? (by simpa using hv)
      simpa [State.fitsSlot, State.slotType?, hk', hkind] using hfit v hm)
    (g := F0 m pc ls (va_rf (some a) :: st)) rfl (by rw [hml]; exact hL.1) rfl (by rw [hb]; exact hd) (by omega) (by show 2 * 0 + _ + 14 ≤ _; omega) hc1 (by rw [q4]; simpa using hc2) (hloader := by rw [q2]; exact Vm.clonesLoader_of_array hkS hkindS)
  have hz : T.heap.size = w.2.1 := by rw [hT]; exact hH.1
  have hsz : cell.slots.size = vs.length := by rw [q4]; simp
  rw [hsz] at X'
  obtain ⟨t9, a1, a2⟩ := kk (H.push ({ cls := cell.cls, slots := cell.slots } : Cell)) (hH.push (by simp) (fun q hq => by rw [Array.getElem?_push, if_neg (by omega)]) ⟨{ cls := cell.cls, slots := cell.slots }, by simp, q2, ⟨Or.inl rfl, fun _ => ⟨rfl, rfl⟩⟩, by rw [if_neg (show ¬ 1000 + t < 1000 by omega)]; exact q4⟩) _ (by rw [← hT]; rfl) X'
  refine ⟨t9, step t9 ?_, a2⟩
  rw [hz]
  exact a1
/-- Object[]'s class object -/
theorem r_ldcM {index : Nat} (hd : decode M.2.1 pc = .ok (.ldc index, 2)) (hw : Cond.classLink M.1.cls index "[Ljava/lang/Object;" ∈ lw_all) {mi : Nat} (hm : E.2.2.2.2 100 = .ref mi) (kk : pw_Wp E M d (pc + 2) L (va_rf (some mi) :: st) w Post) : pw_Wp E M d pc L st w Post :=
  pw_go (fun p e R s m args below meth c H locs cells slots ls Q hC _ _ hH hL kk => by
    obtain ⟨hx, hb, -, -, -, hown, -, hts, hO, -⟩ := hC
    obtain ⟨mi', m1, m2⟩ := hO.2.2.2.2.2.2.2.2.2.2.1
    cases m1.symm.trans hm
    exact va_ldcM hx hb hown (hts _ hw) m2 hd (kk ls hL)) kk
theorem r_getC {index : Nat} (hd : decode M.2.1 pc = .ok (.invokevirtual index, 3)) (hlink : Cond.methodLink M.1.cls index ⟨"java/lang/Object", "getClass", "()Ljava/lang/Class;"⟩ ∈ lw_all) (hdecl : Cond.declares ⟨"java/lang/Object", "getClass", "()Ljava/lang/Class;"⟩ ∈ lw_tbl) (hsel : Cond.selects "[Ljava/lang/Object;" ⟨"java/lang/Object", "getClass", "()Ljava/lang/Class;"⟩ ⟨"java/lang/Object", "getClass", "()Ljava/lang/Class;"⟩ ∈ lw_all)
    (hinst : Cond.instanceMethod ⟨"java/lang/Object", "getClass", "()Ljava/lang/Class;"⟩ ∈ lw_all) (hnat : Cond.native ⟨"java/lang/Object", "getClass", "()Ljava/lang/Class;"⟩ ∈ lw_all) {mi a : Nat} {vs : List Value} (hm : E.2.2.2.2 100 = .ref mi) (ha : w.1 a = some (1003, vs)) (hdd : 1 ≤ d) (hst : pw_cs st) (kk : pw_Wp E M d (pc + 3) L (va_rf (some mi) :: st) w Post) : pw_Wp E M d pc L (va_rf (some a) :: st) w Post :=
  pw_goC (fun p e R s m args below meth c H locs cells slots ls Q hC hf hl hc hs hH hL kk => by
    obtain ⟨hx, hb, -, -, hml, hown, -, hts, hO, -⟩ := hC
    obtain ⟨mi', m1, m2⟩ := hO.2.2.2.2.2.2.2.2.2.2.1
    cases m1.symm.trans hm
    obtain ⟨cell, q1, q2, q3, q4⟩ := hH.2.2.2 a _ ha
    obtain ⟨kA, comp, r1, r2, r3, r4⟩ := hO.2.2.1 3 _ (by omega) rfl
    have hcs := hst
    unfold pw_cs at hcs
    exact va_getC hx hb (by rw [hml]; exact hL.1.symm) hown (hts _ hlink) (va_Nw.use rfl (hO.2.2.2.1 _ hdecl rfl)) (hts _ hsel) (hts _ hinst) (hts _ hnat) m2 ⟨cell, q1, q3.stat, by rw [q2]; exact r4⟩ (by omega) (by omega) hd (kk ls hL)) kk
end
def f_clone (w : pw_W) (t : Nat) (ty : FieldType) (o : Option Nat) (K : pw_W → Prop) : Prop := ∃ (a : Nat) (vs : List Value), o = some a ∧ w.1 a = some (1000 + t, vs) ∧ (∀ v ∈ vs, fits ty v = true) ∧ K (pw_new w (1000 + t, vs) vs.length)
def f_mi (E : pw_E) (K : Nat → Prop) : Prop := ∃ mi : Nat, E.2.2.2.2 100 = .ref mi ∧ K mi
def f_getE (w : pw_W) (o : Option Nat) (K : Int32 → Prop) : Prop := ∃ (a i : Nat) (nm : String) (x : Int32), o = some a ∧ pw_en[i]? = some nm ∧ w.1 a = some (29 + i, [.int x]) ∧ K x
