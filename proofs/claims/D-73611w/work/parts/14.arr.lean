set_option maxRecDepth 100000
/-! arrays, casts, statics -/
/-- an object of kind k is one of the class nm -/
def pw_can (k : Nat) (nm : String) : Prop := (∃ r : vw_C, pw_cl[k]? = some r ∧ k < 1000 ∧ (r.1 = nm ∨ Cond.castable r.1 nm ∈ lw_tbl)) ∨ ∃ (t : Nat) (ty : FieldType), k = 1000 + t ∧ t < 6 ∧ pw_ar[t]? = some ty ∧ ("[" ++ ty.toString = nm ∨ Cond.castable ("[" ++ ty.toString) nm ∈ lw_tbl)
theorem pw_Ok.arr {E : pw_E} {s : State} (hO : pw_Ok E s) {t : Nat} {ty : FieldType} (ht : pw_ar[t]? = some ty) : ∃ (kA : Class) (comp : ClassId), s.vm.classes[E.2.1 (1000 + t)]? = some kA ∧ kA.kind = .array comp ty := by
  obtain ⟨-, k, h1, comp, h2⟩ := hO.2.1 t ty ht 0 (fun _ => .null)
  exact ⟨k, comp, h1, h2⟩
theorem pw_Ok.arrNm {E : pw_E} {s : State} (hO : pw_Ok E s) {t : Nat} {ty : FieldType} (h6 : t < 6) (ht : pw_ar[t]? = some ty) : s.vm.findClass ("[" ++ ty.toString) = some (E.2.1 (1000 + t)) := by
  have h := hO.2.2.1 t ty h6 ht
  cases ty with
  | object C => obtain ⟨_, _, _, _, _, h4⟩ := h; exact h4
  | _ => exact h
theorem pw_can.use {E : pw_E} {s : State} (hO : pw_Ok E s) {k : Nat} {nm : String} (h : pw_can k nm) : ∃ cT : ClassId, s.vm.findClass nm = some cT ∧ s.vm.assignable (E.2.1 k) cT = true := by
  rcases h with ⟨r, hk, -, h⟩ | ⟨t, ty, rfl, h6, ht, h⟩
  · obtain ⟨-, hat⟩ := hO.1 k r hk
    rcases h with rfl | h
    · exact ⟨_, hat.1, va_assign hat⟩
    · obtain ⟨c0, t0, f1, f2, f3⟩ := Cond.castable_spec (va_Nw.use (A := #[]) rfl (hO.2.2.2.1 _ h rfl))
      cases hat.1.symm.trans f1
      exact ⟨t0, f2, f3⟩
  · have hn := hO.arrNm h6 ht
    rcases h with rfl | h
    · exact ⟨_, hn, va_asg _ _⟩
    · obtain ⟨c0, t0, f1, f2, f3⟩ := Cond.castable_spec (va_Nw.use (A := #[]) rfl (hO.2.2.2.1 _ h rfl))
      cases hn.symm.trans f1
      exact ⟨t0, f2, f3⟩
theorem pw_isArr {E : pw_E} {s : State} (hO : pw_Ok E s) {t : Nat} {ty : FieldType} (ht : pw_ar[t]? = some ty) {cell : Cell} {a : Nat} (hc : cell.cls = E.2.1 (1000 + t)) (hv : pw_vm E a cell) : s.isArrayOf cell ty := by
  obtain ⟨kA, comp, h1, h2⟩ := hO.arr ht
  exact ⟨fun q => hv.nost q, kA, by rw [hc]; exact h1, comp, h2⟩
theorem pw_arrc {E : pw_E} {w : pw_W} {H : Heap} (hH : pw_Hp E w H) {a t : Nat} {vs : List Value} (ha : w.1 a = some (1000 + t, vs)) : ∃ cell : Cell, H[a]? = some cell ∧ cell.cls = E.2.1 (1000 + t) ∧ pw_vm E a cell ∧ cell.slots = vs.toArray := by
  obtain ⟨cell, q1, q2, q3, q4⟩ := hH.2.2.2 a _ ha
  rw [if_neg (show ¬ 1000 + t < 1000 by omega)] at q4
  exact ⟨cell, q1, q2, q3, q4⟩
theorem pw_in_of {i : Int32} {vs : List Value} {v : Value} (h0 : ¬ i < 0) (hv : vs[i.toNatClampNeg]? = some v) {cell : Cell} (hs : cell.slots = vs.toArray) : ¬ (i < 0 ∨ cell.slots.size ≤ i.toNatClampNeg) := by
  have := (List.getElem?_eq_some_iff.mp hv).1
  rintro (h | h)
  · exact h0 h
  · rw [hs] at h
    simp at h
    omega
theorem pw_in_lt {i : Int32} {vs : List Value} (h0 : ¬ i < 0) (hv : i.toNatClampNeg < vs.length) {cell : Cell} (hs : cell.slots = vs.toArray) : ¬ (i < 0 ∨ cell.slots.size ≤ i.toNatClampNeg) := by
  rintro (h | h)
  · exact h0 h
  · rw [hs] at h
    simp at h
    omega
section
variable {E : pw_E} {M : pw_M} {d pc : Nat} {L : List (Option Value)} {st : List Value} {w : pw_W} {Post : pw_R → pw_W → Prop}
theorem r_iaload (hd : decode M.2.1 pc = .ok (.iaload, 1)) (t : Nat) (ht : pw_ar[t]? = some .int) {a : Nat} {vs : List Value} {i x : Int32} (ha : w.1 a = some (1000 + t, vs)) (h0 : ¬ i < 0) (hv : vs[i.toNatClampNeg]? = some (.int x)) (kk : pw_Wp E M d (pc + 1) L (.int x :: st) w Post) : pw_Wp E M d pc L (.int i :: va_rf (some a) :: st) w Post :=
  pw_go (fun p e R s m args below meth c H locs cells slots ls Q hC _ _ hH hL kk => by
    obtain ⟨cell, q1, q2, q3, q4⟩ := pw_arrc hH ha
    exact W.iald hC.1 hC.2.1 q1 (pw_isArr hC.2.2.2.2.2.2.2.2.1 ht q2 q3) q3.known (pw_in_of h0 hv q4) (v := .int x) (by rw [q4]; simpa using hv) rfl rfl hd (kk ls hL)) kk
theorem r_baload (hd : decode M.2.1 pc = .ok (.baload, 1)) {a : Nat} {vs : List Value} {i x : Int32} (ha : w.1 a = some (1001, vs)) (h0 : ¬ i < 0) (hv : vs[i.toNatClampNeg]? = some (.int x)) (kk : pw_Wp E M d (pc + 1) L (.int x :: st) w Post) : pw_Wp E M d pc L (.int i :: va_rf (some a) :: st) w Post :=
  pw_go (fun p e R s m args below meth c H locs cells slots ls Q hC _ _ hH hL kk => by
    obtain ⟨cell, q1, q2, q3, q4⟩ := pw_arrc (t := 1) hH ha
    exact W.bald hC.1 hC.2.1 q1 (pw_isArr (t := 1) hC.2.2.2.2.2.2.2.2.1 rfl q2 q3) q3.known (pw_in_of h0 hv q4) (v := .int x) (by rw [q4]; simpa using hv) rfl rfl hd (kk ls hL)) kk
theorem r_zaload (hd : decode M.2.1 pc = .ok (.baload, 1)) {a : Nat} {vs : List Value} {i x : Int32} (ha : w.1 a = some (1002, vs)) (h0 : ¬ i < 0) (hv : vs[i.toNatClampNeg]? = some (.int x)) (kk : pw_Wp E M d (pc + 1) L (.int x :: st) w Post) : pw_Wp E M d pc L (.int i :: va_rf (some a) :: st) w Post :=
  pw_go (fun p e R s m args below meth c H locs cells slots ls Q hC _ _ hH hL kk => by
    obtain ⟨cell, q1, q2, q3, q4⟩ := pw_arrc (t := 2) hH ha
    exact W.zald hC.1 hC.2.1 q1 (pw_isArr (t := 2) hC.2.2.2.2.2.2.2.2.1 rfl q2 q3) q3.known (pw_in_of h0 hv q4) (v := .int x) (by rw [q4]; simpa using hv) rfl rfl hd (kk ls hL)) kk
theorem r_aaload (hd : decode M.2.1 pc = .ok (.aaload, 1)) (t : Nat) (ty : FieldType) (ht : pw_ar[t]? = some ty) (hty : ty.isReference = true) {a : Nat} {vs : List Value} {i : Int32} {o : Option Nat} (ha : w.1 a = some (1000 + t, vs)) (h0 : ¬ i < 0) (hv : vs[i.toNatClampNeg]? = some (va_rf o)) (kk : pw_Wp E M d (pc + 1) L (va_rf o :: st) w Post) : pw_Wp E M d pc L (.int i :: va_rf (some a) :: st) w Post :=
  pw_go (fun p e R s m args below meth c H locs cells slots ls Q hC _ _ hH hL kk => by
    obtain ⟨cell, q1, q2, q3, q4⟩ := pw_arrc hH ha
    exact W.aald hC.1 hC.2.1 q1 (pw_isArr hC.2.2.2.2.2.2.2.2.1 ht q2 q3) hty q3.known (pw_in_of h0 hv q4) (v := va_rf o) (by rw [q4]; simpa using hv) rfl rfl hd (kk ls hL)) kk
theorem r_alen (hd : decode M.2.1 pc = .ok (.arraylength, 1)) (t : Nat) (ty : FieldType) (ht : pw_ar[t]? = some ty) {a : Nat} {vs : List Value} (ha : w.1 a = some (1000 + t, vs)) (kk : pw_Wp E M d (pc + 1) L (.int (Int32.ofNat vs.length) :: st) w Post) : pw_Wp E M d pc L (va_rf (some a) :: st) w Post :=
  pw_go (fun p e R s m args below meth c H locs cells slots ls Q hC _ _ hH hL kk => by
    obtain ⟨cell, q1, q2, q3, q4⟩ := pw_arrc hH ha
    exact W.alen (n := Int32.ofNat vs.length) hC.1 hC.2.1 q1 (pw_isArr hC.2.2.2.2.2.2.2.2.1 ht q2 q3) (by rw [q4]; simp) rfl rfl hd (kk ls hL)) kk
theorem pw_stored {a t i : Nat} {vs : List Value} {v : Value} {cell : Cell} {H' : Heap} (q2 : cell.cls = E.2.1 (1000 + t)) (q3 : pw_vm E a cell) (q4 : cell.slots = vs.toArray) (e : H'[a]? = some (cell.setSlot i v)) : pw_at E a (1000 + t, vs.set i v) H' := by
  refine ⟨_, e, q2, q3, ?_⟩
  rw [if_neg (show ¬ 1000 + t < 1000 by omega)]
  show cell.slots.setIfInBounds i v = _
  rw [q4]
  simp
theorem pw_loc1 {a i : Nat} (hba : pw_base E ≤ a) : ∀ q ∈ ([⟨a, i⟩] : List Loc), pw_base E ≤ q.base := fun q hq => by
  rw [List.mem_singleton] at hq
  rw [hq]
  exact hba
theorem r_iastore (hd : decode M.2.1 pc = .ok (.iastore, 1)) {a : Nat} {vs : List Value} {i x : Int32} (ha : w.1 a = some (1000, vs)) (hba : pw_base E ≤ a) (h0 : ¬ i < 0) (hi : i.toNatClampNeg < vs.length) (kk : pw_Wp E M d (pc + 1) L st (pw_up w a (1000, vs.set i.toNatClampNeg (.int x))) Post) : pw_Wp E M d pc L (.int x :: .int i :: va_rf (some a) :: st) w Post :=
  pw_goW (w1 := pw_up w a (1000, vs.set i.toNatClampNeg (.int x))) rfl (fun p e R s m args below meth c H locs cells slots ls Q hC _ _ hH hL kk => by
    obtain ⟨cell, q1, q2, q3, q4⟩ := pw_arrc (t := 0) hH ha
    exact W.iast hC.1 hC.2.1 q1 (pw_isArr (t := 0) hC.2.2.2.2.2.2.2.2.1 rfl q2 q3) q3.known (pw_in_lt h0 hi q4) rfl rfl hd (fun H' e z oq => kk H' _ (hH.set hba z oq (pw_stored (t := 0) q2 q3 q4 e)) (pw_loc1 hba))) kk
theorem r_bastore (hd : decode M.2.1 pc = .ok (.bastore, 1)) {a : Nat} {vs : List Value} {i x : Int32} (ha : w.1 a = some (1001, vs)) (hba : pw_base E ≤ a) (h0 : ¬ i < 0) (hi : i.toNatClampNeg < vs.length) (kk : pw_Wp E M d (pc + 1) L st (pw_up w a (1001, vs.set i.toNatClampNeg (.int x.toInt8.toInt32))) Post) : pw_Wp E M d pc L (.int x :: .int i :: va_rf (some a) :: st) w Post :=
  pw_goW (w1 := pw_up w a (1001, vs.set i.toNatClampNeg (.int x.toInt8.toInt32))) rfl (fun p e R s m args below meth c H locs cells slots ls Q hC _ _ hH hL kk => by
    obtain ⟨cell, q1, q2, q3, q4⟩ := pw_arrc (t := 1) hH ha
    exact W.bast hC.1 hC.2.1 q1 (pw_isArr (t := 1) hC.2.2.2.2.2.2.2.2.1 rfl q2 q3) q3.known (pw_in_lt h0 hi q4) rfl rfl hd (fun H' e z oq => kk H' _ (hH.set hba z oq (pw_stored (t := 1) q2 q3 q4 e)) (pw_loc1 hba))) kk
theorem r_zastore (hd : decode M.2.1 pc = .ok (.bastore, 1)) {a : Nat} {vs : List Value} {i x : Int32} (ha : w.1 a = some (1002, vs)) (hba : pw_base E ≤ a) (h0 : ¬ i < 0) (hi : i.toNatClampNeg < vs.length) (hn : narrow .boolean (.int x) = .int x) (kk : pw_Wp E M d (pc + 1) L st (pw_up w a (1002, vs.set i.toNatClampNeg (.int x))) Post) : pw_Wp E M d pc L (.int x :: .int i :: va_rf (some a) :: st) w Post :=
  pw_goW (w1 := pw_up w a (1002, vs.set i.toNatClampNeg (.int x))) rfl (fun p e R s m args below meth c H locs cells slots ls Q hC _ _ hH hL kk => by
    obtain ⟨cell, q1, q2, q3, q4⟩ := pw_arrc (t := 2) hH ha
    exact W.zast hC.1 hC.2.1 q1 (pw_isArr (t := 2) hC.2.2.2.2.2.2.2.2.1 rfl q2 q3) q3.known (pw_in_lt h0 hi q4) rfl rfl hd (fun H' e z oq => by rw [hn] at e; exact kk H' _ (hH.set hba z oq (pw_stored (t := 2) q2 q3 q4 e)) (pw_loc1 hba))) kk
theorem pw_kcls {E : pw_E} {s : State} (hO : pw_Ok E s) {k : Nat} {nm : String} (h : pw_can k nm) : ∃ kV : Class, s.vm.classes[E.2.1 k]? = some kV := by
  rcases h with ⟨r, hk, -, -⟩ | ⟨t, ty, rfl, h6, ht, -⟩
  · obtain ⟨-, -, kC, h, -⟩ := hO.1 k r hk
    exact ⟨kC, h⟩
  · obtain ⟨kA, comp, h, -⟩ := hO.arr ht
    exact ⟨kA, h⟩
/-- what may be put into an array over C: null, or an object that is one -/
def pw_ok1 (w : pw_W) (C : String) (o : Option Nat) : Prop := o = none ∨ ∃ (b k : Nat) (us : List Value), o = some b ∧ w.1 b = some (k, us) ∧ pw_can k C
theorem r_aastore (hd : decode M.2.1 pc = .ok (.aastore, 1)) (t : Nat) (C : String) (ht : pw_ar[t]? = some (.object C)) (h6 : t < 6) {a : Nat} {vs : List Value} {i : Int32} {o : Option Nat} (ha : w.1 a = some (1000 + t, vs)) (hba : pw_base E ≤ a) (h0 : ¬ i < 0) (hi : i.toNatClampNeg < vs.length) (ho : pw_ok1 w C o) (kk : pw_Wp E M d (pc + 1) L st (pw_up w a (1000 + t, vs.set i.toNatClampNeg (va_rf o))) Post) : pw_Wp E M d pc L (va_rf o :: .int i :: va_rf (some a) :: st) w Post :=
  pw_goW (w1 := pw_up w a (1000 + t, vs.set i.toNatClampNeg (va_rf o))) rfl (fun p e R s m args below meth c H locs cells slots ls Q hC _ _ hH hL kk => by
    have hO := hC.2.2.2.2.2.2.2.2.1
    obtain ⟨cell, q1, q2, q3, q4⟩ := pw_arrc hH ha
    rcases ho with rfl | ⟨b, k, us, rfl, hb, hcan⟩
    · exact va_WaastN hC.1 hC.2.1 q1 (pw_isArr hO ht q2 q3) q3.known (pw_in_lt h0 hi q4) rfl rfl hd (fun H' e z oq => kk H' _ (hH.set hba z oq (pw_stored q2 q3 q4 e)) (pw_loc1 hba))
    · obtain ⟨cb, b1, b2, b3, -⟩ := hH.2.2.2 b _ hb
      obtain ⟨kA, comp, k1, k2, k3, -⟩ := hO.2.2.1 t _ h6 ht
      obtain ⟨kE, hkE, -⟩ := Vm.findClass_spec k3
      obtain ⟨cT, c1, c2⟩ := hcan.use hO
      cases k3.symm.trans c1
      obtain ⟨kV, hkV⟩ := pw_kcls hO hcan
      exact W.aast hC.1 hC.2.1 q1 (fun q => q3.nost q) q3.known (by rw [q2]; exact k1) k2 rfl hkE ⟨h0, by rw [q4]; simpa using hi⟩ b1 (fun q => b3.nost q) (by rw [b2]; exact hkV) (by rw [b2]; exact c2) rfl rfl hd (fun H' e z oq => kk H' _ (hH.set hba z oq (pw_stored q2 q3 q4 e)) (pw_loc1 hba))) kk
theorem r_newarray {atype : ArrayType} (hd : decode M.2.1 pc = .ok (.newarray atype, 2)) (t : Nat) (ht : pw_ar[t]? = some (newarray.typeOf atype)) (h6 : t < 6) (hw : Cond.arrayClass (newarray.typeOf atype) ∈ lw_all) (hp : (∃ C, newarray.typeOf atype = .object C) → False) {n : Int32} (h0 : ¬ n < 0) (hbig : n.toNatClampNeg * componentBytes (newarray.typeOf atype) ≤ 536870912) (kk : pw_Wp E M d (pc + 2) L (va_rf (some w.2.1) :: st) (pw_new w (1000 + t, List.replicate n.toNatClampNeg (defaultValue (newarray.typeOf atype))) n.toNatClampNeg) Post) : pw_Wp E M d pc L (.int n :: st) w Post :=
  pw_goN (n := n.toNatClampNeg) rfl rfl (fun p e R s m args below meth c H locs cells slots ls Q hC _ _ hH hL hc1 hc2 kk => by
    have hO := hC.2.2.2.2.2.2.2.2.1
    refine W.newa hC.1 hC.2.1 (hC.2.2.2.2.2.2.2.1 _ hw) rfl hd rfl h0 hbig hc1 hc2 (fun cA kA comp f1 f2 f3 => ?_)
    have e1 := hO.arrNm h6 ht
    cases f1.symm.trans e1
    generalize hH1 : H.push ({ cls := E.2.1 (1000 + t), slots := Array.replicate n.toNatClampNeg (defaultValue (newarray.typeOf atype)), vm := .none } : Cell) = H1
    rw [hH.1]
    refine kk H1 (hH.push (by rw [← hH1, Array.size_push]) (fun q hq => by rw [← hH1, Array.getElem?_push, if_neg (Nat.ne_of_lt hq)]) ⟨_, by rw [← hH1, Array.getElem?_push_size], rfl, ⟨Or.inl rfl, fun _ => ⟨rfl, rfl⟩⟩, ?_⟩)
    rw [if_neg (show ¬ 1000 + t < 1000 by omega)]
    show Array.replicate _ _ = _
    simp) kk
theorem r_anewarray {index : Nat} (hd : decode M.2.1 pc = .ok (.anewarray index, 3)) (t : Nat) (C : String) (ht : pw_ar[t]? = some (.object C)) (h6 : t < 6) (hC3 : C ∈ (["java/lang/Object", "java/lang/String", "VersionSearch$State"] : List String)) (hw : Cond.classLink M.1.cls index C ∈ lw_all) {n : Int32} (h0 : ¬ n < 0) (hbig : n.toNatClampNeg * 4 ≤ 536870912) (kk : pw_Wp E M d (pc + 3) L (va_rf (some w.2.1) :: st) (pw_new w (1000 + t, List.replicate n.toNatClampNeg (va_rf none)) n.toNatClampNeg) Post) : pw_Wp E M d pc L (.int n :: st) w Post :=
  pw_goN (n := n.toNatClampNeg) rfl rfl (fun p e R s m args below meth c H locs cells slots ls Q hC _ _ hH hL hc1 hc2 kk => by
    have hO := hC.2.2.2.2.2.2.2.2.1
    refine W.anew hC.1 hC.2.1 hC.2.2.2.2.2.1 (hC.2.2.2.2.2.2.2.1 _ hw) (va_AO.use (hO.2.2.2.2.2.1 C hC3)) rfl hd rfl h0 hbig hc1 hc2 (fun cA kA comp f1 f2 f3 f4 => ?_)
    have e1 := hO.arrNm h6 ht
    cases f1.symm.trans e1
    generalize hH1 : H.push ({ cls := E.2.1 (1000 + t), slots := Array.replicate n.toNatClampNeg .null, vm := .none } : Cell) = H1
    rw [hH.1]
    refine kk H1 (hH.push (by rw [← hH1, Array.size_push]) (fun q hq => by rw [← hH1, Array.getElem?_push, if_neg (Nat.ne_of_lt hq)]) ⟨_, by rw [← hH1, Array.getElem?_push_size], rfl, ⟨Or.inl rfl, fun _ => ⟨rfl, rfl⟩⟩, ?_⟩)
    rw [if_neg (show ¬ 1000 + t < 1000 by omega)]
    show Array.replicate _ Value.null = (List.replicate _ Value.null).toArray
    simp) kk
theorem r_cast {index : Nat} (hd : decode M.2.1 pc = .ok (.checkcast index, 3)) (nm : String) (hw : Cond.classLink M.1.cls index nm ∈ lw_all) {o : Option Nat} (ho : pw_ok1 w nm o) (kk : pw_Wp E M d (pc + 3) L (va_rf o :: st) w Post) : pw_Wp E M d pc L (va_rf o :: st) w Post :=
  pw_go (fun p e R s m args below meth c H locs cells slots ls Q hC _ _ hH hL kk => by
    have hO := hC.2.2.2.2.2.2.2.2.1
    rcases ho with rfl | ⟨b, k, us, rfl, hb, hcan⟩
    · exact lv_castN hC.1 hC.2.1 hd (kk ls hL)
    · obtain ⟨cb, b1, b2, b3, -⟩ := hH.2.2.2 b _ hb
      obtain ⟨cT, c1, c2⟩ := hcan.use hO
      intro T hT X
      obtain ⟨vm', X', st9⟩ := X.checkcastYes hC.1 hC.2.2.2.2.2.1 (hC.2.2.2.2.2.2.2.1 _ hw) (by rw [hT]; exact b1) b3.stat c1 (by rw [b2]; exact c2) (g := F0 m pc ls (va_rf (some b) :: st)) rfl rfl (by rw [hC.2.1]; exact hd)
      obtain ⟨t, a1, b9⟩ := kk ls hL (T.setVm vm') hT X'
      exact ⟨t, st9 t a1, b9⟩) kk
theorem r_instY {index : Nat} (hd : decode M.2.1 pc = .ok (.instanceof index, 3)) (nm : String) (hw : Cond.classLink M.1.cls index nm ∈ lw_all) {b k : Nat} {us : List Value} (hb : w.1 b = some (k, us)) (r : vw_C) (hk : pw_cl[k]? = some r) (hn : r.1 = nm) (kk : pw_Wp E M d (pc + 3) L (.int 1 :: st) w Post) : pw_Wp E M d pc L (va_rf (some b) :: st) w Post :=
  pw_go (fun p e R s m args below meth c H locs cells slots ls Q hC _ _ hH hL kk => by
    have hO := hC.2.2.2.2.2.2.2.2.1
    obtain ⟨cb, b1, b2, b3, -⟩ := hH.2.2.2 b _ hb
    obtain ⟨-, hat⟩ := hO.1 k r hk
    rw [hn] at hat
    exact va_instS hC.1 hC.2.1 hC.2.2.2.2.2.1 (hC.2.2.2.2.2.2.2.1 _ hw) hat ⟨cb, b1, b3.stat, by rw [b2]; exact hat.1⟩ hd (kk ls hL)) kk
theorem r_instN {index : Nat} (hd : decode M.2.1 pc = .ok (.instanceof index, 3)) (kk : pw_Wp E M d (pc + 3) L (.int 0 :: st) w Post) : pw_Wp E M d pc L (va_rf none :: st) w Post :=
  pw_go (fun p e R s m args below meth c H locs cells slots ls Q hC _ _ hH hL kk => lv_instN hC.1 hC.2.1 hd (kk ls hL)) kk
theorem r_getstatic {index : Nat} (hd : decode M.2.1 pc = .ok (.getstatic index, 3)) (i : Nat) (q : String × String × String) (hq : pw_st[i]? = some q) (hw : Cond.fieldLink M.1.cls index q.1 q.2.1 q.2.2 ∈ lw_all) {v : Value} (hv : E.2.2.2.2 i = v) (kk : pw_Wp E M d (pc + 3) L (v :: st) w Post) : pw_Wp E M d pc L st w Post :=
  pw_go (fun p e R s m args below meth c H locs cells slots ls Q hC _ _ hH hL kk => by
    obtain ⟨cf, kf, fi, f, a, cell, h1, h2, h3, h4, h5, h6, h7, h8⟩ := hC.2.2.2.2.2.2.2.2.1.2.2.2.2.2.2.2.1 i q hq
    rw [hv] at h7
    exact W.gets hC.1 hC.2.1 hC.2.2.2.2.2.1 (hC.2.2.2.2.2.2.2.1 _ hw) h1 h2 h3 h4 (by rw [hH.2.2.1 a (by omega)]; exact h5) (fun e => by rw [e] at h6; cases h6) h7 rfl hd (kk ls hL)) kk
theorem r_getstaticN {index : Nat} (hd : decode M.2.1 pc = .ok (.getstatic index, 3)) (host : String) (i : Nat) (q : String × String × String) (hq : pw_st[i]? = some q) (hw : Cond.fieldLinkNest M.1.cls index q.1 q.2.1 q.2.2 host ∈ lw_tbl) {v : Value} (hv : E.2.2.2.2 i = v) (kk : pw_Wp E M d (pc + 3) L (v :: st) w Post) : pw_Wp E M d pc L st w Post :=
  pw_go (fun p e R s m args below meth c H locs cells slots ls Q hC _ _ hH hL kk => by
    have hO := hC.2.2.2.2.2.2.2.2.1
    obtain ⟨cf, kf, fi, f, a, cell, h1, h2, h3, h4, h5, h6, h7, h8⟩ := hO.2.2.2.2.2.2.2.1 i q hq
    rw [hv] at h7
    exact va_WgetsN hC.1 hC.2.1 hC.2.2.2.2.2.1 (va_Nw.use rfl (hO.2.2.2.1 _ hw rfl)) h1 h2 h3 h4 (by rw [hH.2.2.1 a (by omega)]; exact h5) (fun e => by rw [e] at h6; cases h6) h7 rfl hd (kk ls hL)) kk
end
