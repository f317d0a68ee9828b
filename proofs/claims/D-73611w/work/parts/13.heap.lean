set_option maxRecDepth 100000
/-! the classes' fields by kind -/
theorem pw_in (k : Nat) (r : vw_C) (hk : pw_cl[k]? = some r) : ∀ w ∈ u_ws r.1 r.2.1 r.2.2, w ∈ lw_all :=
  match k, hk with
  | 0, hk => by cases hk; exact in_X0
  | 1, hk => by cases hk; exact in_X1
  | 2, hk => by cases hk; exact in_X2
  | 3, hk => by cases hk; exact in_X4
  | 4, hk => by cases hk; exact in_X5
  | 5, hk => by cases hk; exact in_X6
  | 6, hk => by cases hk; exact in_X7
  | 7, hk => by cases hk; exact in_X8
  | 8, hk => by cases hk; exact in_X9
  | 9, hk => by cases hk; exact in_X10
  | 10, hk => by cases hk; exact in_X11
  | 11, hk => by cases hk; exact in_X12
  | 12, hk => by cases hk; exact in_X13
  | 13, hk => by cases hk; exact in_X14
  | 14, hk => by cases hk; intro w hw; simp [u_ws] at hw
  | 15, hk => by cases hk; exact in_X16
  | 16, hk => by cases hk; exact in_X17
  | 17, hk => by cases hk; exact in_X18
  | 18, hk => by cases hk; exact in_J2
  | 19, hk => by cases hk; exact in_J15
  | 20, hk => by cases hk; exact in_J5
  | 21, hk => by cases hk; exact in_J6
  | 22, hk => by cases hk; exact in_J18
  | 23, hk => by cases hk; exact in_J24
  | 24, hk => by cases hk; exact in_J26
  | 25, hk => by cases hk; exact in_J28
  | 26, hk => by cases hk; exact in_J29
  | 27, hk => by cases hk; exact in_J31
  | 28, hk => by cases hk; exact in_J21
  | k + 29, hk => by simp [pw_cl] at hk
theorem pw_nm (k : Nat) (r : vw_C) (hk : pw_cl[k]? = some r) : ∀ a, a < r.2.2 → ∀ b, b < r.2.2 → a ≠ b → (r.2.1 a).2.1 ≠ (r.2.1 b).2.1 :=
  match k, hk with
  | 0, hk => by cases hk; exact nmX0
  | 1, hk => by cases hk; exact nmX1
  | 2, hk => by cases hk; exact nmX2
  | 3, hk => by cases hk; exact nmX4
  | 4, hk => by cases hk; exact nmX5
  | 5, hk => by cases hk; exact nmX6
  | 6, hk => by cases hk; exact nmX7
  | 7, hk => by cases hk; exact nmX8
  | 8, hk => by cases hk; exact nmX9
  | 9, hk => by cases hk; exact nmX10
  | 10, hk => by cases hk; exact nmX11
  | 11, hk => by cases hk; exact nmX12
  | 12, hk => by cases hk; exact nmX13
  | 13, hk => by cases hk; exact nmX14
  | 14, hk => by cases hk; intro a ha; exact absurd ha (Nat.not_lt_zero a)
  | 15, hk => by cases hk; exact nmX16
  | 16, hk => by cases hk; exact nmX17
  | 17, hk => by cases hk; exact nmX18
  | 18, hk => by cases hk; exact nmJ2
  | 19, hk => by cases hk; exact nmJ15
  | 20, hk => by cases hk; exact nmJ5
  | 21, hk => by cases hk; exact nmJ6
  | 22, hk => by cases hk; exact nmJ18
  | 23, hk => by cases hk; exact nmJ24
  | 24, hk => by cases hk; exact nmJ26
  | 25, hk => by cases hk; exact nmJ28
  | 26, hk => by cases hk; exact nmJ29
  | 27, hk => by cases hk; exact nmJ31
  | 28, hk => by cases hk; exact nmJ21
  | k + 29, hk => by simp [pw_cl] at hk
def pw_ty (k : Nat) : Nat → FieldType := match k with
  | 0 => tyX0
  | 1 => tyX1
  | 2 => tyX2
  | 3 => tyX4
  | 4 => tyX5
  | 5 => tyX6
  | 6 => tyX7
  | 7 => tyX8
  | 8 => tyX9
  | 9 => tyX10
  | 10 => tyX11
  | 11 => tyX12
  | 12 => tyX13
  | 13 => tyX14
  | 15 => tyX16
  | 16 => tyX17
  | 17 => tyX18
  | 18 => tyJ2
  | 19 => tyJ15
  | 20 => tyJ5
  | 21 => tyJ6
  | 22 => tyJ18
  | 23 => tyJ24
  | 24 => tyJ26
  | 25 => tyJ28
  | 26 => tyJ29
  | 27 => tyJ31
  | 28 => tyJ21
  | _ => fun _ => .int
theorem pw_tyok (k : Nat) (r : vw_C) (hk : pw_cl[k]? = some r) : ∀ j, j < r.2.2 → parseFieldDescriptor (r.2.1 j).2.2.1 = some (pw_ty k j) :=
  match k, hk with
  | 0, hk => by cases hk; exact tyX0_ok
  | 1, hk => by cases hk; exact tyX1_ok
  | 2, hk => by cases hk; exact tyX2_ok
  | 3, hk => by cases hk; exact tyX4_ok
  | 4, hk => by cases hk; exact tyX5_ok
  | 5, hk => by cases hk; exact tyX6_ok
  | 6, hk => by cases hk; exact tyX7_ok
  | 7, hk => by cases hk; exact tyX8_ok
  | 8, hk => by cases hk; exact tyX9_ok
  | 9, hk => by cases hk; exact tyX10_ok
  | 10, hk => by cases hk; exact tyX11_ok
  | 11, hk => by cases hk; exact tyX12_ok
  | 12, hk => by cases hk; exact tyX13_ok
  | 13, hk => by cases hk; exact tyX14_ok
  | 14, hk => by cases hk; intro a ha; exact absurd ha (Nat.not_lt_zero a)
  | 15, hk => by cases hk; exact tyX16_ok
  | 16, hk => by cases hk; exact tyX17_ok
  | 17, hk => by cases hk; exact tyX18_ok
  | 18, hk => by cases hk; exact tyJ2_ok
  | 19, hk => by cases hk; exact tyJ15_ok
  | 20, hk => by cases hk; exact tyJ5_ok
  | 21, hk => by cases hk; exact tyJ6_ok
  | 22, hk => by cases hk; exact tyJ18_ok
  | 23, hk => by cases hk; exact tyJ24_ok
  | 24, hk => by cases hk; exact tyJ26_ok
  | 25, hk => by cases hk; exact tyJ28_ok
  | 26, hk => by cases hk; exact tyJ29_ok
  | 27, hk => by cases hk; exact tyJ31_ok
  | 28, hk => by cases hk; exact tyJ21_ok
  | k + 29, hk => by simp [pw_cl] at hk
theorem pw_nf_of {k : Nat} {r : vw_C} (hk : pw_cl[k]? = some r) : pw_nf k = r.2.2 := by unfold pw_nf; rw [hk]
theorem pw_apart {E : pw_E} {U : State} {args : Array Value} (hts : ∀ w ∈ lw_all, w.before args U = true) (hO : pw_Ok E U) {k : Nat} {r : vw_C} (hk : pw_cl[k]? = some r) : ∀ x y, x < r.2.2 → y < r.2.2 → x ≠ y → E.2.2.1 k x ≠ E.2.2.1 k y := by
  intro x y hx hy hne
  obtain ⟨hS, -⟩ := hO.1 k r hk
  obtain ⟨_, _, _, fa, hia, ea⟩ := hS x hx
  obtain ⟨_, _, _, fb, hib, eb⟩ := hS y hy
  rw [← ea, ← eb]
  refine u_apart (u_lays hts (pw_in k r hk) hx) (u_lays hts (pw_in k r hk) hy) hia hib ?_
  rw [(State.fieldFound?_type hia (pw_tyok k r hk x hx)).1, (State.fieldFound?_type hib (pw_tyok k r hk y hy)).1]
  exact pw_nm k r hk x hx y hy hne
/-! the heap, one cell changed; one cell more -/
def pw_up (w : pw_W) (a : Nat) (o : pw_O) : pw_W := (fun q => if q = a then some o else w.1 q, w.2)
def pw_new (w : pw_W) (o : pw_O) (n : Nat) : pw_W := (fun q => if q = w.2.1 then some o else w.1 q, w.2.1 + 1, w.2.2 + n)
theorem pw_at.kept {E : pw_E} {a : Nat} {o : pw_O} {H H1 : Heap} (h : pw_at E a o H) (e : H1[a]? = H[a]?) : pw_at E a o H1 := by
  obtain ⟨cell, h1, h2⟩ := h
  exact ⟨cell, e.trans h1, h2⟩
theorem pw_at.lt {E : pw_E} {a : Nat} {o : pw_O} {H : Heap} (h : pw_at E a o H) : a < H.size := by
  obtain ⟨cell, h1, -⟩ := h
  exact (Array.getElem?_eq_some_iff.mp h1).1
theorem pw_Hp.lt {E : pw_E} {w : pw_W} {H : Heap} (h : pw_Hp E w H) {a : Nat} {o : pw_O} (ha : w.1 a = some o) : a < w.2.1 := h.1 ▸ (h.2.2.2 a o ha).lt
theorem pw_Hp.set {E : pw_E} {w : pw_W} {H H1 : Heap} {a : Nat} {o : pw_O} (h : pw_Hp E w H) (hb : pw_base E ≤ a) (z : H1.size = H.size) (oq : ∀ q : Nat, q ≠ a → H1[q]? = H[q]?) (n : pw_at E a o H1) : pw_Hp E (pw_up w a o) H1 := by
  refine ⟨z.trans h.1, h.2.1, fun q hq => (oq q (by omega)).trans (h.2.2.1 q hq), fun b p hp => ?_⟩
  by_cases e : b = a
  · subst e
    have : some o = some p := by rw [← hp]; simp [pw_up]
    cases this
    exact n
  · have : w.1 b = some p := by rw [← hp]; simp [pw_up, e]
    exact (h.2.2.2 b p this).kept (oq b e)
theorem pw_Hp.push {E : pw_E} {w : pw_W} {H H1 : Heap} {o : pw_O} {n : Nat} (h : pw_Hp E w H) (z : H1.size = H.size + 1) (oq : ∀ q : Nat, q < H.size → H1[q]? = H[q]?) (nw : pw_at E H.size o H1) : pw_Hp E (pw_new w o n) H1 := by
  refine ⟨by rw [z, h.1]; rfl, Nat.le_succ_of_le h.2.1, fun q hq => (oq q (by have := h.1; have := h.2.1; omega)).trans (h.2.2.1 q hq), fun b p hp => ?_⟩
  by_cases e : b = w.2.1
  · subst e
    have : some o = some p := by rw [← hp]; simp [pw_new]
    cases this
    rw [← h.1]
    exact nw
  · have h9 : w.1 b = some p := by rw [← hp]; simp [pw_new, e]
    exact (h.2.2.2 b p h9).kept (oq b (h.2.2.2 b p h9).lt)
section
variable {E : pw_E} {M : pw_M} {d pc : Nat} {L : List (Option Value)} {st : List Value} {w : pw_W} {Post : pw_R → pw_W → Prop}
/-- a field's word, as javac spells it: by its declarer, or by a class below -/
def pw_fs (ref : String) (t : String × String × String × Bool) : Prop := t.1 = ref ∨ Cond.sameField ref t.1 t.2.1 t.2.2.1 ∈ lw_all
theorem pw_fs.use {ref : String} {t : String × String × String × Bool} (h : pw_fs ref t) {s : State} {args : Array Value} (hts : ∀ w ∈ lw_all, w.before args s = true) : ∀ x, s.fieldFound? t.1 t.2.1 t.2.2.1 = some x → s.fieldFound? ref t.2.1 t.2.2.1 = some x := by
  intro x hx
  rcases h with h | h
  · rw [← h]; exact hx
  · exact u_same (hts _ h) x hx
theorem r_get {index : Nat} (hd : decode M.2.1 pc = .ok (.getfield index, 3)) (ref : String) (k j : Nat) (r : vw_C) (hk : pw_cl[k]? = some r) (hj : j < r.2.2) (hw : Cond.fieldLink M.1.cls index ref (r.2.1 j).2.1 (r.2.1 j).2.2.1 ∈ lw_all) (hsame : pw_fs ref (r.2.1 j))
    {a : Nat} {fs : List Value} {v : Value} (ha : w.1 a = some (k, fs)) (hlt : k < 1000) (hv : fs[j]? = some v) (kk : pw_Wp E M d (pc + 3) L (v :: st) w Post) : pw_Wp E M d pc L (va_rf (some a) :: st) w Post := by
  refine pw_go (fun p e R s m args below meth c H locs cells slots ls Q hC _ _ hH hL kk => ?_) kk
  obtain ⟨hx, hb, -, -, -, hown, -, hts, hO, -⟩ := hC
  obtain ⟨cell, q1, q2, q3, q4⟩ := hH.2.2.2 a _ ha
  rw [if_pos hlt] at q4
  obtain ⟨hS, hfc, kC, hkC, hkind⟩ := hO.1 k r hk
  obtain ⟨cf, kf, fi, f, hi, hsl⟩ := hS j hj
  refine W.getf hx hb hown (hts _ hw) (hsame.use hts _ hi) (u_facts hfc hkC (u_lays hts (pw_in k r hk) hj) hi).1 q1 q3.known (v := v) ?_ rfl rfl hd (kk ls hL)
  rw [hsl]
  exact q4.2 j v hv
theorem r_getN {index : Nat} (hd : decode M.2.1 pc = .ok (.getfield index, 3)) (host : String) (k j : Nat) (r : vw_C) (hk : pw_cl[k]? = some r) (hj : j < r.2.2) (hw : Cond.fieldLinkNest M.1.cls index (r.2.1 j).1 (r.2.1 j).2.1 (r.2.1 j).2.2.1 host ∈ lw_tbl)
    {a : Nat} {fs : List Value} {v : Value} (ha : w.1 a = some (k, fs)) (hlt : k < 1000) (hv : fs[j]? = some v) (kk : pw_Wp E M d (pc + 3) L (v :: st) w Post) : pw_Wp E M d pc L (va_rf (some a) :: st) w Post := by
  refine pw_go (fun p e R s m args below meth c H locs cells slots ls Q hC _ _ hH hL kk => ?_) kk
  obtain ⟨hx, hb, -, -, -, hown, -, hts, hO, -⟩ := hC
  obtain ⟨cell, q1, q2, q3, q4⟩ := hH.2.2.2 a _ ha
  rw [if_pos hlt] at q4
  obtain ⟨hS, hfc, kC, hkC, hkind⟩ := hO.1 k r hk
  obtain ⟨cf, kf, fi, f, hi, hsl⟩ := hS j hj
  refine va_Wgetf hx hb hown (va_Nw.use rfl (hO.2.2.2.1 _ hw rfl)) hi (u_facts hfc hkC (u_lays hts (pw_in k r hk) hj) hi).1 q1 q3.known (v := v) ?_ rfl rfl hd (kk ls hL)
  rw [hsl]
  exact q4.2 j v hv
theorem pw_put {s : State} {args : Array Value} (hts : ∀ w ∈ lw_all, w.before args s = true) (hO : pw_Ok E s) {k j : Nat} {r : vw_C} (hk : pw_cl[k]? = some r) (hlt : k < 1000) (hj : j < r.2.2) {a : Nat} {fs : List Value} {v : Value} {cell : Cell} {H' : Heap}
    (q2 : cell.cls = E.2.1 k) (q3 : pw_vm E a cell) (q4 : fs.length = pw_nf k ∧ ∀ (i : Nat) (u : Value), fs[i]? = some u → cell.slots[E.2.2.1 k i]? = some u) (e1 : H'[a]? = some (cell.setSlot (E.2.2.1 k j) v)) : pw_at E a (k, fs.set j v) H' := by
  have hap := pw_apart hts hO hk
  rw [pw_nf_of hk] at q4
  refine ⟨_, e1, q2, q3, ?_⟩
  rw [if_pos hlt]
  refine ⟨by rw [pw_nf_of hk]; simpa using q4.1, fun i u hu => ?_⟩
  have hi : i < fs.length := by simpa using (List.getElem?_eq_some_iff.mp hu).1
  have hz : (cell.setSlot (E.2.2.1 k j) v).slots = cell.slots.setIfInBounds (E.2.2.1 k j) v := rfl
  rw [hz]
  by_cases e : i = j
  · subst e
    rw [List.getElem?_set_self hi] at hu
    cases hu
    have h9 : fs[i]? = some fs[i] := List.getElem?_eq_getElem hi
    have hl := (Array.getElem?_eq_some_iff.mp (q4.2 i _ h9)).1
    simp [Array.getElem?_setIfInBounds, hl]
  · rw [List.getElem?_set_ne (Ne.symm e)] at hu
    have hne := hap j i (by rw [← q4.1] at hj ⊢; exact hj) (by rw [← q4.1]; exact hi) (Ne.symm e)
    rw [Array.getElem?_setIfInBounds_ne hne]
    exact q4.2 i u hu
theorem r_put {index : Nat} (hd : decode M.2.1 pc = .ok (.putfield index, 3)) (ref : String) (k j : Nat) (r : vw_C) (hk : pw_cl[k]? = some r) (hj : j < r.2.2) (hw : Cond.fieldLink M.1.cls index ref (r.2.1 j).2.1 (r.2.1 j).2.2.1 ∈ lw_all) (hsame : pw_fs ref (r.2.1 j)) (hfin : (r.2.1 j).2.2.2 = false)
    {a : Nat} {fs : List Value} {v : Value} (ha : w.1 a = some (k, fs)) (hlt : k < 1000) (hba : pw_base E ≤ a) (hn : narrow (pw_ty k j) v = v) (hf : fits (pw_ty k j) v = true) (kk : pw_Wp E M d (pc + 3) L st (pw_up w a (k, fs.set j v)) Post) : pw_Wp E M d pc L (v :: va_rf (some a) :: st) w Post := by
  refine pw_goW (w1 := pw_up w a (k, fs.set j v)) rfl (fun p e R s m args below meth c H locs cells slots ls Q hC _ _ hH hL kk => ?_) kk
  obtain ⟨hx, hb, -, -, -, hown, -, hts, hO, -⟩ := hC
  obtain ⟨cell, q1, q2, q3, q4⟩ := hH.2.2.2 a _ ha
  have q3' := q3.own hba
  rw [if_pos hlt] at q4
  obtain ⟨hS, hfc, kC, hkC, hkind⟩ := hO.1 k r hk
  obtain ⟨cf, kf, fi, f, hi, hsl⟩ := hS j hj
  have hlay := hts _ (pw_in k r hk _ (u_in_lay hj))
  unfold u_lay at hlay
  rw [if_neg (by rw [hfin]; decide)] at hlay
  have hst := (u_facts hfc hkC (u_lays hts (pw_in k r hk) hj) hi).1
  have h6 := u_store hfc hkC hkind hlay hi (pw_tyok k r hk j hj) hn hf
  have hjl : j < fs.length := by rw [q4.1, pw_nf_of hk]; exact hj
  refine W.putK hx hb (f := f) ⟨hown, hts _ hw, ⟨_, _, _, hsame.use hts _ hi⟩, hst⟩ (by rw [q2]; exact h6) q1 q3' (by rw [hsl]; exact k2_hasslot (q4.2 j _ (List.getElem?_eq_getElem hjl))) rfl rfl hd fun H' e1 e2 e3 => ?_
  rw [hsl] at e1 ⊢
  exact kk H' [⟨a, E.2.2.1 k j⟩] (hH.set hba e2 e3 (pw_put hts hO hk hlt hj q2 q3 q4 e1)) (fun q hq => by
    rw [List.mem_singleton] at hq
    rw [hq]
    exact hba)
theorem r_putN {index : Nat} (hd : decode M.2.1 pc = .ok (.putfield index, 3)) (host : String) (k j : Nat) (r : vw_C) (hk : pw_cl[k]? = some r) (hj : j < r.2.2) (hw : Cond.fieldLinkNest M.1.cls index (r.2.1 j).1 (r.2.1 j).2.1 (r.2.1 j).2.2.1 host ∈ lw_tbl) (hfin : (r.2.1 j).2.2.2 = false)
    {a : Nat} {fs : List Value} {v : Value} (ha : w.1 a = some (k, fs)) (hlt : k < 1000) (hba : pw_base E ≤ a) (hn : narrow (pw_ty k j) v = v) (hf : fits (pw_ty k j) v = true) (kk : pw_Wp E M d (pc + 3) L st (pw_up w a (k, fs.set j v)) Post) : pw_Wp E M d pc L (v :: va_rf (some a) :: st) w Post := by
  refine pw_goW (w1 := pw_up w a (k, fs.set j v)) rfl (fun p e R s m args below meth c H locs cells slots ls Q hC _ _ hH hL kk => ?_) kk
  obtain ⟨hx, hb, -, -, -, hown, -, hts, hO, -⟩ := hC
  obtain ⟨cell, q1, q2, q3, q4⟩ := hH.2.2.2 a _ ha
  have q3' := q3.own hba
  rw [if_pos hlt] at q4
  obtain ⟨hS, hfc, kC, hkC, hkind⟩ := hO.1 k r hk
  obtain ⟨cf, kf, fi, f, hi, hsl⟩ := hS j hj
  have hlay := hts _ (pw_in k r hk _ (u_in_lay hj))
  unfold u_lay at hlay
  rw [if_neg (by rw [hfin]; decide)] at hlay
  have hst := (u_facts hfc hkC (u_lays hts (pw_in k r hk) hj) hi).1
  have h6 := u_store hfc hkC hkind hlay hi (pw_tyok k r hk j hj) hn hf
  have hjl : j < fs.length := by rw [q4.1, pw_nf_of hk]; exact hj
  refine va_WputK hx hb (f := f) hown (va_Nw.use rfl (hO.2.2.2.1 _ hw rfl)) hi hst (by rw [q2]; exact h6) q1 q3' (by rw [hsl]; exact k2_hasslot (q4.2 j _ (List.getElem?_eq_getElem hjl))) rfl rfl hd fun H' e1 e2 e3 => ?_
  rw [hsl] at e1 ⊢
  exact kk H' [⟨a, E.2.2.1 k j⟩] (hH.set hba e2 e3 (pw_put hts hO hk hlt hj q2 q3 q4 e1)) (fun q hq => by
    rw [List.mem_singleton] at hq
    rw [hq]
    exact hba)
theorem r_putF {index : Nat} (hd : decode M.2.1 pc = .ok (.putfield index, 3)) (ref : String) (k j : Nat) (r : vw_C) (hk : pw_cl[k]? = some r) (hj : j < r.2.2) (hw : Cond.fieldLink M.1.cls index ref (r.2.1 j).2.1 (r.2.1 j).2.2.1 ∈ lw_all) (hsame : pw_fs ref (r.2.1 j)) (hfin : (r.2.1 j).2.2.2 = true) (hin2 : M.1.name = "<init>") (hdecl : (r.2.1 j).1 = M.1.cls)
    {a : Nat} {fs : List Value} {v : Value} (ha : w.1 a = some (k, fs)) (hlt : k < 1000) (hba : pw_base E ≤ a) (hn : narrow (pw_ty k j) v = v) (hf : fits (pw_ty k j) v = true) (kk : pw_Wp E M d (pc + 3) L st (pw_up w a (k, fs.set j v)) Post) : pw_Wp E M d pc L (v :: va_rf (some a) :: st) w Post := by
  refine pw_goW (w1 := pw_up w a (k, fs.set j v)) rfl (fun p e R s m args below meth c H locs cells slots ls Q hC _ _ hH hL kk => ?_) kk
  obtain ⟨hx, hb, -, -, -, hown, ⟨hnme, -⟩, hts, hO, -⟩ := hC
  obtain ⟨cell, q1, q2, q3, q4⟩ := hH.2.2.2 a _ ha
  have q3' := q3.own hba
  rw [if_pos hlt] at q4
  obtain ⟨hS, hfc, kC, hkC, hkind⟩ := hO.1 k r hk
  obtain ⟨cf, kf, fi, f, hi, hsl⟩ := hS j hj
  have hlay := hts _ (pw_in k r hk _ (u_in_lay hj))
  unfold u_lay at hlay
  rw [if_pos hfin] at hlay
  have hst := (u_facts hfc hkC (u_lays hts (pw_in k r hk) hj) hi).1
  have hcf : m.cls = cf := by
    obtain ⟨_, _, c', _, _, _, -, -, hf', -, -, -, hown2, -⟩ := Cond.laysFinal_spec hlay
    have e1 : c' = cf := by have := hi.symm.trans hf'; simp at this; exact this.1.symm
    rw [hdecl] at hown2
    rw [← e1]; exact Option.some.inj (hown.symm.trans hown2)
  have h6 := u_fits hfc hkC hkind (Or.inr hlay) hi (pw_tyok k r hk j hj) hn hf
  have hjl : j < fs.length := by rw [q4.1, pw_nf_of hk]; exact hj
  refine W.putFinK hx hb hown (hts _ hw) (hsame.use hts _ hi) hst hcf (hnme.trans hin2) (by rw [q2]; exact h6) q1 q3' (by rw [hsl]; exact k2_hasslot (q4.2 j _ (List.getElem?_eq_getElem hjl))) rfl rfl hd fun H' e1 e2 e3 => ?_
  rw [hsl] at e1 ⊢
  exact kk H' [⟨a, E.2.2.1 k j⟩] (hH.set hba e2 e3 (pw_put hts hO hk hlt hj q2 q3 q4 e1)) (fun q hq => by
    rw [List.mem_singleton] at hq
    rw [hq]
    exact hba)
/-- what a new object's fields hold -/
def pw_df (k : Nat) : List Value := (List.range (pw_nf k)).map (fun j => defaultValue (pw_ty k j))
theorem r_new {index : Nat} (hd : decode M.2.1 pc = .ok (.new index, 3)) (k : Nat) (r : vw_C) (hk : pw_cl[k]? = some r) (hlt : k < 1000) (hw : Cond.classLink M.1.cls index r.1 ∈ lw_all) (hi : Cond.instantiable r.1 r.2.2 ∈ lw_all) (hz : Cond.initialized r.1 ∈ lw_all)
    (fs : List Value) (hfs : pw_df k = fs) (n : Nat) (hn : r.2.2 = n) (kk : pw_Wp E M d (pc + 3) L (va_rf (some w.2.1) :: st) (pw_new w (k, fs) n) Post) : pw_Wp E M d pc L st w Post := by
  subst hfs
  subst hn
  refine pw_goN (n := r.2.2) rfl rfl (fun p e R s m args below meth c H locs cells slots ls Q hC _ _ hH hL hc1 hc2 kk => ?_) kk
  obtain ⟨hx, hb, -, -, -, hown, -, hts, hO, -⟩ := hC
  have hKn := hO.1 k r hk
  refine W.newcK hx hb hown (hts _ hw) (hts _ hi) (hts _ hz) rfl hd hc1 hc2 hKn.2.1 rfl fun H1 kC hkC e1 z1 o1 => ?_
  rw [hH.1] at *
  refine kk H1 (hH.push (by rw [hH.1]; exact z1) (fun q hq => o1 q (by rw [hH.1] at hq; exact hq)) ?_) 
  rw [hH.1]
  obtain ⟨cell, g1, g2, g3, g4⟩ := u_born (pw_ty k) hts (pw_in k r hk) hKn hkC e1 (pw_tyok k r hk)
  refine ⟨cell, g1, g2, ⟨Or.inl g3, fun _ => by cases g1.symm.trans e1; exact ⟨rfl, rfl⟩⟩, ?_⟩
  rw [if_pos hlt]
  refine ⟨by simp [pw_df], fun j v hv => ?_⟩
  have hj : j < r.2.2 := by
    have := (List.getElem?_eq_some_iff.mp hv).1
    simpa [pw_df, pw_nf_of hk] using this
  rw [g4 j hj]
  simp only [pw_df, List.getElem?_map, pw_nf_of hk, List.getElem?_range hj, Option.map_some] at hv
  exact hv
theorem r_objInit {idx : Nat} (hd : decode M.2.1 pc = .ok (.invokespecial idx, 3)) (hw : Cond.methodLink M.1.cls idx Lib.objectInit ∈ lw_all) (h2 : Cond.instanceMethod Lib.objectInit ∈ lw_all) (h3 : Cond.code Lib.objectInit ⟨#[0xb1]⟩ 1 none ∈ lw_all) (h1 : 1 ≤ d) {a : Nat} (hs : 2 * st.length ≤ 16) (kk : pw_Wp E M d (pc + 3) L st w Post) : pw_Wp E M d pc L (va_rf (some a) :: st) w Post := by
  refine pw_go (fun p e R s m args below meth c H locs cells slots ls Q hC hf hl hH hL kk => ?_) kk
  obtain ⟨hx, hb, -, -, hml, hown, -, hts, hO, -⟩ := hC
  refine W.objInit hx hb hown (hts _ hw) (hts _ h2) (hts _ h3) rfl (by rw [hml]; exact hL.1) rfl hd (by omega) ?_ (kk ls hL)
  have : ∀ l : List Value, (l.map fun v => v.category).sum ≤ 2 * l.length := by
    intro l
    induction l with
    | nil => simp
    | cons a t ih =>
      have : a.category ≤ 2 := by cases a <;> simp [Value.category]
      simp only [List.map_cons, List.sum_cons, List.length_cons]
      omega
  have h9 := this st
  show 2 * 0 + (st.map fun v => v.category).sum + 12 ≤ R.locals
  omega
end
