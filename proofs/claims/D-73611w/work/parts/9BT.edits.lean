set_option maxRecDepth 100000
/-! the component: a document of one's own, edited -/
/-- a list's object, array, room, count of changes -/
abbrev lX : Type := Nat × Nat × Nat × Int32
/-- versions, tokens, dates; rows, tokens, boxes -/
abbrev dX : Type := lX × lX × lX × List Nat × List Nat × List Nat
def c_lX (E : pw_E) (h : pw_H) (l : lX) (xs : List Nat) : Prop := c_al E h l.1 l.2.2.2 l.2.1 l.2.2.1 (xs.map some)
def c_dX (E : pw_E) (h : pw_H) (a : Nat) (D : dc) (X : Nat → Int) (x : dX) : Prop :=
  h a = some (6, [va_rf (some x.1.1), va_rf (some x.2.1.1), va_rf (some x.2.2.1.1)]) ∧
  c_lX E h x.1 x.2.2.2.1 ∧ c_lX E h x.2.1 x.2.2.2.2.1 ∧ c_lX E h x.2.2.1 x.2.2.2.2.2 ∧
  (x.2.2.2.1.length = D.1.length ∧ ∀ (v r : Nat) (row : List Nat), x.2.2.2.1[v]? = some r → D.1[v]? = some row → c_ints h r row) ∧
  (x.2.2.2.2.1.length = D.2.1.length ∧ ∀ (j t : Nat) (s : List Int), x.2.2.2.2.1[j]? = some t → D.2.1[j]? = some s → c_tok h h t s (X j)) ∧
  (x.2.2.2.2.2.length = D.2.2.length ∧ ∀ (i b : Nat) (y : Int), x.2.2.2.2.2[i]? = some b → D.2.2[i]? = some y → c_box h b y) ∧
  (pw_base E ≤ a ∧ x.2.2.2.2.1.Nodup ∧ (∀ t ∈ x.2.2.2.2.1, pw_base E ≤ t) ∧ x.1.1 ≠ x.2.1.1 ∧ x.1.1 ≠ x.2.2.1.1 ∧ x.2.1.1 ≠ x.2.2.1.1 ∧ x.1.2.1 ≠ x.2.1.2.1 ∧ x.1.2.1 ≠ x.2.2.1.2.1 ∧ x.2.1.2.1 ≠ x.2.2.1.2.1) ∧
  2 * x.1.2.2.1 ≤ 3 * x.2.2.2.1.length + 20 ∧ 2 * x.2.1.2.2.1 ≤ 3 * x.2.2.2.2.1.length + 20 ∧ 2 * x.2.2.1.2.2.1 ≤ 3 * x.2.2.2.2.2.length + 20
theorem c_dX.doc {E : pw_E} {h : pw_H} {a : Nat} {D : dc} {x : dX} (k : c_dX E h a D (dc_set D.1) x) : c_doc E h h a D := by
  obtain ⟨⟨lv, bv, cv, mv⟩, ⟨lt, bt, ct, mt⟩, ⟨ld, bd, cd, md⟩, rs, ts, ds⟩ := x
  exact ⟨lv, bv, cv, mv, lt, bt, ct, mt, ld, bd, cd, md, rs, ts, ds, k⟩
theorem c_doc.X {E : pw_E} {h : pw_H} {a : Nat} {D : dc} (k : c_doc E h h a D) : ∃ x, c_dX E h a D (dc_set D.1) x := by
  obtain ⟨lv, bv, cv, mv, lt, bt, ct, mt, ld, bd, cd, md, rs, ts, ds, k⟩ := k
  exact ⟨((lv, bv, cv, mv), (lt, bt, ct, mt), (ld, bd, cd, md), rs, ts, ds), k⟩
/-- what a document owns and writes -/
def d_F (x : dX) : Nat → Prop := fun q => q = x.1.1 ∨ (q = x.1.2.1 ∧ 0 < x.1.2.2.1) ∨ q = x.2.1.1 ∨ (q = x.2.1.2.1 ∧ 0 < x.2.1.2.2.1) ∨ q = x.2.2.1.1 ∨ (q = x.2.2.1.2.1 ∧ 0 < x.2.2.1.2.2.1) ∨ q ∈ x.2.2.2.2.1
section
variable {E : pw_E} {d : Nat} {w w' : pw_W} {a : Nat} {D : dc} {X : Nat → Int} {x : dX} {F : Nat → Prop} {n : Nat}
theorem c_lX.keep {l : lX} {xs : List Nat} (k : c_lX E w.1 l xs) (z : cx E w w' F n) (h1 : ¬ F l.1) (h2 : 0 < l.2.2.1 → ¬ F l.2.1) : c_lX E w'.1 l xs := c_al.keep k z h1 h2
theorem c_tok.keep {t : Nat} {s : List Int} {y : Int} (k : c_tok w.1 w.1 t s y) (z : cx E w w' F n) (h1 : ¬ F t) (hF : ∀ (q : Nat) (o : pw_O), w.1 q = some o → F q → o.1 ≠ 21 ∧ o.1 ≠ 1001) : c_tok w'.1 w'.1 t s y := by
  obtain ⟨c, h3, h4⟩ := k
  exact ⟨c, z.keep h3 h1, h4.keep z hF⟩
/-- kinds that hold what never changes once made -/
def k_fix (o : pw_O) : Prop := o.1 ≠ 6 ∧ o.1 ≠ 1000 ∧ o.1 ≠ 21 ∧ o.1 ≠ 1001 ∧ o.1 ≠ 28
theorem c_dX.keep (k : c_dX E w.1 a D X x) (z : cx E w w' F n) (h1 : ∀ q, d_F x q → ¬ F q) (hF : ∀ (q : Nat) (o : pw_O), w.1 q = some o → F q → k_fix o) : c_dX E w'.1 a D X x := by
  obtain ⟨k1, k2, k3, k4, ⟨k5, k6⟩, ⟨k7, k8⟩, ⟨k9, k10⟩, k11⟩ := k
  refine ⟨z.keep k1 (fun f => (hF _ _ k1 f).1 rfl), k2.keep z (h1 _ (Or.inl rfl)) (fun c => h1 _ (Or.inr (Or.inl ⟨rfl, c⟩))), k3.keep z (h1 _ (Or.inr (Or.inr (Or.inl rfl)))) (fun c => h1 _ (Or.inr (Or.inr (Or.inr (Or.inl ⟨rfl, c⟩))))), k4.keep z (h1 _ (Or.inr (Or.inr (Or.inr (Or.inr (Or.inl rfl)))))) (fun c => h1 _ (Or.inr (Or.inr (Or.inr (Or.inr (Or.inr (Or.inl ⟨rfl, c⟩))))))), ⟨k5, fun v r row e f => ?_⟩, ⟨k7, fun j t s e f => (k8 j t s e f).keep z (h1 _ (Or.inr (Or.inr (Or.inr (Or.inr (Or.inr (Or.inr (List.mem_of_getElem? e)))))))) (fun q o g1 g2 => ⟨(hF q o g1 g2).2.2.1, (hF q o g1 g2).2.2.2.1⟩)⟩, ⟨k9, fun i b y e f => ?_⟩, k11⟩
  · have := k6 v r row e f
    exact z.keep this (fun g => (hF _ _ this g).2.1 rfl)
  · have := k10 i b y e f
    exact z.keep this (fun g => (hF _ _ this g).2.2.2.2 rfl)
theorem c_dX.many {K : Int32 → pw_W → Prop} (hd : 2 ≤ d) (k : c_dX E w.1 a D X x) (H : K (iI D.1.length) w) : f_V E w (some a) 6 m_X7_many d [] (c_i K) := by
  obtain ⟨k1, k2, k3, k4, ⟨k5, k6⟩, -⟩ := k
  replace hd := pw_d1 hd; obtain ⟨e, rfl, hd⟩ := hd
  refine ⟨a, _, rfl, k1, e_X7_many _ (s_X7_many_0 _ ⟨a, _, _, rfl, k1, rfl, _, _, rfl, k2.1, cl_size_ok hd k2 ⟨_, rfl, ?_⟩⟩)⟩
  rw [List.length_map, k5]
  exact H
/-- a token's versions written -/
theorem c_dX.tokset {j t : Nat} {y : Int} {us : List Value} (hw : wf E w) (k : c_dX E w.1 a D X x) (hj : x.2.2.2.2.1[j]? = some t) (hc : ∃ c : Nat, w.1 t = some (7, [va_rf (some c), .int (iI (X j))]) ∧ us = [va_rf (some c), .int (iI y)]) : cx E w (pw_up w t (7, us)) (d_F x) 0 ∧ c_dX E (pw_up w t (7, us)).1 a D (fun i => if i = j then y else X i) x := by
  obtain ⟨c, hc, rfl⟩ := hc
  obtain ⟨k1, k2, k3, k4, ⟨k5, k6⟩, ⟨k7, k8⟩, ⟨k9, k10⟩, k11⟩ := k
  obtain ⟨b1, b2, b3, b4⟩ := k11.1
  have hbt := b3 t (List.mem_of_getElem? hj)
  have cz : ∀ G : Nat → Prop, G t → cx E w (pw_up w t (7, [va_rf (some c), .int (iI y)])) G 0 := fun G g => cx.up hw _ hc hbt g
  have c1 := cz (fun q => q = t) rfl
  have nk : ∀ (q k : Nat) (us : List Value), w.1 q = some (k, us) → k ≠ 7 → q ≠ t := by
    rintro q k us hq ho rfl
    rw [hc] at hq
    cases hq
    exact ho rfl
  have al : ∀ (l : lX) (xs : List Nat), c_lX E w.1 l xs → c_lX E (pw_up w t (7, [va_rf (some c), .int (iI y)])).1 l xs := by
    intro l xs hl
    refine hl.keep c1 (nk _ _ _ hl.1 (by decide)) (fun hpos => ?_)
    obtain ⟨vs, -, hv, -⟩ := c_al.use hw hl
    exact nk _ _ _ hv (by decide)
  refine ⟨cz _ (Or.inr (Or.inr (Or.inr (Or.inr (Or.inr (Or.inr (List.mem_of_getElem? hj))))))), c1.keep k1 (nk _ _ _ k1 (by decide)), al _ _ k2, al _ _ k3, al _ _ k4, ⟨k5, fun v r row e f => ?_⟩, ⟨k7, fun i t' s e f => ?_⟩, ⟨k9, fun i b y e f => ?_⟩, k11⟩
  · have := k6 v r row e f
    exact c1.keep this (nk _ _ _ this (by decide))
  · have h8 := k8 i t' s e f
    have hs : ∀ (q : Nat) (o : pw_O), w.1 q = some o → q = t → o.1 ≠ 21 ∧ o.1 ≠ 1001 := by
      rintro q o hq rfl
      rw [hc] at hq
      cases hq
      exact ⟨(by decide : (7 : Nat) ≠ 21), (by decide : (7 : Nat) ≠ 1001)⟩
    by_cases q : i = j
    · subst q
      rw [hj] at e
      cases e
      obtain ⟨c', h9, h10⟩ := h8
      rw [hc] at h9
      cases h9
      refine ⟨c, ?_, h10.keep c1 hs⟩
      rw [pw_up_1]
      show _ = some (7, [va_rf (some c), Value.int (iI (if i = i then y else X i))])
      rw [if_pos rfl]
    · show c_tok _ _ t' s (if i = j then y else X i)
      rw [if_neg q]
      refine h8.keep c1 (fun z => ?_) hs
      have z : t' = t := z
      subst z
      have h1 := (List.getElem?_eq_some_iff.mp e)
      have h2 := (List.getElem?_eq_some_iff.mp hj)
      obtain ⟨p1, p2⟩ := h1
      obtain ⟨q1, q2⟩ := h2
      exact q ((List.getElem_inj b2).mp (p2.trans q2.symm))
  · have := k10 i b y e f
    exact c1.keep this (nk _ _ _ this (by decide))
end
