set_option maxRecDepth 100000
/-! the component: an archive of one's own -/
def c_aX (E : pw_E) (h : pw_H) (a : Nat) (Ds : List dc) (t : Int) (l : lX) (as : List Nat) (xs : List dX) : Prop :=
  (h a = some (4, [va_rf (some l.1), .int (iI t)]) ∧ pw_base E ≤ a) ∧ c_lX E h l as ∧ (as.length = Ds.length ∧ xs.length = Ds.length) ∧
  (∀ (i b : Nat) (D : dc) (x : dX), as[i]? = some b → Ds[i]? = some D → xs[i]? = some x → c_dX E h b D (dc_set D.1) x) ∧
  (∀ (i j : Nat) (x y : dX), i ≠ j → xs[i]? = some x → xs[j]? = some y → ∀ q, d_F x q → ¬ d_F y q) ∧
  ∀ (i : Nat) (x : dX), xs[i]? = some x → ∀ q, d_F x q → q ≠ l.1 ∧ q ≠ l.2.1
/-- what an archive owns and writes -/
def a_F (a : Nat) (l : lX) (xs : List dX) : Nat → Prop := fun q => q = a ∨ q = l.1 ∨ q = l.2.1 ∨ ∃ (i : Nat) (x : dX), xs[i]? = some x ∧ d_F x q
section
variable {E : pw_E} {d : Nat} {w w' : pw_W} {a b i n : Nat} {D : dc} {x x' : dX} {F : Nat → Prop} {Ds : List dc} {t : Int} {l : lX} {as : List Nat} {xs : List dX}
theorem c_aX.arch {h : pw_H} (k : c_aX E h a Ds t l as xs) : c_arch E h h a Ds t := by
  obtain ⟨⟨k1, k0⟩, k2, ⟨k3, k4⟩, k5, -⟩ := k
  refine ⟨l.1, l.2.1, l.2.2.1, l.2.2.2, as, k1, k2, ⟨k3, fun i b D hb hD => ?_⟩, k0⟩
  obtain ⟨x, hx⟩ := dc_get (l := xs) (i := i) (by have := (List.getElem?_eq_some_iff.mp hD).1; omega)
  exact (k5 i b D x hb hD hx).doc
/-- the kinds of what a document owns -/
theorem d_F_kind {X : Nat → Int} (hw : wf E w) (hk : c_dX E w.1 b D X x) {q : Nat} (h : d_F x q) : ∃ o : pw_O, w.1 q = some o ∧ (o.1 = 18 ∨ o.1 = 1003 ∨ o.1 = 7) ∧ pw_base E ≤ q := by
  obtain ⟨k1, k2, k3, k4, -, ⟨k7, k8⟩, -, ⟨b1, b2, b3, -⟩, -⟩ := hk
  have al : ∀ (l : lX) (ys : List Nat), c_lX E w.1 l ys → (q = l.1 ∨ (q = l.2.1 ∧ 0 < l.2.2.1)) → ∃ o : pw_O, w.1 q = some o ∧ (o.1 = 18 ∨ o.1 = 1003 ∨ o.1 = 7) ∧ pw_base E ≤ q := by
    intro l ys hl hq
    obtain ⟨vs, q1, q2, q3, q4, q5, q6, q7, q8, q9⟩ := c_al.use hw hl
    rcases hq with rfl | ⟨rfl, hc⟩
    · exact ⟨_, q1, Or.inl rfl, q7⟩
    · exact ⟨_, q2, Or.inr (Or.inl rfl), q9 hc⟩
  rcases h with h | h | h | h | h | h | h
  · exact al _ _ k2 (Or.inl h)
  · exact al _ _ k2 (Or.inr h)
  · exact al _ _ k3 (Or.inl h)
  · exact al _ _ k3 (Or.inr h)
  · exact al _ _ k4 (Or.inl h)
  · exact al _ _ k4 (Or.inr h)
  · obtain ⟨j, hj⟩ := List.getElem?_of_mem h
    obtain ⟨s, hs⟩ := dc_get (l := D.2.1) (i := j) (by have := (List.getElem?_eq_some_iff.mp hj).1; omega)
    obtain ⟨c, c1, -⟩ := k8 j q s hj hs
    exact ⟨_, c1, Or.inr (Or.inr rfl), b3 q h⟩
theorem c_aX.at (k : c_aX E w.1 a Ds t l as xs) (hi : Ds[i]? = some D) : ∃ (b : Nat) (x : dX), as[i]? = some b ∧ xs[i]? = some x ∧ c_dX E w.1 b D (dc_set D.1) x := by
  obtain ⟨-, -, ⟨k3, k4⟩, k5, -⟩ := k
  have := (List.getElem?_eq_some_iff.mp hi).1
  obtain ⟨b, hb⟩ := dc_get (l := as) (i := i) (by omega)
  obtain ⟨x, hx⟩ := dc_get (l := xs) (i := i) (by omega)
  exact ⟨b, x, hb, hx, k5 i b D x hb hi hx⟩
/-- others' doings -/
theorem c_aX.keep (hw : wf E w) (k : c_aX E w.1 a Ds t l as xs) (z : cx E w w' F n) (hF : ∀ q, a_F a l xs q → ¬ F q) (hK : ∀ (q : Nat) (o : pw_O), w.1 q = some o → F q → k_fix o) : c_aX E w'.1 a Ds t l as xs := by
  obtain ⟨⟨k1, k0⟩, k2, k34, k5, k6⟩ := k
  exact ⟨⟨z.keep k1 (hF _ (Or.inl rfl)), k0⟩, c_lX.keep k2 z (hF _ (Or.inr (Or.inl rfl))) (fun _ => hF _ (Or.inr (Or.inr (Or.inl rfl)))), k34, fun i b D x hb hD hx => (k5 i b D x hb hD hx).keep z (fun q hq => hF q (Or.inr (Or.inr (Or.inr ⟨i, x, hx, hq⟩)))) hK, k6⟩
/-- one of its documents changed -/
theorem c_aX.edit {D' : dc} (hw : wf E w) (k : c_aX E w.1 a Ds t l as xs) (hi : Ds[i]? = some D) (hb : as[i]? = some b) (hx : xs[i]? = some x) (z : cx E w w' (d_F x) n) (hk : c_dX E w'.1 b D' (dc_set D'.1) x') (hn : ∀ q, d_F x' q → d_F x q ∨ w.2.1 ≤ q) : c_aX E w'.1 a (Ds.set i D') t l as (xs.set i x') := by
  obtain ⟨⟨k1, k0⟩, k2, ⟨k3, k4⟩, k5, k6, k7⟩ := k
  have kx := k5 i b D x hb hi hx
  have kind := fun (q : Nat) (o : pw_O) (ho : w.1 q = some o) (hq : d_F x q) => (show o.1 = 18 ∨ o.1 = 1003 ∨ o.1 = 7 from by
    obtain ⟨o', g1, g2, -⟩ := d_F_kind hw kx hq
    rw [ho] at g1; cases g1; exact g2)
  have il := (List.getElem?_eq_some_iff.mp hi).1
  have kfix : ∀ (q : Nat) (o : pw_O), w.1 q = some o → d_F x q → k_fix o := fun q o ho hq => by
    have := kind q o ho hq
    unfold k_fix
    omega
  obtain ⟨vs, q1, q2, -⟩ := c_al.use hw k2
  have l1 := hw.lt q1
  have l2 := hw.lt q2
  refine ⟨⟨z.keep k1 (fun hq => by have := kind _ _ k1 hq; have : (4 : Nat) = 18 ∨ (4 : Nat) = 1003 ∨ (4 : Nat) = 7 := this; omega), k0⟩, c_lX.keep k2 z (fun hq => (k7 i x hx _ hq).1 rfl) (fun _ hq => (k7 i x hx _ hq).2 rfl), ⟨by rw [List.length_set]; exact k3, by rw [List.length_set, List.length_set]; exact k4⟩, fun j b9 D9 x9 hb9 hD9 hx9 => ?_, fun j j' y y' hne hy hy' q hq => ?_, fun j y hy q hq => ?_⟩
  · by_cases e : i = j
    · subst e
      rw [List.getElem?_set_self (by omega)] at hD9 hx9
      cases hD9
      cases hx9
      rw [hb] at hb9
      cases hb9
      exact hk
    · rw [List.getElem?_set_ne e] at hD9 hx9
      exact (k5 j b9 D9 x9 hb9 hD9 hx9).keep z (fun q hq => k6 j i x9 x (Ne.symm e) hx9 hx q hq) kfix
  · have lt : ∀ (m : Nat) (y : dX), xs[m]? = some y → ∀ q, d_F y q → q < w.2.1 := fun m y hy q hq => by
      have hm := (List.getElem?_eq_some_iff.mp hy).1
      obtain ⟨D9, hD9⟩ := dc_get (l := Ds) (i := m) (by omega)
      obtain ⟨b9, hb9⟩ := dc_get (l := as) (i := m) (by omega)
      exact dX_lt hw (k5 m b9 D9 y hb9 hD9 hy) hq
    by_cases e : i = j
    · subst e
      rw [List.getElem?_set_self (by omega)] at hy
      cases hy
      rw [List.getElem?_set_ne hne] at hy'
      rcases hn q hq with h9 | h9
      · exact k6 i j' x y' hne hx hy' q h9
      · exact fun h8 => by have := lt j' y' hy' q h8; omega
    · rw [List.getElem?_set_ne e] at hy
      by_cases e' : i = j'
      · subst e'
        rw [List.getElem?_set_self (by omega)] at hy'
        cases hy'
        intro h8
        rcases hn q h8 with h9 | h9
        · exact k6 j i y x hne hy hx q hq h9
        · have := lt j y hy q hq; omega
      · rw [List.getElem?_set_ne e'] at hy'
        exact k6 j j' y y' hne hy hy' q hq
  · by_cases e : i = j
    · subst e
      rw [List.getElem?_set_self (by omega)] at hy
      cases hy
      rcases hn q hq with h9 | h9
      · exact k7 i x hx q h9
      · exact ⟨by omega, by omega⟩
    · rw [List.getElem?_set_ne e] at hy
      exact k7 j y hy q hq
/-- a document joins the others -/
theorem c_aX.join (hw : wf E w) (k : c_aX E w.1 a Ds t l as xs) {l' : lX} {u : pw_W} (hk : c_dX E w.1 b D (dc_set D.1) x) (hn : ∀ q, d_F x q → ¬ a_F a l xs q) (z : cx E w u (fun q => q = l.1 ∨ (q = l.2.1 ∧ 0 < l.2.2.1)) n) (hl : c_lX E u.1 l' (as ++ [b])) (h1 : l'.1 = l.1) (h2 : l'.2.1 = l.2.1 ∨ w.2.1 ≤ l'.2.1) : c_aX E u.1 a (Ds ++ [D]) t l' (as ++ [b]) (xs ++ [x]) := by
  obtain ⟨⟨k1, k0⟩, k2, ⟨k3, k4⟩, k5, k6, k7⟩ := id k
  obtain ⟨vs, q1, q2, -⟩ := c_al.use hw k2
  have lt : ∀ (m : Nat) (y : dX), xs[m]? = some y → ∀ q, d_F y q → q < w.2.1 := fun m y hy q hq => by
    have hm := (List.getElem?_eq_some_iff.mp hy).1
    obtain ⟨D9, hD9⟩ := dc_get (l := Ds) (i := m) (by omega)
    obtain ⟨b9, hb9⟩ := dc_get (l := as) (i := m) (by omega)
    exact dX_lt hw (k5 m b9 D9 y hb9 hD9 hy) hq
  have kfix : ∀ (q : Nat) (o : pw_O), w.1 q = some o → (q = l.1 ∨ (q = l.2.1 ∧ 0 < l.2.2.1)) → k_fix o := fun q o ho hq => by
    rcases hq with rfl | ⟨rfl, -⟩
    · rw [q1] at ho; cases ho; exact ⟨(by decide : (18 : Nat) ≠ 6), (by decide : (18 : Nat) ≠ 1000), (by decide : (18 : Nat) ≠ 21), (by decide : (18 : Nat) ≠ 1001), (by decide : (18 : Nat) ≠ 28)⟩
    · rw [q2] at ho; cases ho; exact ⟨(by decide : (1003 : Nat) ≠ 6), (by decide : (1003 : Nat) ≠ 1000), (by decide : (1003 : Nat) ≠ 21), (by decide : (1003 : Nat) ≠ 1001), (by decide : (1003 : Nat) ≠ 28)⟩
  have na : ¬ (a = l.1 ∨ (a = l.2.1 ∧ 0 < l.2.2.1)) := by
    rintro (e | ⟨e, -⟩)
    · rw [← e, k1] at q1; cases q1
    · rw [← e, k1] at q2; cases q2
  refine ⟨⟨by rw [h1]; exact z.keep k1 na, k0⟩, hl, ⟨by rw [List.length_append, List.length_append, k3]; rfl, by rw [List.length_append, List.length_append, k4]; rfl⟩, fun j b9 D9 x9 hb9 hD9 hx9 => ?_, fun j j' y y' hne hy hy' q hq hq' => ?_, fun j y hy q hq => ?_⟩
  · rcases app_at hD9 with ⟨j1, j2⟩ | ⟨j1, j2⟩
    · rcases app_at hb9 with ⟨j3, j4⟩ | ⟨j3, j4⟩
      · rcases app_at hx9 with ⟨j5, j6⟩ | ⟨j5, j6⟩
        · refine (k5 j b9 D9 x9 j4 j2 j6).keep z (fun q hq h9 => ?_) kfix
          have := k7 j x9 j6 q hq
          rcases h9 with h9 | ⟨h9, -⟩
          · exact this.1 h9
          · exact this.2 h9
        · omega
      · omega
    · rcases app_at hb9 with ⟨j3, j4⟩ | ⟨j3, j4⟩
      · omega
      · rcases app_at hx9 with ⟨j5, j6⟩ | ⟨j5, j6⟩
        · omega
        · subst j2; subst j4; subst j6
          refine hk.keep z (fun q hq h9 => hn q hq ?_) kfix
          rcases h9 with h9 | ⟨h9, -⟩
          · exact Or.inr (Or.inl h9)
          · exact Or.inr (Or.inr (Or.inl h9))
  · rcases app_at hy with ⟨j1, j2⟩ | ⟨j1, j2⟩
    · rcases app_at hy' with ⟨j3, j4⟩ | ⟨j3, j4⟩
      · exact k6 j j' y y' hne j2 j4 q hq hq'
      · subst j4
        exact hn q hq' (Or.inr (Or.inr (Or.inr ⟨j, y, j2, hq⟩)))
    · rcases app_at hy' with ⟨j3, j4⟩ | ⟨j3, j4⟩
      · subst j2
        exact hn q hq (Or.inr (Or.inr (Or.inr ⟨j', y', j4, hq'⟩)))
      · omega
  · rcases app_at hy with ⟨j1, j2⟩ | ⟨j1, j2⟩
    · have h7 := k7 j y j2 q hq
      refine ⟨by rw [h1]; exact h7.1, ?_⟩
      rcases h2 with h2 | h2
      · rw [h2]; exact h7.2
      · have := lt j y j2 q hq
        omega
    · subst j2
      have h7 := hn q hq
      refine ⟨fun e => h7 (Or.inr (Or.inl (by rw [e, h1]))), fun e => ?_⟩
      rcases h2 with h2 | h2
      · exact h7 (Or.inr (Or.inr (Or.inl (by rw [e, h2]))))
      · have := dX_lt hw hk hq
        omega
/-- its date put -/
theorem c_aX.date {y : Int} (hw : wf E w) (k : c_aX E w.1 a Ds t l as xs) : cx E w (pw_up w a (4, [va_rf (some l.1), .int (iI y)])) (fun q => q = a) 0 ∧ c_aX E (pw_up w a (4, [va_rf (some l.1), .int (iI y)])).1 a Ds y l as xs := by
  obtain ⟨⟨k1, k0⟩, k2, ⟨k3, k4⟩, k5, k6, k7⟩ := id k
  have z := cx.up (F := fun q => q = a) hw (4, [va_rf (some l.1), .int (iI y)]) k1 k0 rfl
  obtain ⟨vs, q1, q2, -⟩ := c_al.use hw k2
  have n1 : l.1 ≠ a := by rintro e; rw [e, k1] at q1; cases q1
  have n2 : l.2.1 ≠ a := by rintro e; rw [e, k1] at q2; cases q2
  refine ⟨z, ⟨pw_up_1 _ _ _, k0⟩, c_lX.keep k2 z n1 (fun _ => n2), ⟨k3, k4⟩, fun i b D x hb hD hx => (k5 i b D x hb hD hx).keep z (fun q hq e => ?_) (fun q o ho e => ?_), k6, k7⟩
  · have e : q = a := e
    subst e
    obtain ⟨o, g1, g2, -⟩ := d_F_kind hw (k5 i b D x hb hD hx) hq
    rw [k1] at g1; cases g1
    rcases g2 with g2 | g2 | g2 <;> cases g2
  · have e : q = a := e
    subst e
    rw [k1] at ho; cases ho
    exact ⟨(by decide : (4 : Nat) ≠ 6), (by decide : (4 : Nat) ≠ 1000), (by decide : (4 : Nat) ≠ 21), (by decide : (4 : Nat) ≠ 1001), (by decide : (4 : Nat) ≠ 28)⟩
end
