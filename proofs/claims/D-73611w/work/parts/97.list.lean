set_option maxRecDepth 100000
/-! the component: numbers; copies of arrays; lists -/
theorem iI_nn {n : Nat} (h : n ≤ 1000000000) : (iI n).toNatClampNeg = n := by
  rw [iI_nat (rI_small (by omega) (by omega))]; exact Int.toNat_natCast n
theorem iI_n0 {n : Nat} (h : n ≤ 1000000000) : ¬ iI n < 0 := by
  intro q
  have q : iI n < iI 0 := q
  rw [iI_lt (rI_small (by omega) (by omega)) (rI_small (by omega) (by omega))] at q
  omega
theorem iI_ltn {a b : Nat} (ha : a ≤ 1000000000) (hb : b ≤ 1000000000) : (iI a < iI b) = (a < b) := by
  rw [iI_lt (rI_small (by omega) (by omega)) (rI_small (by omega) (by omega))]
  exact propext ⟨fun h => by omega, fun h => by omega⟩
theorem iI_len {a b : Nat} (ha : a ≤ 1000000000) (hb : b ≤ 1000000000) : (iI a ≤ iI b) = (a ≤ b) := by
  rw [iI_le (rI_small (by omega) (by omega)) (rI_small (by omega) (by omega))]
  exact propext ⟨fun h => by omega, fun h => by omega⟩
theorem iI_eqn {a b : Nat} (ha : a ≤ 1000000000) (hb : b ≤ 1000000000) : (iI a = iI b) = (a = b) := by
  rw [iI_eq (rI_small (by omega) (by omega)) (rI_small (by omega) (by omega))]
  exact propext ⟨fun h => by omega, fun h => by omega⟩
theorem iI_min {a b : Nat} (ha : a ≤ 1000000000) (hb : b ≤ 1000000000) : (if iI a < iI b then iI a else iI b) = iI ((min a b : Nat) : Int) := by
  by_cases h : a < b
  · rw [if_pos (by rw [iI_ltn ha hb]; exact h), Nat.min_eq_left (by omega)]
  · rw [if_neg (by rw [iI_ltn ha hb]; exact h), Nat.min_eq_right (by omega)]
theorem iI_max {a b : Nat} (ha : a ≤ 1000000000) (hb : b ≤ 1000000000) : (if iI a < iI b then iI b else iI a) = iI ((max a b : Nat) : Int) := by
  by_cases h : a < b
  · rw [if_pos (by rw [iI_ltn ha hb]; exact h), Nat.max_eq_right (by omega)]
  · rw [if_neg (by rw [iI_ltn ha hb]; exact h), Nat.max_eq_left (by omega)]
theorem iI_half {n : Nat} (h : n ≤ 1000000000) : iI n >>> ((1 : Int32) &&& 31) = iI ((n / 2 : Nat) : Int) := by
  apply Int32.toInt_inj.mp
  rw [show ((1 : Int32) &&& 31) = 1 from by decide, iI_toInt (rI_small (by omega) (by omega))]
  have e2 : (iI n >>> (1 : Int32)).toInt = ((iI n).toBitVec.sshiftRight 1).toInt := rfl
  rw [e2, BitVec.toInt_sshiftRight, show (iI n).toBitVec.toInt = (iI n).toInt from rfl, iI_toInt (rI_small (by omega) (by omega)), Int.shiftRight_eq_div_pow]
  show (n : Int) / 2 = _
  omega
theorem iI_adn (a b : Nat) : iI a + iI b = iI ((a + b : Nat) : Int) := by rw [iI_add]; congr 1
theorem iI_ad1 (a : Nat) : iI a + 1 = iI ((a + 1 : Nat) : Int) := iI_adn a 1
def c_ok (h : pw_H) (x : Option Nat) : Prop := x = none ∨ ∃ (b k : Nat) (us : List Value), x = some b ∧ h b = some (k, us) ∧ pw_can k "java/lang/Object"
def c_els (h : pw_H) (xs : List (Option Nat)) : Prop := ∀ x ∈ xs, c_ok h x
theorem c_ok.mono {p h : pw_H} {x : Option Nat} (k : c_ok p x) (z : c_sub p h) : c_ok h x := by
  rcases k with k | ⟨b, k, us, h1, h2, h3⟩
  · exact Or.inl k
  · exact Or.inr ⟨b, k, us, h1, z _ _ h2, h3⟩
theorem c_fit {w : pw_W} {x : Option Nat} (h : c_ok w.1 x) : pw_fit w (.object "java/lang/Object") (va_rf x) := by
  refine ⟨fit_ro _ _, fun b e => ⟨_, rfl, ?_⟩⟩
  cases x with
  | none => cases e
  | some a => cases e; exact h
/-- a list's elements: its count of changes, its array, the room of it -/
def c_al (E : pw_E) (h : pw_H) (a : Nat) (mc : Int32) (b cap : Nat) (xs : List (Option Nat)) : Prop :=
  h a = some (18, [.int mc, va_rf (some b), .int (iI xs.length)]) ∧ xs.length ≤ cap ∧ cap ≤ 1000000 ∧ pw_base E ≤ a ∧ (cap = 0 ∧ E.2.2.2.2 1 = va_rf (some b) ∨ 0 < cap ∧ pw_base E ≤ b ∧ ∃ vs : List Value, h b = some (1003, vs) ∧ vs.length = cap ∧ ∀ (i : Nat) (x : Option Nat), xs[i]? = some x → vs[i]? = some (va_rf x))
theorem c_al.mono {E : pw_E} {p h : pw_H} {a b cap : Nat} {mc : Int32} {xs : List (Option Nat)} (k : c_al E p a mc b cap xs) (z : c_sub p h) : c_al E h a mc b cap xs := by
  obtain ⟨h1, h2, h3, h4, h5⟩ := k
  refine ⟨z _ _ h1, h2, h3, h4, ?_⟩
  rcases h5 with h5 | ⟨h5, h6, vs, h7, h8⟩
  · exact Or.inl h5
  · exact Or.inr ⟨h5, h6, vs, z _ _ h7, h8⟩
theorem c_al.keep {E : pw_E} {w w' : pw_W} {F : Nat → Prop} {c a b cap : Nat} {mc : Int32} {xs : List (Option Nat)} (k : c_al E w.1 a mc b cap xs) (z : cx E w w' F c) (ha : ¬ F a) (hb : 0 < cap → ¬ F b) : c_al E w'.1 a mc b cap xs := by
  obtain ⟨h1, h2, h3, h4, h5⟩ := k
  refine ⟨z.keep h1 ha, h2, h3, h4, ?_⟩
  rcases h5 with h5 | ⟨h5, h6, vs, h7, h8⟩
  · exact Or.inl h5
  · exact Or.inr ⟨h5, h6, vs, z.keep h7 (hb h5), h8⟩
theorem c_al.len {E : pw_E} {h : pw_H} {a b cap : Nat} {mc : Int32} {xs : List (Option Nat)} (k : c_al E h a mc b cap xs) : xs.length ≤ 1000000 := Nat.le_trans k.2.1 k.2.2.1
theorem c_al.use {E : pw_E} {w : pw_W} {a b cap : Nat} {mc : Int32} {xs : List (Option Nat)} (hw : wf E w) (k : c_al E w.1 a mc b cap xs) : ∃ vs : List Value, w.1 a = some (18, [.int mc, va_rf (some b), .int (iI xs.length)]) ∧ w.1 b = some (1003, vs) ∧ vs.length = cap ∧ xs.length ≤ cap ∧ cap ≤ 1000000 ∧ (∀ (i : Nat) (x : Option Nat), xs[i]? = some x → vs[i]? = some (va_rf x)) ∧ pw_base E ≤ a ∧ (cap = 0 → E.2.2.2.2 1 = va_rf (some b)) ∧ (0 < cap → pw_base E ≤ b) := by
  obtain ⟨h1, h2, h3, h4, h5⟩ := k
  rcases h5 with ⟨h5, h6⟩ | ⟨h5, h6, vs, h7, h8, h9⟩
  · obtain ⟨⟨b0, b1, b2⟩, -⟩ := hw.S
    rw [b1] at h6
    cases h6
    subst h5
    exact ⟨[], h1, b2, rfl, h2, h3, fun i x q => by rw [List.length_eq_zero_iff.mp (Nat.le_zero.mp h2)] at q; simp at q, h4, fun _ => b1, fun q => by omega⟩
  · exact ⟨vs, h1, h7, h8, h2, h3, h9, h4, fun q => by omega, fun _ => h6⟩
section
variable {E : pw_E} {d : Nat} {w : pw_W}
theorem c_isIn_ok {x a b : Int} {K : Bool → pw_W → Prop} (hd : 1 ≤ d) (hx : rI x) (ha : rI a) (hb : rI b) (H : K (decide (a ≤ x ∧ x ≤ b)) w) : pw_Cl E m_X0_isIn d [.int (iI x), .int (iI a), .int (iI b)] w (c_z K) := by
  replace hd := pw_d1 hd; obtain ⟨e, rfl, he⟩ := hd
  refine e_X0_isIn _ _ _ (s_X0_isIn_0 _ _ _ ?_)
  by_cases h1 : x < a
  · rw [decide_eq_false (by omega)] at H
    exact ifT (by rw [iI_lt hx ha]; exact h1) ⟨false, rfl, H⟩
  · refine ifF (by rw [iI_lt hx ha]; exact h1) ?_
    by_cases h2 : b < x
    · rw [decide_eq_false (by omega)] at H
      exact ifT (by rw [iI_lt hb hx]; exact h2) ⟨false, rfl, H⟩
    · rw [decide_eq_true (show a ≤ x ∧ x ≤ b by omega)] at H
      exact ifF (by rw [iI_lt hb hx]; exact h2) ⟨true, rfl, H⟩
theorem c_isIn0_ok {x b : Int} {K : Bool → pw_W → Prop} (hd : 1 ≤ d) (hx : rI x) (hb : rI b) (H : K (decide (0 ≤ x ∧ x ≤ b)) w) : pw_Cl E m_X0_isIn d [.int (iI x), .int 0, .int (iI b)] w (c_z K) := c_isIn_ok (a := 0) hd hx (by constructor <;> omega) hb H
theorem c_has_ok {x k : Int} {K : Bool → pw_W → Prop} (hd : 1 ≤ d) (H : K (s_has x k) w) : pw_Cl E m_X0_has d [.int (iI x), .int (iI k)] w (c_z K) := by
  replace hd := pw_d1 hd; obtain ⟨e, rfl, he⟩ := hd
  refine e_X0_has _ _ (s_X0_has_0 _ _ ?_)
  unfold s_has at H
  by_cases h : ((iI x >>> (iI k &&& 31)) &&& 1) = 1
  · rw [decide_eq_true h] at H
    exact ifT h ⟨true, rfl, H⟩
  · rw [decide_eq_false h] at H
    exact ifF h ⟨false, rfl, H⟩
theorem cr_copyO {b n : Nat} {vs : List Value} {K : Option Nat → pw_W → Prop} (hd : 3 ≤ d) (hw : wf E w) (hb : w.1 b = some (1003, vs)) (hn : n ≤ 1000000) (hv : vs.length ≤ 1000000) (hok : ∀ (i : Nat) (v : Value), i < n → vs[i]? = some v → ∃ x, v = va_rf x ∧ c_ok w.1 x)
    (H : ∀ us : List Value, us.length = n → (∀ i : Nat, i < n → us[i]? = if i < vs.length then vs[i]? else some (va_rf none)) → K (some w.2.1) (pw_new w (1003, us) n)) : pw_Cl E m_J10_copyOf_2 d [va_rf (some b), .int (iI n)] w (c_r K) := by
  replace hd := pw_d1 hd; obtain ⟨e, rfl, he⟩ := hd
  obtain ⟨mi, hmi⟩ := hw.S.2.1.2.2.2.2.2.2
  refine e_J10_copyOf_2 _ _ (s_J10_copyOf_2_0 _ _ ⟨b, vs, rfl, hb, mi, hmi, ?_⟩)
  replace he := pw_d1 he; obtain ⟨e, rfl, he⟩ := he
  refine e_J10_copyOf_3 _ _ _ (s_J10_copyOf_3_0 _ _ _ ⟨mi, hmi, ifT rfl ⟨iI_n0 (by omega), by rw [iI_nn (by omega)]; omega, ?_⟩⟩)
  rw [iI_nn (show n ≤ 1000000000 by omega)]
  have hlt := hw.lt hb
  have hb' : (pw_new w (1003, List.replicate n (va_rf none)) n).1 b = some (1003, vs) := by rw [pw_new_ne (by omega)]; exact hb
  refine ⟨b, 3, _, vs, rfl, hb', rfl, ?_⟩
  show f_copy E _ (some b) 0 (some w.2.1) 0 (if iI n < iI vs.length then iI n else iI vs.length) _
  rw [iI_min (show n ≤ 1000000000 by omega) (show vs.length ≤ 1000000000 by omega)]
  refine ⟨b, w.2.1, 3, 3, _, _, vs, List.replicate n (va_rf none), rfl, rfl, rfl, rfl, rfl, fun _ => by omega, hb', pw_new_1 _ _ _, hw.b, by decide, by decide, iI_n0 (by omega), ?_, ?_, ?_, ?_⟩
  · rw [iI_nn (by omega)]
    show 0 + _ ≤ _
    omega
  · rw [iI_nn (by omega), List.length_replicate]
    show 0 + _ ≤ _
    omega
  · intro i hi v hv
    rw [iI_nn (by omega)] at hi
    have hv : vs[0 + i]? = some v := hv
    rw [Nat.zero_add] at hv
    obtain ⟨x, rfl, hx⟩ := hok i v (by omega) hv
    exact c_fit (hx.mono (fun a o q => by have := hw.lt q; rw [pw_new_ne (by omega)]; exact q))
  · rw [pw_up_new, iI_nn (show min n vs.length ≤ 1000000000 by omega)]
    have h0 : (0 : Int32).toNatClampNeg = 0 := rfl
    rw [h0]
    refine ⟨_, rfl, _, rfl, H _ ?_ ?_⟩
    · rw [pw_cpy_len (by omega) (by rw [List.length_replicate]; omega), List.length_replicate]
    · intro i hi
      rw [pw_cpy_get (by omega) (by rw [List.length_replicate]; omega)]
      by_cases q : i < vs.length
      · rw [if_pos (by omega), if_pos q]
        congr 1
        omega
      · rw [if_neg (by omega), if_neg q, List.getElem?_replicate, if_pos hi]
theorem cl_check_ok {i n : Int} {K : Int32 → pw_W → Prop} (hd : 2 ≤ d) (hi : 0 ≤ i ∧ i < n) (hn : rI n) (H : K (iI i) w) : pw_Cl E m_J19_checkIndex d [.int (iI i), .int (iI n)] w (c_i K) := by
  replace hd := pw_d1 hd; obtain ⟨e, rfl, he⟩ := hd
  replace he := pw_d1 he; obtain ⟨e, rfl, he⟩ := he
  have hir : rI i := ⟨by omega, by have := hn.2; omega⟩
  refine e_J19_checkIndex _ _ (s_J19_checkIndex_0 _ _ (e_J12_checkIndex _ _ _ (s_J12_checkIndex_0 _ _ _ ?_)))
  have h0 : (iI i < iI 0) = (i < 0) := iI_lt hir (rI_small (by omega) (by omega))
  exact ifF (fun h => by have h : iI i < iI 0 := h; rw [h0] at h; omega) (ifT (by rw [iI_lt hir hn]; exact hi.2) ⟨_, rfl, _, rfl, H⟩)
theorem cl_size_ok {a b cap : Nat} {mc : Int32} {xs : List (Option Nat)} {K : Int32 → pw_W → Prop} (hd : 1 ≤ d) (h : c_al E w.1 a mc b cap xs) (H : K (iI xs.length) w) : pw_Cl E m_J2_size d [va_rf (some a)] w (c_i K) := by
  replace hd := pw_d1 hd; obtain ⟨e, rfl, he⟩ := hd
  exact e_J2_size _ (s_J2_size_0 _ ⟨a, _, _, rfl, h.1, rfl, _, rfl, H⟩)
theorem cl_isEmpty_ok {a b cap : Nat} {mc : Int32} {xs : List (Option Nat)} {K : Bool → pw_W → Prop} (hd : 1 ≤ d) (h : c_al E w.1 a mc b cap xs) (H : K (decide (xs.length = 0)) w) : pw_Cl E m_J2_isEmpty d [va_rf (some a)] w (c_z K) := by
  replace hd := pw_d1 hd; obtain ⟨e, rfl, he⟩ := hd
  have hl := h.len
  refine e_J2_isEmpty _ (s_J2_isEmpty_0 _ ⟨a, _, _, rfl, h.1, rfl, ?_⟩)
  have e0 : (iI xs.length = 0) = (xs.length = 0) := iI_eqn (b := 0) (by omega) (by omega)
  by_cases q : xs.length = 0
  · rw [decide_eq_true q] at H
    exact ifT (by rw [e0]; exact q) ⟨true, rfl, H⟩
  · rw [decide_eq_false q] at H
    exact ifF (by rw [e0]; exact q) ⟨false, rfl, H⟩
theorem c_al.arr {h : pw_H} {a b cap : Nat} {mc : Int32} {xs : List (Option Nat)} (k : c_al E h a mc b cap xs) {i : Nat} {x : Option Nat} (hx : xs[i]? = some x) : pw_base E ≤ b ∧ ∃ vs : List Value, h b = some (1003, vs) ∧ vs.length = cap ∧ i < xs.length ∧ ∀ (i : Nat) (x : Option Nat), xs[i]? = some x → vs[i]? = some (va_rf x) := by
  obtain ⟨h1, h2, h3, h4, h5⟩ := k
  have hi : i < xs.length := (List.getElem?_eq_some_iff.mp hx).1
  rcases h5 with h5 | ⟨h5, h6, vs, h7, h8, h9⟩
  · omega
  · exact ⟨h6, vs, h7, h8, hi, h9⟩
theorem cl_elementData_ok {a b cap i : Nat} {mc : Int32} {x : Option Nat} {xs : List (Option Nat)} {K : Option Nat → pw_W → Prop} (hd : 1 ≤ d) (h : c_al E w.1 a mc b cap xs) (hx : xs[i]? = some x) (H : K x w) : pw_Cl E m_J2_elementData d [va_rf (some a), .int (iI i)] w (c_r K) := by
  replace hd := pw_d1 hd; obtain ⟨e, rfl, he⟩ := hd
  have hl := h.len
  obtain ⟨-, vs, h2, h3, hi, h6⟩ := h.arr hx
  exact e_J2_elementData _ _ (s_J2_elementData_0 _ _ ⟨a, _, some b, rfl, h.1, rfl, b, 3, _, vs, x, rfl, h2, rfl, rfl, iI_n0 (by omega), by rw [iI_nn (by omega)]; exact h6 i x hx, _, rfl, H⟩)
theorem cl_get_ok {a b cap i : Nat} {mc : Int32} {x : Option Nat} {xs : List (Option Nat)} {K : Option Nat → pw_W → Prop} (hd : 3 ≤ d) (h : c_al E w.1 a mc b cap xs) (hx : xs[i]? = some x) (H : K x w) : pw_Cl E m_J2_get d [va_rf (some a), .int (iI i)] w (c_r K) := by
  replace hd := pw_d1 hd; obtain ⟨e, rfl, he⟩ := hd
  have hl := h.len
  have hi : i < xs.length := (List.getElem?_eq_some_iff.mp hx).1
  exact e_J2_get _ _ (s_J2_get_0 _ _ ⟨a, _, _, rfl, h.1, rfl, cl_check_ok (by omega) ⟨by omega, by omega⟩ (rI_small (by omega) (by omega)) ⟨a, _, rfl, h.1, cl_elementData_ok (by omega) h hx ⟨_, rfl, H⟩⟩⟩)
/-- a new list with room for n -/
theorem cl_init_ok {a n : Nat} {x0 : Int32} {x1 : Option Nat} {K : pw_W → Prop} (hd : 3 ≤ d) (hw : wf E w) (ha : w.1 a = some (18, [.int x0, va_rf x1, .int 0])) (hb : pw_base E ≤ a) (hn : 0 < n ∧ n ≤ 1000000) (H : ∀ w', cx E w w' (fun q => q = a) (n + 4) → w'.2.1 = w.2.1 + 1 → c_al E w'.1 a 0 w.2.1 n [] → K w') : pw_Cl E m_J2_init d [va_rf (some a), .int (iI n)] w (c_v K) := by
  replace hd := pw_d1 hd; obtain ⟨e, rfl, he⟩ := hd
  refine e_J2_init _ _ (s_J2_init_0 _ _ ?_)
  replace he := pw_d1 he; obtain ⟨e, rfl, he⟩ := he
  refine e_J1_init _ (s_J1_init_0 _ ?_)
  replace he := pw_d1 he; obtain ⟨e, rfl, he⟩ := he
  refine e_J0_init _ (s_J0_init_0 _ ⟨rfl, a, _, rfl, ha, hb, rfl, ?_⟩)
  have hlt := hw.lt ha
  have e0 : (iI n ≤ 0) = (n ≤ 0) := iI_len (b := 0) (by omega) (by omega)
  refine ifF (by rw [e0]; omega) ⟨iI_n0 (by omega), by rw [iI_nn (by omega)]; omega, ?_⟩
  rw [iI_nn (by omega)]
  have c1 := cx.up hw (18, [.int 0, va_rf x1, .int 0]) ha hb (F := fun q => q = a) rfl
  have c2 := cx.new c1.ok (1003, List.replicate n (va_rf none)) n (F := fun q => q = a)
  have h1 : (pw_new (pw_up w a (18, [.int 0, va_rf x1, .int 0])) (1003, List.replicate n (va_rf none)) n).1 a = some (18, [.int 0, va_rf x1, .int 0]) := by
    rw [pw_new_ne (by show a ≠ w.2.1; omega)]
    exact pw_up_1 _ _ _
  have c3 := cx.up c2.ok (18, [.int 0, va_rf (some w.2.1), .int 0]) h1 hb (F := fun q => q = a) rfl
  refine ⟨a, _, rfl, h1, hb, rfl, H _ (((c1.tr c2).tr c3).le (by omega)) rfl ?_⟩
  refine ⟨pw_up_1 _ _ _, Nat.zero_le _, hn.2, hb, Or.inr ⟨hn.1, hw.b, List.replicate n (va_rf none), ?_, by simp, fun i x q => by simp at q⟩⟩
  rw [pw_up_ne (by omega)]
  exact pw_new_1 (pw_up w a (18, [.int 0, va_rf x1, .int 0])) _ _
/-- a new list with no room yet -/
theorem cl_init0_ok {a : Nat} {x0 : Int32} {x1 : Option Nat} {K : pw_W → Prop} (hd : 3 ≤ d) (hw : wf E w) (ha : w.1 a = some (18, [.int x0, va_rf x1, .int 0])) (hb : pw_base E ≤ a) (H : ∀ (w' : pw_W) (b : Nat), cx E w w' (fun q => q = a) 0 → w'.2 = w.2 → b < pw_base E → c_al E w'.1 a 0 b 0 [] → K w') : pw_Cl E m_J2_init_2 d [va_rf (some a)] w (c_v K) := by
  replace hd := pw_d1 hd; obtain ⟨e, rfl, he⟩ := hd
  refine e_J2_init_2 _ (s_J2_init_2_0 _ ?_)
  replace he := pw_d1 he; obtain ⟨e, rfl, he⟩ := he
  refine e_J1_init _ (s_J1_init_0 _ ?_)
  replace he := pw_d1 he; obtain ⟨e, rfl, he⟩ := he
  refine e_J0_init _ (s_J0_init_0 _ ⟨rfl, a, _, rfl, ha, hb, rfl, ?_⟩)
  obtain ⟨z, hz, z1, z2⟩ := hw.2.2
  obtain ⟨⟨b0, b1, b2⟩, -⟩ := hz
  have hlt := hw.lt ha
  have hb0 := z1 _ _ b2
  have c1 := cx.up hw (18, [.int 0, va_rf x1, .int 0]) ha hb (F := fun q => q = a) rfl
  have h1 : (pw_up w a (18, [.int 0, va_rf x1, .int 0])).1 a = some (18, [.int 0, va_rf x1, .int 0]) := pw_up_1 _ _ _
  have c3 := cx.up c1.ok (18, [.int 0, va_rf (some b0), .int 0]) h1 hb (F := fun q => q = a) rfl
  refine ⟨some b0, b1, a, _, rfl, h1, hb, rfl, H _ b0 ((c1.tr c3).le (by omega)) rfl hb0 ?_⟩
  exact ⟨pw_up_1 _ _ _, Nat.zero_le _, by omega, hb, Or.inl ⟨rfl, b1⟩⟩
/-- the next room of a full list -/
def c_gr (cap : Nat) : Nat := if cap = 0 then 10 else cap + max 1 (cap / 2)
theorem cl_newLength {K : Int32 → pw_W → Prop} {cap : Nat} (hd : 1 ≤ d) (hc : 0 < cap ∧ cap ≤ 100000) (H : K (iI ((c_gr cap : Nat) : Int)) w) : pw_Cl E m_J8_newLength d [.int (iI cap), .int (iI ((cap + 1 : Nat) : Int) - iI cap), .int (iI cap >>> ((1 : Int32) &&& 31))] w (c_i K) := by
  replace hd := pw_d1 hd; obtain ⟨e, rfl, he⟩ := hd
  have e1 : iI ((cap + 1 : Nat) : Int) - iI cap = iI ((1 : Nat) : Int) := by rw [iI_sub]; congr 1; omega
  rw [e1, iI_half (by omega)]
  refine e_J8_newLength _ _ _ (s_J8_newLength_0 _ _ _ ?_)
  rw [iI_max (by omega) (by omega), iI_adn]
  have e2 : cap + max 1 (cap / 2) = c_gr cap := by unfold c_gr; rw [if_neg (by omega)]
  rw [e2]
  have e3 : c_gr cap ≤ 200000 ∧ 0 < c_gr cap := by rw [← e2]; omega
  have e4 : (iI ((c_gr cap : Nat) : Int) ≤ 0) = (c_gr cap ≤ 0) := iI_len (b := 0) (by omega) (by omega)
  have e5 : ((2147483639 : Int32) < iI ((c_gr cap : Nat) : Int)) = (2147483639 < ((c_gr cap : Nat) : Int)) := iI_lt (a := 2147483639) (by constructor <;> omega) (rI_small (by omega) (by omega))
  exact ifF (by rw [e4]; omega) (ifF (by rw [e5]; omega) ⟨_, rfl, H⟩)
/-- a full list's room grows -/
theorem cl_grow_ok {a b cap : Nat} {mc : Int32} {xs : List (Option Nat)} {K : Option Nat → pw_W → Prop} (hd : 5 ≤ d) (hw : wf E w) (h : c_al E w.1 a mc b cap xs) (he : c_els w.1 xs) (hf : xs.length = cap) (hc : cap ≤ 100000)
    (H : ∀ w', cx E w w' (fun q => q = a) (c_gr cap + 4) → w'.2.1 = w.2.1 + 1 → c_al E w'.1 a mc w.2.1 (c_gr cap) xs → K (some w.2.1) w') : pw_Cl E m_J2_grow d [va_rf (some a)] w (c_r K) := by
  replace hd := pw_d1 hd; obtain ⟨e, rfl, hd⟩ := hd
  obtain ⟨vs, h1, h2, h3, h4, h5, h6, h7, h8, h9⟩ := h.use hw
  have hlt := hw.lt h1
  have hltb := hw.lt h2
  refine e_J2_grow _ (s_J2_grow_0 _ ⟨a, _, _, rfl, h1, rfl, a, _, rfl, h1, ?_⟩)
  rw [iI_ad1]
  replace hd := pw_d1 hd; obtain ⟨e, rfl, hd⟩ := hd
  refine e_J2_grow_2 _ _ (s_J2_grow_2_0 _ _ ⟨a, _, _, rfl, h1, rfl, b, 3, _, vs, rfl, h2, rfl, ?_⟩)
  rw [iI_ofNat, h3, hf]
  have e0 : ((0 : Int32) < iI cap) = (0 < cap) := iI_ltn (a := 0) (by omega) (by omega)
  have fin : ∀ us : List Value, us.length = c_gr cap → (∀ (i : Nat) (x : Option Nat), xs[i]? = some x → us[i]? = some (va_rf x)) → f_put E (pw_new w (1003, us) (c_gr cap)) (some a) 18 1 (va_rf (some w.2.1)) (fun w21 => c_r (fun o6 w5 => c_r K (.inl (some (va_rf o6))) w5) (.inl (some (va_rf (some w.2.1)))) w21) := by
    intro us q1 q2
    have c1 := cx.new hw (1003, us) (c_gr cap) (F := fun q => q = a)
    have g1 : (pw_new w (1003, us) (c_gr cap)).1 a = some (18, [.int mc, va_rf (some b), .int (iI xs.length)]) := by rw [pw_new_ne (by omega)]; exact h1
    have c2 := cx.up c1.ok (18, [.int mc, va_rf (some w.2.1), .int (iI xs.length)]) g1 h7 (F := fun q => q = a) rfl
    refine ⟨a, _, rfl, g1, h7, _, rfl, _, rfl, H _ ((c1.tr c2).le (by omega)) rfl ⟨pw_up_1 _ _ _, ?_, ?_, h7, Or.inr ⟨?_, hw.b, us, ?_, q1, q2⟩⟩⟩
    · unfold c_gr; split <;> omega
    · unfold c_gr; split <;> omega
    · unfold c_gr; split <;> omega
    · rw [pw_up_ne (by omega)]
      exact pw_new_1 _ _ _
  by_cases q : 0 < cap
  · refine ifT (by rw [e0]; exact q) (cl_newLength (by omega) ⟨q, hc⟩ ⟨a, _, _, rfl, h1, rfl, ?_⟩)
    have hg : c_gr cap ≤ 200000 ∧ cap ≤ c_gr cap := by unfold c_gr; split <;> omega
    refine cr_copyO hd hw h2 (by omega) (by omega) (fun i v hi hv => ?_) (fun us u1 u2 => fin us u1 (fun i x hx => ?_))
    · have hi : i < vs.length := (List.getElem?_eq_some_iff.mp hv).1
      have hx : xs[i]? = some xs[i] := List.getElem?_eq_getElem (by omega)
      have := h6 i _ hx
      rw [hv] at this
      cases this
      exact ⟨_, rfl, he _ (List.getElem_mem _)⟩
    · have hi : i < xs.length := (List.getElem?_eq_some_iff.mp hx).1
      rw [u2 i (by omega), if_pos (by omega)]
      exact h6 i x hx
  · have q0 : cap = 0 := by omega
    have hE := h8 q0
    refine ifF (by rw [e0]; exact q) ⟨a, _, _, rfl, h1, rfl, _, hE, ifT rfl ?_⟩
    have e1 : (if (10 : Int32) < iI ((cap + 1 : Nat) : Int) then iI ((cap + 1 : Nat) : Int) else 10) = iI ((10 : Nat) : Int) := by rw [q0]; decide
    rw [e1]
    refine ⟨iI_n0 (by omega), by rw [iI_nn (by omega)]; omega, ?_⟩
    rw [iI_nn (by omega)]
    have e10 : c_gr cap = 10 := by unfold c_gr; rw [if_pos q0]
    rw [e10] at fin
    exact fin _ (by simp) (fun i x hx => by
      have hi : i < xs.length := (List.getElem?_eq_some_iff.mp hx).1
      omega)
theorem c_ok.up {a k : Nat} {us vs : List Value} {x : Option Nat} (h : c_ok w.1 x) (ha : w.1 a = some (k, us)) : c_ok (pw_up w a (k, vs)).1 x := by
  rcases h with h | ⟨q, k', us', x1, x2, x3⟩
  · exact Or.inl h
  · by_cases z : q = a
    · subst z
      rw [ha] at x2
      cases x2
      exact Or.inr ⟨q, k, vs, x1, pw_up_1 _ _ _, x3⟩
    · exact Or.inr ⟨q, k', us', x1, by rw [pw_up_ne z]; exact x2, x3⟩
/-- one more element -/
theorem cl_add_ok {a b cap : Nat} {mc : Int32} {x : Option Nat} {xs : List (Option Nat)} {K : Bool → pw_W → Prop} (hd : 7 ≤ d) (hw : wf E w) (h : c_al E w.1 a mc b cap xs) (he : c_els w.1 xs) (hx : c_ok w.1 x) (hc : cap ≤ 100000)
    (H : ∀ (w' : pw_W) (b' cap' : Nat), cx E w w' (fun q => q = a ∨ (q = b ∧ xs.length < cap)) (if xs.length = cap then c_gr cap + 4 else 0) → (xs.length < cap ∧ b' = b ∧ cap' = cap ∧ w'.2 = w.2 ∨ xs.length = cap ∧ b' = w.2.1 ∧ cap' = c_gr cap ∧ w'.2.1 = w.2.1 + 1) → c_al E w'.1 a (mc + 1) b' cap' (xs ++ [x]) → K true w') : pw_Cl E m_J2_add d [va_rf (some a), va_rf x] w (c_z K) := by
  replace hd := pw_d1 hd; obtain ⟨e, rfl, hd⟩ := hd
  obtain ⟨vs, h1, h2, h3, h4, h5, h6, h7, h8, h9⟩ := h.use hw
  have hne : a ≠ b := by
    rintro rfl
    rw [h1] at h2
    cases h2
  have hlt := hw.lt h1
  have hltb := hw.lt h2
  have c1 := cx.up hw (18, [.int (mc + 1), va_rf (some b), .int (iI xs.length)]) h1 h7 (F := fun q => q = a) rfl
  refine e_J2_add _ _ (s_J2_add_0 _ _ ⟨a, _, _, rfl, h1, rfl, a, _, rfl, h1, h7, a, _, _, rfl, pw_up_1 _ _ _, rfl, a, _, _, rfl, pw_up_1 _ _ _, rfl, a, _, rfl, pw_up_1 _ _ _, ?_⟩)
  have g2 : (pw_up w a (18, [.int (mc + 1), va_rf (some b), .int (iI xs.length)])).1 b = some (1003, vs) := by rw [pw_up_ne (Ne.symm hne)]; exact h2
  have hx1 : c_ok (pw_up w a (18, [.int (mc + 1), va_rf (some b), .int (iI xs.length)])).1 x := hx.up h1
  replace hd := pw_d1 hd; obtain ⟨e, rfl, hd⟩ := hd
  refine e_J2_add_2 _ _ _ _ (s_J2_add_2_0 _ _ _ _ ⟨b, 3, _, vs, rfl, g2, rfl, ?_⟩)
  rw [iI_ofNat, h3]
  have app : ∀ (us : List Value), us.length = cap ∨ xs.length < us.length → xs.length < us.length → (∀ (i : Nat) (y : Option Nat), xs[i]? = some y → us[i]? = some (va_rf y)) → ∀ (i : Nat) (y : Option Nat), (xs ++ [x])[i]? = some y → (us.set xs.length (va_rf x))[i]? = some (va_rf y) := by
    intro us _ hu k6 i y hy
    by_cases z : i < xs.length
    · rw [List.getElem?_append_left z] at hy
      rw [List.getElem?_set_ne (by omega)]
      exact k6 i y hy
    · have hi := (List.getElem?_eq_some_iff.mp hy).1
      have : i = xs.length := by simp at hi; omega
      subst this
      simp at hy
      rw [List.getElem?_set_self hu, hy]
  have hlen : ((xs ++ [x]).length : Int) = ((xs.length + 1 : Nat) : Int) := by simp
  by_cases q : xs.length = cap
  · refine ifT (by rw [q]) ⟨a, _, rfl, pw_up_1 _ _ _, ?_⟩
    have h' : c_al E (pw_up w a (18, [.int (mc + 1), va_rf (some b), .int (iI xs.length)])).1 a (mc + 1) b cap xs := by
      refine ⟨pw_up_1 _ _ _, h.2.1, h.2.2.1, h.2.2.2.1, ?_⟩
      rcases h.2.2.2.2 with z | ⟨z1, z2, -⟩
      · exact Or.inl z
      · exact Or.inr ⟨z1, z2, vs, g2, h3, h6⟩
    have he' : c_els (pw_up w a (18, [.int (mc + 1), va_rf (some b), .int (iI xs.length)])).1 xs := fun y hy => (he y hy).up h1
    refine cl_grow_ok (by omega) c1.ok h' he' q hc (fun w2 c2 n2 h2' => ?_)
    have n2 : w2.2.1 = w.2.1 + 1 := n2
    have h2' : c_al E w2.1 a (mc + 1) w.2.1 (c_gr cap) xs := h2'
    obtain ⟨us, k1, k2, k3, k4, k5, k6, k7, k8, k9⟩ := h2'.use c2.ok
    have hxl : xs.length < c_gr cap := by rw [q]; unfold c_gr; split <;> omega
    have hx2 : c_ok w2.1 x := by
      rcases hx1 with hx | ⟨q, k, us, x1, x2, x3⟩
      · exact Or.inl hx
      · by_cases z : q = a
        · subst z
          rw [pw_up_1] at x2
          cases x2
          exact Or.inr ⟨q, 18, _, x1, k1, x3⟩
        · exact Or.inr ⟨q, k, us, x1, c2.keep x2 z, x3⟩
    have cA := cx.up c2.ok (1003, us.set xs.length (va_rf x)) k2 hw.b (F := fun q => q = w.2.1) rfl
    have kA : (pw_up w2 w.2.1 (1003, us.set xs.length (va_rf x))).1 a = some (18, [.int (mc + 1), va_rf (some w.2.1), .int (iI xs.length)]) := by rw [pw_up_ne (by omega)]; exact k1
    have cB := cx.up cA.ok (18, [.int (mc + 1), va_rf (some w.2.1), .int (iI ((xs.length + 1 : Nat) : Int))]) kA h7 (F := fun q => q = a) rfl
    refine ⟨w.2.1, 3, "java/lang/Object", us, rfl, k2, rfl, by omega, hw.b, iI_n0 (by omega), by rw [iI_nn (by omega)]; omega, hx2, ?_⟩
    rw [iI_nn (by omega), iI_ad1]
    refine ⟨a, _, rfl, kA, h7, rfl, true, rfl, ?_⟩
    refine H _ w.2.1 (c_gr cap) ?_ (Or.inr ⟨q, rfl, rfl, n2⟩) ⟨?_, ?_, k5, h7, Or.inr ⟨by omega, hw.b, us.set xs.length (va_rf x), ?_, by simp [k3], app us (Or.inr (by omega)) (by omega) k6⟩⟩
    · rw [if_pos q]
      have z1 := c1.mono (G := fun q => q = a ∨ (q = b ∧ xs.length < cap)) (fun _ _ _ e => Or.inl e) (Nat.le_refl _)
      exact (((z1.tn hw c2 (fun _ e => Or.inl (Or.inl e))).tn hw cA (fun q e => Or.inr (Nat.le_of_eq (Eq.symm e)))).tn hw cB (fun _ e => Or.inl (Or.inl e))).le (by omega)
    · rw [pw_up_1, hlen]
      rfl
    · simp; omega
    · rw [pw_up_ne (by omega)]; exact pw_up_1 _ _ _
  · have ql : xs.length < cap := by omega
    refine ifF (by rw [iI_eqn (by omega) (by omega)]; exact q) ?_
    have hbb := h9 (by omega)
    refine ⟨b, 3, "java/lang/Object", vs, rfl, g2, rfl, by omega, hbb, iI_n0 (by omega), by rw [iI_nn (by omega)]; omega, hx1, ?_⟩
    rw [iI_nn (by omega), iI_ad1]
    have cA := cx.up c1.ok (1003, vs.set xs.length (va_rf x)) g2 hbb (F := fun q => q = b) rfl
    have kA : (pw_up (pw_up w a (18, [.int (mc + 1), va_rf (some b), .int (iI xs.length)])) b (1003, vs.set xs.length (va_rf x))).1 a = some (18, [.int (mc + 1), va_rf (some b), .int (iI xs.length)]) := by rw [pw_up_ne hne]; exact pw_up_1 _ _ _
    have cB := cx.up cA.ok (18, [.int (mc + 1), va_rf (some b), .int (iI ((xs.length + 1 : Nat) : Int))]) kA h7 (F := fun q => q = a) rfl
    refine ⟨a, _, rfl, kA, h7, rfl, true, rfl, ?_⟩
    refine H _ b cap ?_ (Or.inl ⟨ql, rfl, rfl, rfl⟩) ⟨?_, ?_, h5, h7, Or.inr ⟨by omega, hbb, vs.set xs.length (va_rf x), ?_, by simp [h3], app vs (Or.inr (by omega)) (by omega) h6⟩⟩
    · rw [if_neg q]
      have z1 := c1.mono (G := fun q => q = a ∨ (q = b ∧ xs.length < cap)) (fun _ _ _ e => Or.inl e) (Nat.le_refl _)
      exact ((z1.tn hw cA (fun _ e => Or.inl (Or.inr ⟨e, ql⟩))).tn hw cB (fun _ e => Or.inl (Or.inl e))).le (by omega)
    · rw [pw_up_1, hlen]
      rfl
    · simp; omega
    · rw [pw_up_ne (Ne.symm hne)]; exact pw_up_1 _ _ _
/-- an iterator that stands before the k-th element -/
def c_it (h : pw_H) (it k : Nat) (mc : Int32) (a : Nat) : Prop := ∃ l : Int32, h it = some (19, [.int (iI k), .int l, .int mc, va_rf (some a)])
theorem cl_iterator_ok {a b cap : Nat} {mc : Int32} {xs : List (Option Nat)} {K : Option Nat → pw_W → Prop} (hd : 2 ≤ d) (hw : wf E w) (h : c_al E w.1 a mc b cap xs) (H : ∀ w', cx E w w' c_no 8 → w'.2.1 = w.2.1 + 1 → c_it w'.1 w.2.1 0 mc a → K (some w.2.1) w') : pw_Cl E m_J2_iterator d [va_rf (some a)] w (c_r K) := by
  replace hd := pw_d1 hd; obtain ⟨e, rfl, hd⟩ := hd
  have hlt := hw.lt h.1
  refine e_J2_iterator _ (s_J2_iterator_0 _ ?_)
  replace hd := pw_d1 hd; obtain ⟨e, rfl, hd⟩ := hd
  refine e_J15_init _ _ (s_J15_init_0 _ _ ⟨w.2.1, _, rfl, pw_new_1 _ _ _, hw.b, ?_⟩)
  rw [pw_up_new]
  refine ⟨w.2.1, _, rfl, pw_new_1 _ _ _, hw.b, ?_⟩
  rw [pw_up_new]
  refine ⟨w.2.1, _, some a, rfl, pw_new_1 _ _ _, rfl, a, _, mc, rfl, (by rw [pw_new_ne (by omega)]; exact h.1), rfl, w.2.1, _, rfl, pw_new_1 _ _ _, hw.b, ?_⟩
  rw [pw_up_new]
  exact ⟨rfl, _, rfl, H _ (cx.new hw _ _) rfl ⟨_, pw_new_1 _ _ _⟩⟩
/-- a step of a loop over a list -/
theorem cl_step {it a b cap k : Nat} {mc : Int32} {xs : List (Option Nat)} {X : pw_W → Prop} {Y : Option Nat → pw_W → Prop} (hd : 2 ≤ d) (hi : c_it w.1 it k mc a) (hb : pw_base E ≤ it) (h : c_al E w.1 a mc b cap xs) (hk : k ≤ xs.length) (hX : k = xs.length → X w) (hY : ∀ (x : Option Nat) (o : pw_O), xs[k]? = some x → c_it (pw_up w it o).1 it (k + 1) mc a → (∃ us, o = (19, us)) → Y x (pw_up w it o)) :
    f_V E w (some it) 19 m_J15_hasNext d [] (c_z (fun b w1 => (if bI b = 0 then X w1 else f_V E w1 (some it) 19 m_J15_next d [] (c_r Y)))) := by
  replace hd := pw_d1 hd; obtain ⟨e, rfl, hd⟩ := hd
  have hl := h.len
  obtain ⟨l, hi⟩ := hi
  have hne : it ≠ a := by
    rintro rfl
    have := h.1
    rw [hi] at this
    cases this
  refine ⟨it, _, rfl, hi, e_J15_hasNext _ (s_J15_hasNext_0 _ ⟨it, _, _, rfl, hi, rfl, it, _, _, rfl, hi, rfl, a, _, _, rfl, h.1, rfl, ?_⟩)⟩
  by_cases q : k = xs.length
  · exact ifT (by rw [q]) ⟨false, rfl, ifT rfl (hX q)⟩
  · refine ifF (by rw [iI_eqn (by omega) (by omega)]; exact q) ⟨true, rfl, ifF (by decide) ⟨it, _, rfl, hi, ?_⟩⟩
    have hkl : k < xs.length := by omega
    have hx : xs[k]? = some xs[k] := List.getElem?_eq_getElem hkl
    obtain ⟨hbb, vs, h2, h3, -, h6⟩ := h.arr hx
    have hcap := h.2.2.1
    have hcl := h.2.1
    have hnb : it ≠ b := by
      rintro rfl
      rw [hi] at h2
      cases h2
    replace hd := pw_d1 hd; obtain ⟨e, rfl, hd⟩ := hd
    refine e_J15_next _ (s_J15_next_0 _ ⟨it, _, rfl, hi, e_J15_checkForComodification _ (s_J15_checkForComodification_0 _ ⟨it, _, _, rfl, hi, rfl, a, _, _, rfl, h.1, rfl, it, _, _, rfl, hi, rfl, ifT rfl ⟨rfl, it, _, _, rfl, hi, rfl, it, _, _, rfl, hi, rfl, a, _, _, rfl, h.1, rfl, ifT (by rw [iI_ltn (by omega) (by omega)]; exact hkl) ⟨it, _, _, rfl, hi, rfl, a, _, _, rfl, h.1, rfl, b, 3, _, vs, rfl, h2, rfl, ?_⟩⟩⟩)⟩)
    rw [iI_ofNat, h3]
    refine ifT (by rw [iI_ltn (by omega) (by omega)]; omega) ⟨it, _, rfl, hi, hb, it, _, rfl, pw_up_1 _ _ _, hb, ?_⟩
    rw [pw_up_up, iI_ad1]
    refine ⟨b, 3, _, vs, xs[k], rfl, (by rw [pw_up_ne (Ne.symm hnb)]; exact h2), rfl, rfl, iI_n0 (by omega), by rw [iI_nn (by omega)]; exact h6 k _ hx, _, rfl, ?_⟩
    exact hY _ _ hx ⟨_, pw_up_1 _ _ _⟩ ⟨_, rfl⟩
end
