set_option maxRecDepth 100000
/-! the component: a state, the face; what is asked first of all -/
/-- an archive's object, documents, dates; questions; facts -/
abbrev sA : Type := Nat × List dc × Int
abbrev sQ : Type := Nat × List qQ
abbrev sH : Type := Nat × List hF
/-- what a state tells: the tape, how much of it, the fault, archives, questions, hunts -/
abbrev sS : Type := (Nat → Int) × (Int × Int × Int) × List sA × List sQ × List sH
/-- its tape's array, its lists -/
abbrev sX : Type := Nat × lX × lX × lX
/-- a phrase's kind is the constant itself -/
def c_qk (E : pw_E) (z : pw_H) (b : Nat) (q : qQ) : Prop := q.1 = 0 → ∃ (ko : Nat) (vs : List Value), z b = some (10, va_rf (some ko) :: vs) ∧ E.2.2.2.2 9 = va_rf (some ko)
def c_ql (E : pw_E) (z : pw_H) (a : Nat) (Q : List qQ) : Prop := (∃ (mc : Int32) (b cap : Nat) (qas : List Nat), c_al E z a mc b cap (qas.map some) ∧ qas.length = Q.length ∧ ∀ (i b : Nat) (q : qQ), qas[i]? = some b → Q[i]? = some q → c_q z b q ∧ c_qk E z b q) ∧ Q.length ≤ 8 ∧ ∀ (i : Nat) (q : qQ), Q[i]? = some q → qok i q
/-- of frozen things: archives, questions, facts -/
def s_fz (E : pw_E) (z : pw_H) (V : sS) : Prop := (∀ e ∈ V.2.2.1, c_arch E z z e.1 e.2.1 e.2.2 ∧ da_ok e.2.1 ∧ da_w e.2.1 ∧ 0 ≤ e.2.2 ∧ e.2.2 ≤ 100) ∧ (∀ e ∈ V.2.2.2.1, c_ql E z e.1 e.2) ∧ ∀ e ∈ V.2.2.2.2, c_facts E z e.1 e.2 ∧ hfok e.2 ∧ e.2.length ≤ 8
def s_n (V : sS) (k : Int) : Nat := if k = 0 then V.2.2.1.length else if k = 1 then V.2.2.2.1.length else V.2.2.2.2.length
def s_ok (V : sS) : Prop := (∀ k, iB (V.1 k) = V.1 k) ∧ (0 ≤ V.2.1.1 ∧ V.2.1.1 ≤ 600) ∧ rI V.2.1.2.1 ∧ rI V.2.1.2.2 ∧ V.2.2.1.length ≤ 2 ∧ V.2.2.2.1.length ≤ 2 ∧ V.2.2.2.2.length ≤ 2
def s_st (E : pw_E) (h : pw_H) (s : Nat) (x : sX) (V : sS) : Prop :=
  h s = some (1, [va_rf (some x.1), .int (iI V.2.1.1), .int (iI V.2.1.2.1), .int (iI V.2.1.2.2), va_rf (some x.2.1.1), va_rf (some x.2.2.1.1), va_rf (some x.2.2.2.1)]) ∧
  h x.1 = some (1001, (List.range 600).map (fun k => Value.int (iI (V.1 k)))) ∧
  (c_lX E h x.2.1 (V.2.2.1.map (fun e => e.1)) ∧ c_lX E h x.2.2.1 (V.2.2.2.1.map (fun e => e.1)) ∧ c_lX E h x.2.2.2 (V.2.2.2.2.map (fun e => e.1))) ∧
  (x.2.1.2.2.1 = 2 ∧ x.2.2.1.2.2.1 = 2 ∧ x.2.2.2.2.2.1 = 2) ∧ (pw_base E ≤ s ∧ pw_base E ≤ x.1) ∧
  (x.2.1.1 ≠ x.2.2.1.1 ∧ x.2.1.1 ≠ x.2.2.2.1 ∧ x.2.2.1.1 ≠ x.2.2.2.1) ∧ x.2.1.2.1 ≠ x.2.2.1.2.1 ∧ x.2.1.2.1 ≠ x.2.2.2.2.1 ∧ x.2.2.1.2.1 ≠ x.2.2.2.2.1
/-- what a state writes -/
def s_F (s : Nat) (x : sX) : Nat → Prop := fun q => q = s ∨ q = x.1 ∨ q = x.2.1.1 ∨ q = x.2.1.2.1 ∨ q = x.2.2.1.1 ∨ q = x.2.2.1.2.1 ∨ q = x.2.2.2.1 ∨ q = x.2.2.2.2.1
/-- the face at f with its state at s -/
def s_fc (E : pw_E) (z h : pw_H) (f s ka : Nat) (x : sX) (V : sS) : Prop := h f = some (0, [va_rf (some s), va_rf (some ka)]) ∧ s_st E h s x V ∧ c_sub z h ∧ s_fz E z V ∧ s_ok V
theorem c_canA : pw_can 4 "VersionSearch$Archive" := Or.inl ⟨_, rfl, by decide, Or.inl rfl⟩
theorem c_canL : pw_can 18 "java/util/ArrayList" := Or.inl ⟨_, rfl, by decide, Or.inl rfl⟩
section
variable {E : pw_E} {d : Nat} {w : pw_W} {z : pw_H} {f s ka : Nat} {x : sX} {V : sS}
theorem sx_many_ok {k : Int} {K : Int32 → pw_W → Prop} (hd : 2 ≤ d) (h : s_st E w.1 s x V) (hk : rI k) (H : K (iI (s_n V k : Nat)) w) : pw_Cl E m_X1_many d [va_rf (some s), .int (iI k)] w (c_i K) := by
  replace hd := pw_d1 hd; obtain ⟨e, rfl, hd⟩ := hd
  obtain ⟨h1, h2, ⟨h3, h4, h5⟩, -⟩ := h
  refine e_X1_many _ _ (s_X1_many_0 _ _ ?_)
  have e0 : (iI k = 0) = (k = 0) := iI_eq (b := 0) hk (rI_small (by omega) (by omega))
  have e1 : (iI k = 1) = (k = 1) := iI_eq (b := 1) hk (rI_small (by omega) (by omega))
  have sz : ∀ (l : lX) (n : Nat) (ys : List Nat), c_lX E w.1 l ys → ys.length = n → K (iI (n : Nat)) w → f_V E w (some l.1) 18 m_J2_size e [] (c_i (fun x24 w23 => c_i K (.inl (some (.int x24))) w23)) := by
    intro l n ys hl hn hK
    refine ⟨l.1, _, rfl, hl.1, cl_size_ok hd hl ?_⟩
    rw [List.length_map, hn]
    exact ⟨_, rfl, hK⟩
  unfold s_n at H
  by_cases c0 : k = 0
  · rw [if_pos c0] at H
    exact ifT (by rw [e0]; exact c0) ⟨s, _, _, rfl, h1, rfl, sz _ _ _ h3 (List.length_map _) H⟩
  · rw [if_neg c0] at H
    refine ifF (by rw [e0]; exact c0) ?_
    by_cases c1 : k = 1
    · rw [if_pos c1] at H
      exact ifT (by rw [e1]; exact c1) ⟨s, _, _, rfl, h1, rfl, sz _ _ _ h4 (List.length_map _) H⟩
    · rw [if_neg c1] at H
      exact ifF (by rw [e1]; exact c1) ⟨s, _, _, rfl, h1, rfl, sz _ _ _ h5 (List.length_map _) H⟩
theorem s_n_le (h : s_ok V) (k : Int) : s_n V k ≤ 2 := by
  obtain ⟨-, -, -, -, h1, h2, h3⟩ := h
  unfold s_n
  split
  · exact h1
  · split
    · exact h2
    · exact h3
theorem fx_is_ok {k i : Int} {K : Bool → pw_W → Prop} (hd : 3 ≤ d) (h : s_fc E z w.1 f s ka x V) (hk : rI k) (hi : rI i) (H : K (decide (0 ≤ i ∧ i ≤ (s_n V k : Int) - 1)) w) : pw_Cl E m_X0_is d [va_rf (some f), .int (iI k), .int (iI i)] w (c_z K) := by
  replace hd := pw_d1 hd; obtain ⟨e, rfl, hd⟩ := hd
  have hl := s_n_le h.2.2.2.2 k
  refine e_X0_is _ _ _ (s_X0_is_0 _ _ _ ⟨f, _, _, rfl, h.1, rfl, s, _, rfl, h.2.1.1, sx_many_ok (by omega) h.2.1 hk ?_⟩)
  have e1 : iI (s_n V k : Nat) - 1 = iI ((s_n V k : Int) - 1) := iI_sub _ 1
  rw [e1]
  exact c_isIn0_ok (by omega) hi (rI_small (by omega) (by omega)) ⟨_, rfl, H⟩
theorem fx_archiveOf_ok {i : Nat} {e0 : sA} {K : Option Nat → pw_W → Prop} (hd : 4 ≤ d) (h : s_fc E z w.1 f s ka x V) (hi : V.2.2.1[i]? = some e0) (H : K (some e0.1) w) : pw_Cl E m_X0_archiveOf d [va_rf (some f), .int (iI (i : Nat))] w (c_r K) := by
  replace hd := pw_d1 hd; obtain ⟨e, rfl, hd⟩ := hd
  obtain ⟨h0, ⟨h1, h2, ⟨h3, h4, h5⟩, h6⟩, hz, hf, ho⟩ := h
  obtain ⟨us, hus⟩ := ((hf.1 e0 (List.mem_of_getElem? hi)).1.mono hz hz).obj
  refine e_X0_archiveOf _ _ (s_X0_archiveOf_0 _ _ ⟨f, _, _, rfl, h0, rfl, s, _, _, rfl, h1, rfl, x.2.1.1, _, rfl, h3.1, cl_get_ok (i := i) (x := some e0.1) (by omega) h3 (by rw [List.getElem?_map, List.getElem?_map, hi]; rfl) ⟨Or.inr ⟨e0.1, 4, us, rfl, hus, c_canA⟩, ⟨_, rfl, H⟩⟩⟩)
end
section
variable {E : pw_E} {d : Nat} {w : pw_W} {z : pw_H} {f s ka : Nat} {x : sX} {V : sS}
/-- the i-th archive -/
def s_A (V : sS) (i : Int) : sA := V.2.2.1.getD i.toNat (0, [], 0)
def s_isA (V : sS) (i : Int) : Bool := decide (0 ≤ i ∧ i ≤ (V.2.2.1.length : Int) - 1)
theorem s_isA.at {i : Int} (h : s_isA V i = true) : ∃ n : Nat, i = n ∧ V.2.2.1[n]? = some (s_A V i) := by
  have h := of_decide_eq_true h
  obtain ⟨e, he⟩ := dc_get (l := V.2.2.1) (i := i.toNat) (by omega)
  exact ⟨i.toNat, by omega, by unfold s_A; rw [dc_getD he]; exact he⟩
theorem s_fc.A (h : s_fc E z w.1 f s ka x V) {i : Int} (hi : s_isA V i = true) : c_arch E z z (s_A V i).1 (s_A V i).2.1 (s_A V i).2.2 ∧ c_arch E w.1 w.1 (s_A V i).1 (s_A V i).2.1 (s_A V i).2.2 ∧ da_ok (s_A V i).2.1 ∧ da_w (s_A V i).2.1 ∧ 0 ≤ (s_A V i).2.2 ∧ (s_A V i).2.2 ≤ 100 := by
  obtain ⟨n, e1, e2⟩ := s_isA.at hi
  obtain ⟨a1, a2⟩ := h.2.2.2.1.1 _ (List.mem_of_getElem? e2)
  exact ⟨a1, a1.mono h.2.2.1 h.2.2.1, a2⟩
theorem q_archiveOf {i : Int} {e : Nat} {K : Option Nat → pw_W → Prop} (hd : 4 ≤ e) (h : s_fc E z w.1 f s ka x V) (hi : s_isA V i = true) (H : K (some (s_A V i).1) w) : f_V E w (some f) 0 m_X0_archiveOf e [.int (iI i)] (c_r K) := by
  obtain ⟨n, rfl, e2⟩ := s_isA.at hi
  exact ⟨f, _, rfl, h.1, fx_archiveOf_ok hd h e2 H⟩
theorem q_isA {i : Int} {e : Nat} {K : Bool → pw_W → Prop} (hd : 3 ≤ e) (h : s_fc E z w.1 f s ka x V) (hi : rI i) (H : K (s_isA V i) w) : f_V E w (some f) 0 m_X0_is e [.int 0, .int (iI i)] (c_z K) :=
  ⟨f, _, rfl, h.1, fx_is_ok (k := 0) hd h (rI_small (by omega) (by omega)) hi H⟩
def s_isV (V : sS) (i a v : Int) : Bool := s_isA V i && da_isVer (s_A V i).2.1 a v
theorem q_isVersion {i a v : Int} {e : Nat} {K : Bool → pw_W → Prop} (hd : 7 ≤ e) (h : s_fc E z w.1 f s ka x V) (hi : rI i) (ha : rI a) (hv : rI v) (H : K (s_isV V i a v) w) : f_V E w (some f) 0 m_X0_isVersion e [.int (iI i), .int (iI a), .int (iI v)] (c_z K) := by
  replace hd := pw_d1 hd; obtain ⟨e, rfl, hd⟩ := hd
  refine ⟨f, _, rfl, h.1, e_X0_isVersion _ _ _ _ (s_X0_isVersion_0 _ _ _ _ (q_isA (by omega) h hi ?_))⟩
  unfold s_isV at H
  cases c : s_isA V i with
  | false =>
    rw [c] at H
    exact ifT (by rw [bI_0]) ⟨false, rfl, H⟩
  | true =>
    rw [c, Bool.true_and] at H
    obtain ⟨-, a1, a2, a3, -⟩ := h.A c
    obtain ⟨us, hus⟩ := a1.obj
    refine ifF (by rw [bI_0]; decide) (q_archiveOf (by omega) h c ⟨_, us, rfl, hus, ca_isVersion_ok (by omega) a1 a2 ha hv ?_⟩)
    cases b : da_isVer (s_A V i).2.1 a v with
    | false =>
      rw [b] at H
      exact ifT (by rw [bI_0]) ⟨false, rfl, H⟩
    | true =>
      rw [b] at H
      exact ifF (by rw [bI_0]; decide) ⟨true, rfl, H⟩
end
