set_option maxRecDepth 100000
/-! the component: questions, facts, counts, fault -/
section
variable {E : pw_E} {d : Nat} {w : pw_W} {z : pw_H} {f s ka : Nat} {x : sX} {V : sS} {A B : Nat → Int}
def s_Q (V : sS) (u : Int) : sQ := V.2.2.2.1.getD u.toNat (0, [])
def s_isQ (V : sS) (u : Int) : Bool := decide (0 ≤ u ∧ u ≤ (V.2.2.2.1.length : Int) - 1)
def s_H (V : sS) (t : Int) : sH := V.2.2.2.2.getD t.toNat (0, [])
def s_isH (V : sS) (t : Int) : Bool := decide (0 ≤ t ∧ t ≤ (V.2.2.2.2.length : Int) - 1)
theorem s_isQ_at {u : Int} (h : s_isQ V u = true) : ∃ n : Nat, u = n ∧ V.2.2.2.1[n]? = some (s_Q V u) := by
  have h := of_decide_eq_true h
  obtain ⟨e, he⟩ := dc_get (l := V.2.2.2.1) (i := u.toNat) (by omega)
  exact ⟨u.toNat, by omega, by unfold s_Q; rw [dc_getD he]; exact he⟩
theorem s_isH_at {u : Int} (h : s_isH V u = true) : ∃ n : Nat, u = n ∧ V.2.2.2.2[n]? = some (s_H V u) := by
  have h := of_decide_eq_true h
  obtain ⟨e, he⟩ := dc_get (l := V.2.2.2.2) (i := u.toNat) (by omega)
  exact ⟨u.toNat, by omega, by unfold s_H; rw [dc_getD he]; exact he⟩
theorem s_fc.mono (h : s_fc E z w.1 f s ka x V) {h' : pw_H} (k : c_sub w.1 h') : s_fc E z h' f s ka x V := by
  obtain ⟨h0, ⟨h1, h2, ⟨h3, h4, h5⟩, h6⟩, hz, hf, ho⟩ := h
  exact ⟨k _ _ h0, ⟨k _ _ h1, k _ _ h2, ⟨c_al.mono h3 k, c_al.mono h4 k, c_al.mono h5 k⟩, h6⟩, hz.trans k, hf, ho⟩
theorem q_isQ {i : Int} {e : Nat} {K : Bool → pw_W → Prop} (hd : 3 ≤ e) (h : s_fc E z w.1 f s ka x V) (hi : rI i) (H : K (s_isQ V i) w) : f_V E w (some f) 0 m_X0_is e [.int 1, .int (iI i)] (c_z K) :=
  ⟨f, _, rfl, h.1, fx_is_ok (k := 1) hd h (rI_small (by omega) (by omega)) hi H⟩
theorem q_isH {i : Int} {e : Nat} {K : Bool → pw_W → Prop} (hd : 3 ≤ e) (h : s_fc E z w.1 f s ka x V) (hi : rI i) (H : K (s_isH V i) w) : f_V E w (some f) 0 m_X0_is e [.int 2, .int (iI i)] (c_z K) :=
  ⟨f, _, rfl, h.1, fx_is_ok (k := 2) hd h (rI_small (by omega) (by omega)) hi H⟩
/-- the list of questions, got -/
theorem q_listQ {u : Int} {e : Nat} {K : Option Nat → pw_W → Prop} (hd : 3 ≤ e) (h : s_fc E z w.1 f s ka x V) (hu : s_isQ V u = true) (H : c_ql E w.1 (s_Q V u).1 (s_Q V u).2 → K (some (s_Q V u).1) w) :
    f_getr w (some f) 0 0 (fun x6 => f_getr w x6 1 5 (fun x10 => f_V E w x10 18 m_J2_get e [.int (iI u)] (c_r (fun o15 w14 => f_cast w14 o15 "java/util/ArrayList" (K o15 w14))))) := by
  obtain ⟨n, rfl, hn⟩ := s_isQ_at hu
  obtain ⟨h0, ⟨h1, h2, ⟨h3, h4, h5⟩, h6⟩, hz, hf, ho⟩ := h
  have hq := hf.2.1 _ (List.mem_of_getElem? hn)
  have hq' : c_ql E w.1 (s_Q V (n : Int)).1 (s_Q V (n : Int)).2 := by
    obtain ⟨⟨mc, b, cap, qas, q1, q2, q3⟩, q4⟩ := hq
    exact ⟨⟨mc, b, cap, qas, q1.mono hz, q2, fun i b q k1 k2 => ⟨(q3 i b q k1 k2).1.mono hz, fun k3 => by obtain ⟨ko, vs, k4, k5⟩ := (q3 i b q k1 k2).2 k3; exact ⟨ko, vs, hz _ _ k4, k5⟩⟩⟩, q4⟩
  obtain ⟨⟨mc, b, cap, qas, q1, q2, q3⟩, q4⟩ := id hq'
  exact ⟨f, _, _, rfl, h0, rfl, s, _, _, rfl, h1, rfl, x.2.2.1.1, _, rfl, h4.1, cl_get_ok (i := n) (x := some (s_Q V (n : Int)).1) hd h4 (by rw [List.getElem?_map, List.getElem?_map, hn]; rfl) ⟨Or.inr ⟨_, 18, _, rfl, q1.1, c_canL⟩, H hq'⟩⟩
theorem q_listH {u : Int} {e : Nat} {K : Option Nat → pw_W → Prop} (hd : 3 ≤ e) (h : s_fc E z w.1 f s ka x V) (hu : s_isH V u = true) (H : c_facts E w.1 (s_H V u).1 (s_H V u).2 → hfok (s_H V u).2 → (s_H V u).2.length ≤ 8 → K (some (s_H V u).1) w) :
    f_getr w (some f) 0 0 (fun x6 => f_getr w x6 1 6 (fun x10 => f_V E w x10 18 m_J2_get e [.int (iI u)] (c_r (fun o15 w14 => f_cast w14 o15 "java/util/ArrayList" (K o15 w14))))) := by
  obtain ⟨n, rfl, hn⟩ := s_isH_at hu
  obtain ⟨h0, ⟨h1, h2, ⟨h3, h4, h5⟩, h6⟩, hz, hf, ho⟩ := h
  obtain ⟨hq, hq2, hq3⟩ := hf.2.2 _ (List.mem_of_getElem? hn)
  have hq' := hq.mono hz
  obtain ⟨mc, b, cap, qas, q1, q2, q3⟩ := id hq'
  exact ⟨f, _, _, rfl, h0, rfl, s, _, _, rfl, h1, rfl, x.2.2.2.1, _, rfl, h5.1, cl_get_ok (i := n) (x := some (s_H V (n : Int)).1) hd h5 (by rw [List.getElem?_map, List.getElem?_map, hn]; rfl) ⟨Or.inr ⟨_, 18, _, rfl, q1.1, c_canL⟩, H hq' hq2 hq3⟩⟩
theorem fx_count_ok {k : Int} {K : Int32 → pw_W → Prop} (hd : 100 ≤ d) (h : s_fc E z w.1 f s ka x V) (hk : rI k) (H : K (iI (if decide (0 ≤ k ∧ k ≤ 2) = true then (s_n V k : Int) else -2)) w) : pw_Cl E m_X0_count d [va_rf (some f), .int (iI k)] w (c_i K) := by
  replace hd := pw_d1 hd; obtain ⟨e, rfl, hd⟩ := hd
  refine e_X0_count _ _ (s_X0_count_0 _ _ (c_isIn0_ok (b := 2) (by omega) hk (rI_small (by omega) (by omega)) ?_))
  by_cases c : 0 ≤ k ∧ k ≤ 2
  · rw [decide_eq_true c] at H ⊢
    exact ifF (by decide) ⟨f, _, _, rfl, h.1, rfl, s, _, rfl, h.2.1.1, sx_many_ok (by omega) h.2.1 hk ⟨_, rfl, H⟩⟩
  · rw [decide_eq_false c] at H ⊢
    exact ifT (by decide) ⟨_, rfl, H⟩
theorem fx_fault_ok {k : Int} {K : Int32 → pw_W → Prop} (hd : 100 ≤ d) (h : s_fc E z w.1 f s ka x V) (hk : rI k) (H : K (iI (if k = 0 then V.2.1.2.1 else if k = 1 then V.2.1.2.2 else -1)) w) : pw_Cl E m_X0_fault d [va_rf (some f), .int (iI k)] w (c_i K) := by
  replace hd := pw_d1 hd; obtain ⟨e, rfl, hd⟩ := hd
  have e0 : (iI k = 0) = (k = 0) := iI_eq (b := 0) hk (rI_small (by omega) (by omega))
  have e1 : (iI k = 1) = (k = 1) := iI_eq (b := 1) hk (rI_small (by omega) (by omega))
  refine e_X0_fault _ _ (s_X0_fault_0 _ _ ?_)
  by_cases c0 : k = 0
  · rw [if_pos c0] at H
    exact ifT (by rw [e0]; exact c0) ⟨f, _, _, rfl, h.1, rfl, s, _, _, rfl, h.2.1.1, rfl, _, rfl, H⟩
  refine ifF (by rw [e0]; exact c0) ?_
  by_cases c1 : k = 1
  · rw [if_neg c0, if_pos c1] at H
    exact ifT (by rw [e1]; exact c1) ⟨f, _, _, rfl, h.1, rfl, s, _, _, rfl, h.2.1.1, rfl, _, rfl, H⟩
  · rw [if_neg c0, if_neg c1] at H
    exact ifF (by rw [e1]; exact c1) ⟨_, rfl, H⟩
theorem fx_fact_ok {t k q : Int} {K : Int32 → pw_W → Prop} (hd : 100 ≤ d) (h : s_fc E z w.1 f s ka x V) (ht : rI t) (hk : rI k) (hq : rI q) (hR : s_isH V t = true → hr B t (s_H V t).2) (H : K (iI (if s_isH V t = true then h_fact B t k q else -2)) w) : pw_Cl E m_X0_fact d [va_rf (some f), .int (iI t), .int (iI k), .int (iI q)] w (c_i K) := by
  replace hd := pw_d1 hd; obtain ⟨e, rfl, hd⟩ := hd
  refine e_X0_fact _ _ _ _ (s_X0_fact_0 _ _ _ _ (q_isH (by omega) h ht ?_))
  cases c : s_isH V t with
  | false =>
    rw [if_neg (by rw [c]; decide)] at H
    exact ifT (by rw [bI_0]) ⟨_, rfl, H⟩
  | true =>
    rw [if_pos c] at H
    obtain ⟨hn, h8, hat⟩ := hR c
    refine ifF (by rw [bI_0]; decide) (q_listH (by omega) h c (fun hf hok _ => ?_))
    unfold h_fact at H
    rw [hn] at H
    obtain ⟨mc, b, cap, fas, f1, f2, f3⟩ := hf
    have em : (iI k = -1) = (k = -1) := by rw [show (-1 : Int32) = iI (-1) by decide]; exact iI_eq hk (rI_small (by omega) (by omega))
    have e0 : (iI q = 0) = (q = 0) := iI_eq (b := 0) hq (rI_small (by omega) (by omega))
    have sz : ∀ {K : Int32 → pw_W → Prop}, K (iI ((s_H V t).2.length : Nat)) w → f_V E w (some (s_H V t).1) 18 m_J2_size e [] (c_i K) := fun {K} hK => ⟨_, _, rfl, f1.1, cl_size_ok (by omega) f1 (by rw [List.length_map, f2]; exact hK)⟩
    by_cases m : k = -1
    · rw [if_pos m] at H
      refine ifT (by rw [em]; exact m) ?_
      by_cases q0 : q = 0
      · rw [if_pos q0] at H
        exact ifT (by rw [e0]; exact q0) (sz ⟨_, rfl, H⟩)
      · rw [if_neg q0] at H
        exact ifF (by rw [e0]; exact q0) ⟨_, rfl, H⟩
    · rw [if_neg m] at H
      refine ifF (by rw [em]; exact m) (sz ?_)
      have es : iI ((s_H V t).2.length : Nat) - 1 = iI (((s_H V t).2.length : Nat) - 1) := iI_sub _ 1
      rw [es]
      refine c_isIn0_ok (by omega) hk (rI_small (by omega) (by omega)) ?_
      by_cases c1 : 0 ≤ k ∧ k ≤ (((s_H V t).2.length : Nat) : Int) - 1
      · rw [decide_eq_true c1] at H ⊢
        rw [if_pos rfl] at H
        refine ifF (by decide) (c_isIn0_ok (b := 2) (by omega) hq (rI_small (by omega) (by omega)) ?_)
        by_cases c2 : 0 ≤ q ∧ q ≤ 2
        · rw [decide_eq_true c2] at H ⊢
          rw [if_pos rfl] at H
          refine ifF (by decide) ?_
          have ek : k = (k.toNat : Nat) := by omega
          rw [ek] at H ⊢
          generalize k.toNat = j at ek H ⊢
          obtain ⟨y, hy⟩ := dc_get (l := (s_H V t).2) (i := j) (by omega)
          obtain ⟨fa, hfa⟩ := dc_get (l := fas) (i := j) (by omega)
          have h3 := f3 j fa y hfa hy
          obtain ⟨a0, a1, a2⟩ := hat j y hy
          refine ⟨_, _, rfl, f1.1, cl_get_ok (i := j) (x := some fa) (by omega) f1 (by rw [List.getElem?_map, hfa]; rfl) ⟨Or.inr ⟨fa, 1000, _, rfl, h3, c_canI⟩, ?_⟩⟩
          have q3 : q = 0 ∨ q = 1 ∨ q = 2 := by omega
          rcases q3 with rfl | rfl | rfl
          · rw [a0] at H
            exact ⟨fa, 0, _, _, rfl, h3, rfl, by decide, rfl, ⟨_, rfl, H⟩⟩
          · rw [a1] at H
            exact ⟨fa, 0, _, _, rfl, h3, rfl, by decide, rfl, ⟨_, rfl, H⟩⟩
          · rw [a2] at H
            exact ⟨fa, 0, _, _, rfl, h3, rfl, by decide, rfl, ⟨_, rfl, H⟩⟩
        · rw [decide_eq_false c2] at H ⊢
          exact ifT (by decide) ⟨_, rfl, H⟩
      · rw [decide_eq_false c1] at H ⊢
        exact ifT (by decide) ⟨_, rfl, H⟩
theorem qr_words {u : Int} {Q : List qQ} {k : Nat} {q : qQ} (hQ : qr B u Q) (hk : Q[k]? = some q) : q_words B u k = q.2.1.length := by
  obtain ⟨-, -, h⟩ := hQ
  obtain ⟨h1, ⟨h2, h3, h4⟩, ⟨h5, h6, h7⟩, -⟩ := h k q hk
  unfold q_words
  rw [h2, h3]
  by_cases c0 : q.1 = 0
  · rw [if_pos (by omega)]
    exact (h5 c0).1
  rw [if_neg (by omega)]
  by_cases c1 : q.1 = 1
  · rw [if_pos (by omega), h1.2.2.1 c1]
    rfl
  rw [if_neg (by omega)]
  by_cases c2 : q.1 = 2
  · rw [if_pos (by omega), h6 c2]
    rfl
  rw [if_neg (by omega), h7 (by omega)]
  rfl
theorem fx_question_ok {u k q : Int} {K : Int32 → pw_W → Prop} (hd : 100 ≤ d) (hw : wf E w) (h : s_fc E z w.1 f s ka x V) (hu : rI u) (hk : rI k) (hq : rI q) (hR : s_isQ V u = true → qr B u (s_Q V u).2) (H : K (iI (if s_isQ V u = true then q_question B u k q else -2)) w) : pw_Cl E m_X0_question d [va_rf (some f), .int (iI u), .int (iI k), .int (iI q)] w (c_i K) := by
  replace hd := pw_d1 hd; obtain ⟨e, rfl, hd⟩ := hd
  refine e_X0_question _ _ _ _ (s_X0_question_0 _ _ _ _ (q_isQ (by omega) h hu ?_))
  cases c : s_isQ V u with
  | false =>
    rw [if_neg (by rw [c]; decide)] at H
    exact ifT (by rw [bI_0]) ⟨_, rfl, H⟩
  | true =>
    rw [if_pos c] at H
    have hqr := hR c
    obtain ⟨hn, h8, hat⟩ := id hqr
    refine ifF (by rw [bI_0]; decide) (q_listQ (by omega) h c (fun hf => ?_))
    unfold q_question at H
    rw [hn] at H
    obtain ⟨⟨mc, b, cap, fas, f1, f2, f3⟩, -, -⟩ := hf
    have em : (iI k = -1) = (k = -1) := by rw [show (-1 : Int32) = iI (-1) by decide]; exact iI_eq hk (rI_small (by omega) (by omega))
    have e0 : (iI q = 0) = (q = 0) := iI_eq (b := 0) hq (rI_small (by omega) (by omega))
    have e1 : (iI q = 1) = (q = 1) := iI_eq (b := 1) hq (rI_small (by omega) (by omega))
    have l0 : ((0 : Int32) ≤ iI q) = (0 ≤ q) := iI_le (a := 0) (rI_small (by omega) (by omega)) hq
    have l3 : ((3 : Int32) ≤ iI q) = (3 ≤ q) := iI_le (a := 3) (rI_small (by omega) (by omega)) hq
    have sz : ∀ {K : Int32 → pw_W → Prop}, K (iI ((s_Q V u).2.length : Nat)) w → f_V E w (some (s_Q V u).1) 18 m_J2_size e [] (c_i K) := fun {K} hK => ⟨_, _, rfl, f1.1, cl_size_ok (by omega) f1 (by rw [List.length_map, f2]; exact hK)⟩
    by_cases m : k = -1
    · rw [if_pos m] at H
      refine ifT (by rw [em]; exact m) ?_
      by_cases q0 : q = 0
      · rw [if_pos q0] at H
        exact ifT (by rw [e0]; exact q0) (sz ⟨_, rfl, H⟩)
      · rw [if_neg q0] at H
        exact ifF (by rw [e0]; exact q0) ⟨_, rfl, H⟩
    · rw [if_neg m] at H
      refine ifF (by rw [em]; exact m) (sz ?_)
      have es : iI ((s_Q V u).2.length : Nat) - 1 = iI (((s_Q V u).2.length : Nat) - 1) := iI_sub _ 1
      rw [es]
      refine c_isIn0_ok (by omega) hk (rI_small (by omega) (by omega)) ?_
      by_cases c1 : 0 ≤ k ∧ k ≤ (((s_Q V u).2.length : Nat) : Int) - 1
      · rw [decide_eq_true c1] at H ⊢
        rw [if_pos rfl] at H
        refine ifF (by decide) ?_
        have ek : k = (k.toNat : Nat) := by omega
        rw [ek] at H ⊢
        generalize k.toNat = j at ek H ⊢
        obtain ⟨y, hy⟩ := dc_get (l := (s_Q V u).2) (i := j) (by omega)
        obtain ⟨qa, hqa⟩ := dc_get (l := fas) (i := j) (by omega)
        obtain ⟨⟨ko, wb, y1, y2, y3⟩, -⟩ := f3 j qa y hqa hy
        obtain ⟨a1, ⟨a2, a3, a4⟩, a5, a6⟩ := hat j y hy
        rw [qr_words hqr hy] at H
        have hl := a1.2.1
        by_cases n0 : 0 ≤ q
        · refine ifT (by rw [l0]; exact n0) ⟨_, _, rfl, f1.1, cl_get_ok (i := j) (x := some qa) (by omega) f1 (by rw [List.getElem?_map, hqa]; rfl) ⟨Or.inr ⟨qa, 10, _, rfl, y1, c_canQ⟩, ?_⟩⟩
          by_cases n3 : 3 ≤ q
          · refine ifT (by rw [l3]; exact n3) ⟨qa, _, _, rfl, y1, rfl, dq_slen y3 ?_⟩
            have ea : (9 : Int32) + iI (y.2.1.length : Nat) = iI (9 + (y.2.1.length : Nat)) := iI_add 9 _
            rw [ea]
            refine c_isIn_ok (a := 10) (by omega) hq (rI_small (by omega) (by omega)) (rI_small (by omega) (by omega)) ?_
            by_cases c2 : 10 ≤ q ∧ q ≤ 9 + (y.2.1.length : Nat)
            · rw [decide_eq_true c2]
              rw [if_neg (by omega), if_neg (by omega)] at H
              have eq9 : q - 10 = ((q - 10).toNat : Nat) := by omega
              have ew : iI q - 10 = iI ((q - 10).toNat : Nat) := by rw [← eq9]; exact iI_sub q 10
              rw [show 3 + q - 10 = 3 + (q - 10) by omega] at H
              rw [ew]
              rw [eq9] at H
              generalize (q - 10).toNat = p at eq9 H ⊢
              obtain ⟨sw, hsw⟩ := dc_get (l := y.2.1) (i := p) (by omega)
              rw [(a6 p sw hsw).1] at H
              exact ifF (by decide) ⟨qa, _, _, rfl, y1, rfl, dq_sat y3 hsw hl (fun c9 hc9 => cs_code_ok (by omega) hw hc9 ⟨_, rfl, H⟩)⟩
            · rw [decide_eq_false c2]
              refine ifT (by decide) ⟨_, rfl, ?_⟩
              by_cases t : q < 10
              · rw [if_pos t, decide_eq_false (by omega), if_neg (by decide)] at H
                exact H
              · rw [if_neg t, if_pos (by omega)] at H
                exact H
          · refine ifF (by rw [l3]; exact n3) ?_
            rw [if_pos (by omega), decide_eq_true (by omega), if_pos rfl] at H
            by_cases q0 : q = 0
            · subst q0
              rw [a2] at H
              obtain ⟨e, rfl, -⟩ := pw_d1 (show 0 + 1 ≤ e by omega)
              exact ifT (by decide) ⟨qa, _, _, rfl, y1, rfl, ko, _, rfl, y2, e_J3_ordinal _ (s_J3_ordinal_0 _ ⟨ko, 0, _, _, rfl, rfl, y2, _, rfl, ⟨_, rfl, H⟩⟩)⟩
            refine ifF (by rw [e0]; exact q0) ?_
            by_cases q1 : q = 1
            · subst q1
              rw [a3] at H
              exact ifT (by decide) ⟨qa, _, _, rfl, y1, rfl, _, rfl, H⟩
            · have q2 : q = 2 := by omega
              subst q2
              rw [a4] at H
              exact ifF (by decide) ⟨qa, _, _, rfl, y1, rfl, _, rfl, H⟩
        · refine ifF (by rw [l0]; exact n0) ⟨_, rfl, ?_⟩
          rw [if_pos (by omega), decide_eq_false (by omega), if_neg (by decide)] at H
          exact H
      · rw [decide_eq_false c1] at H ⊢
        exact ifT (by decide) ⟨_, rfl, H⟩
end
