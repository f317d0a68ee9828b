set_option maxRecDepth 100000
/-! the component: what is asked of documents -/
theorem iI_a0 (z : Int) : iI z + 0 = iI z := by
  have := iI_add z 0
  rw [Int.add_zero] at this
  exact this
theorem iI_a1 (z : Int) : iI z + 1 = iI (z + 1) := iI_add z 1
theorem iI_m1 : (-1 : Int32) = iI (-1) := rfl
theorem c_strs.at {h : pw_H} {b i : Nat} {ss : List (List Int)} {s : List Int} (k : c_strs h b ss) (hi : ss[i]? = some s) : ∃ (vs : List Value) (c : Nat), h b = some (1004, vs) ∧ vs.length = ss.length ∧ vs[i]? = some (va_rf (some c)) ∧ c_str h c s := by
  obtain ⟨vs, h1, h2, h3⟩ := k
  have hl := (List.getElem?_eq_some_iff.mp hi).1
  have hv : vs[i]? = some vs[i] := List.getElem?_eq_getElem (by omega)
  refine ⟨_, vs[i], h1, by simp [h2], ?_, h3 i _ s hv hi⟩
  rw [List.getElem?_map, hv]
  rfl
theorem dc_set_s (R : List (List Nat)) (j : Nat) (x : Int) (n : Nat) : rI (upto n (fun v s => if j ∈ R.getD v [] then s_or s (s_bit v) else s) 0) := by
  refine upto_ind (Q := rI) (by constructor <;> omega) _ (fun k a _ h => ?_)
  split
  · exact rI_or _ _
  · exact h
theorem s_or_10 : ∀ (x : Fin 1024) (v : Fin 10), 0 ≤ s_or ((x : Nat) : Int) (s_bit ((v : Nat) : Int)) ∧ s_or ((x : Nat) : Int) (s_bit ((v : Nat) : Int)) < 1024 := by decide +kernel
theorem dc_set_r {R : List (List Nat)} {j : Nat} (h : R.length ≤ 10) : 0 ≤ dc_set R j ∧ dc_set R j < 1024 := by
  unfold dc_set
  refine upto_ind (Q := fun x => 0 ≤ x ∧ x < 1024) ⟨by omega, by omega⟩ _ (fun k a hk ha => ?_)
  split
  · have := s_or_10 ⟨a.toNat, by omega⟩ ⟨k, by omega⟩
    have this : 0 ≤ s_or ((a.toNat : Nat) : Int) (s_bit ((k : Nat) : Int)) ∧ s_or ((a.toNat : Nat) : Int) (s_bit ((k : Nat) : Int)) < 1024 := this
    rw [show ((a.toNat : Nat) : Int) = a by omega] at this
    exact this
  · exact ha
theorem dc_set_has {R : List (List Nat)} {j k : Nat} (h : R.length ≤ 10) (hk : k < 10) : s_has (dc_set R j) k = (decide (k < R.length) && decide (j ∈ R.getD k [])) := by
  have gen : ∀ n : Nat, n ≤ 10 → s_has (upto n (fun v s => if j ∈ R.getD v [] then s_or s (s_bit v) else s) 0) k = (decide (k < n) && decide (j ∈ R.getD k [])) := by
    intro n
    induction n with
    | zero => intro _; rw [upto_0, s_has_0 hk, decide_eq_false (by omega), Bool.false_and]
    | succ n ih =>
      intro hn
      have ih := ih (by omega)
      rw [upto_s]
      by_cases q : j ∈ R.getD n []
      · rw [if_pos q, s_has_or _ _ (by omega), s_has_bit1 (by omega) hk, ih]
        by_cases e : n = k
        · subst e
          rw [decide_eq_true q]
          simp
        · have : decide (k < n) = decide (k < n + 1) := by rw [decide_eq_decide]; omega
          rw [this, decide_eq_false e, Bool.or_false]
      · rw [if_neg q, ih]
        by_cases e : n = k
        · subst e
          rw [decide_eq_false q]
          simp
        · have : decide (k < n) = decide (k < n + 1) := by rw [decide_eq_decide]; omega
          rw [this]
  exact gen _ h
/-- where a token is in a row -/
def dc_pl (t : Nat) : Nat → List Nat → Int
  | _, [] => -1
  | k, j :: l => if j = t then (k : Int) else dc_pl t (k + 1) l
def dc_place (row : List Nat) (t : Nat) : Int := dc_pl t 0 row
theorem dc_pl_r (t : Nat) : ∀ (l : List Nat) (k : Nat), dc_pl t k l = -1 ∨ ((k : Int) ≤ dc_pl t k l ∧ dc_pl t k l < k + l.length ∧ l[(dc_pl t k l).toNat - k]? = some t) := by
  intro l
  induction l with
  | nil => intro k; exact Or.inl rfl
  | cons j l ih =>
    intro k
    unfold dc_pl
    by_cases q : j = t
    · rw [if_pos q]
      refine Or.inr ⟨by omega, by simp; omega, ?_⟩
      rw [Int.toNat_natCast, Nat.sub_self, q]
      rfl
    · rw [if_neg q]
      rcases ih (k + 1) with h | ⟨h1, h2, h3⟩
      · exact Or.inl h
      · refine Or.inr ⟨by omega, by simp; omega, ?_⟩
        rw [show (dc_pl t (k + 1) l).toNat - k = ((dc_pl t (k + 1) l).toNat - (k + 1)) + 1 by omega]
        exact h3
theorem dc_place_r (row : List Nat) (t : Nat) : dc_place row t = -1 ∨ (0 ≤ dc_place row t ∧ dc_place row t < row.length ∧ row[(dc_place row t).toNat]? = some t) := by
  rcases dc_pl_r t row 0 with h | ⟨h1, h2, h3⟩
  · exact Or.inl h
  · exact Or.inr ⟨h1, by have : dc_place row t < (0 : Nat) + row.length := h2; omega, h3⟩
theorem dc_pl_mem (t : Nat) : ∀ (l : List Nat) (k : Nat), t ∈ l → dc_pl t k l ≠ -1 := by
  intro l
  induction l with
  | nil => intro k h; cases h
  | cons j l ih =>
    intro k h
    unfold dc_pl
    by_cases q : j = t
    · rw [if_pos q]; omega
    · rw [if_neg q]
      exact ih (k + 1) ((List.mem_cons.mp h).resolve_left (fun e => q e.symm))
section
variable {E : pw_E} {d : Nat} {w : pw_W} {a : Nat} {D : dc}
theorem dq_slen {b : Nat} {ss : List (List Int)} {K : Int32 → Prop} (k : c_strs w.1 b ss) (H : K (iI ss.length)) : f_len w (some b) K := by
  obtain ⟨vs, h1, h2, h3⟩ := k
  refine ⟨b, 4, _, _, rfl, h1, rfl, ?_⟩
  rw [iI_ofNat, List.length_map, h2]
  exact H
theorem dq_sat {b i : Nat} {ss : List (List Int)} {s : List Int} {K : Option Nat → Prop} (k : c_strs w.1 b ss) (hi : ss[i]? = some s) (hl : ss.length ≤ 1000) (H : ∀ c : Nat, c_str w.1 c s → K (some c)) : f_aldr w (some b) (iI (i : Nat)) K := by
  obtain ⟨vs, c, h1, h2, h3, h4⟩ := k.at hi
  have := (List.getElem?_eq_some_iff.mp hi).1
  exact ⟨b, 4, _, vs, some c, rfl, h1, rfl, rfl, iI_n0 (by omega), by rw [iI_nn (by omega)]; exact h3, H c h4⟩
theorem dq_date {e i : Nat} {x : Int} {K : Int32 → pw_W → Prop} (hd : 3 ≤ e) (h : c_doc E w.1 w.1 a D) (hi : D.2.2[i]? = some x) (H : K (iI x) w) :
    f_getr w (some a) 6 2 (fun x6 => f_V E w x6 18 m_J2_get e [.int (iI (i : Nat))] (c_r (fun o11 w10 => f_cast w10 o11 "java/lang/Integer" (f_V E w10 o11 28 m_J21_intValue e [] (c_i K))))) := by
  obtain ⟨lv, bv, cv, mv, lt, bt, ct, mt, ld, bd, cd, md, rs, ts, ds, h1, h2, h3, h4, h5, h6, ⟨h7, h8⟩, -⟩ := h
  have hl := (List.getElem?_eq_some_iff.mp hi).1
  obtain ⟨r, r1, r2⟩ := dc_map (l := ds) (i := i) (by omega)
  have hr := h8 i r x r1 hi
  obtain ⟨e, rfl, hd'⟩ := pw_d1 hd
  exact ⟨a, _, _, rfl, h1, rfl, ld, _, rfl, h4.1, cl_get_ok hd h4 r2 ⟨Or.inr ⟨r, 28, _, rfl, hr, c_canN⟩, r, _, rfl, hr, e_J21_intValue _ (s_J21_intValue_0 _ ⟨r, _, _, rfl, hr, rfl, _, rfl, H⟩)⟩⟩
def dc_times (D : dc) (v : Nat) (ss : List (List Int)) : Int := upto (dc_len D v + 1 - ss.length) (fun p (n : Int) => n + (if (List.range ss.length).all (fun k => decide (dc_w D v (p + k) = ss.getD k [])) = true then 1 else 0)) 0
theorem cd_times_ok {row : List Nat} {v b : Nat} {ss : List (List Int)} {K : Int32 → pw_W → Prop} (hd : 5 ≤ d) (hw : wf E w) (h : c_doc E w.1 w.1 a D) (hD : dc_ok D) (hv : D.1[v]? = some row) (hc : c_strs w.1 b ss) (hs : ss.length ≤ 1000) (H : K (iI (dc_times D v ss)) w) : pw_Cl E m_X7_times d [va_rf (some a), .int (iI v), va_rf (some b)] w (c_i K) := by
  replace hd := pw_d1 hd; obtain ⟨e, rfl, hd⟩ := hd
  obtain ⟨b1, b2, b3, b4, b5⟩ := hD.row hv
  have hn : dc_len D v = row.length := by unfold dc_len; rw [b4]
  unfold dc_times at H
  rw [hn] at H
  refine e_X7_times _ _ _ (s_X7_times_0 _ _ _ (dq_row (by omega) h hv (fun r hr => dq_len hr ?_)))
  have key : ∀ (f p : Nat), p + f = row.length + 1 - ss.length → pw_Wp E m_X7_times (e + 1) 19 [some (va_rf (some a)), some (.int (iI v)), some (va_rf (some b)), some (.int (iI (upto p (fun p (n : Int) => n + (if (List.range ss.length).all (fun k => decide (dc_w D v (p + k) = ss.getD k [])) = true then 1 else 0)) 0))), some (.int (iI row.length)), some (.int (iI (p : Nat))), none] [] w (c_i K) := by
    intro f
    induction f with
    | zero =>
      intro p hp
      refine s_X7_times_19 _ _ _ _ _ _ (dq_slen hc ?_)
      rw [iI_adn]
      refine ifT (by rw [iI_ltn (by omega) (by omega)]; omega) ⟨_, rfl, ?_⟩
      have : p = row.length + 1 - ss.length := by omega
      rw [this]
      exact H
    | succ f ih =>
      intro p hp
      have nx := ih (p + 1) (by omega)
      rw [upto_s] at nx
      refine s_X7_times_19 _ _ _ _ _ _ (dq_slen hc ?_)
      rw [iI_adn]
      refine ifF (by rw [iI_ltn (by omega) (by omega)]; omega) ?_
      have inn : ∀ (f k : Nat), k + f = ss.length → (∀ i, i < k → decide (dc_w D v (p + i) = ss.getD i []) = true) → pw_Wp E m_X7_times (e + 1) 32 [some (va_rf (some a)), some (.int (iI v)), some (va_rf (some b)), some (.int (iI (upto p (fun p (n : Int) => n + (if (List.range ss.length).all (fun k => decide (dc_w D v (p + k) = ss.getD k [])) = true then 1 else 0)) 0))), some (.int (iI row.length)), some (.int (iI (p : Nat))), some (.int (iI (k : Nat)))] [] w (c_i K) := by
        intro f
        induction f with
        | zero =>
          intro k hk hs'
          refine s_X7_times_32 _ _ _ _ _ _ _ (dq_slen hc (ifT (by rw [iI_len (by omega) (by omega)]; omega) (dq_slen hc (ifT (by rw [iI_eqn (by omega) (by omega)]; omega) ?_))))
          rw [all_true (fun i hi => hs' i (by omega)), if_pos rfl] at nx
          rw [iI_a1, iI_ad1]
          exact nx
        | succ f ih2 =>
          intro k hk hs'
          obtain ⟨s, hs1⟩ := dc_get (l := ss) (i := k) (by omega)
          refine s_X7_times_32 _ _ _ _ _ _ _ (dq_slen hc (ifF (by rw [iI_len (by omega) (by omega)]; omega) ?_))
          rw [iI_adn]
          refine dq_word (by omega) h hD hv (by omega) (fun c hc1 => dq_sat hc hs1 (by omega) (fun c2 hc2 => dq_equals (by omega) hw hc1 hc2 ?_))
          have eD : ss.getD k [] = s := dc_getD hs1
          by_cases q : dc_w D v (p + k) = s
          · rw [decide_eq_true q]
            refine ifF (by decide) ?_
            rw [iI_ad1]
            refine ih2 (k + 1) (by omega) (fun i hi => ?_)
            by_cases u : i = k
            · subst u; rw [eD]; exact decide_eq_true q
            · exact hs' i (by omega)
          · rw [decide_eq_false q]
            refine ifT (by decide) (dq_slen hc (ifF (by rw [iI_eqn (by omega) (by omega)]; omega) ?_))
            rw [all_false (show k < ss.length by omega) (by rw [eD]; exact decide_eq_false q), if_neg (by decide), Int.add_zero] at nx
            rw [iI_a0, iI_ad1]
            exact nx
      exact inn ss.length 0 (by omega) (fun i hi => by omega)
  exact key (row.length + 1 - ss.length) 0 (by omega)
def dc_near (D : dc) (v : Nat) (s t : List Int) (far : Nat) : Bool := (List.range (dc_len D v)).any (fun p => decide (dc_w D v p = s) && (List.range (dc_len D v)).any (fun q => decide (p ≤ q + far ∧ q ≤ p + far ∧ q ≠ p ∧ dc_w D v q = t)))
theorem cd_isNear_ok {row : List Nat} {v c c' far : Nat} {s t : List Int} {K : Bool → pw_W → Prop} (hd : 5 ≤ d) (hw : wf E w) (h : c_doc E w.1 w.1 a D) (hD : dc_ok D) (hv : D.1[v]? = some row) (hc : c_str w.1 c s) (hc' : c_str w.1 c' t) (hf : far ≤ 1000) (H : K (dc_near D v s t far) w) : pw_Cl E m_X7_isNear d [va_rf (some a), .int (iI v), va_rf (some c), va_rf (some c'), .int (iI far)] w (c_z K) := by
  replace hd := pw_d1 hd; obtain ⟨e, rfl, hd⟩ := hd
  obtain ⟨b1, b2, b3, b4, b5⟩ := hD.row hv
  have hn : dc_len D v = row.length := by unfold dc_len; rw [b4]
  unfold dc_near at H
  rw [hn] at H
  refine e_X7_isNear _ _ _ _ _ (s_X7_isNear_0 _ _ _ _ _ (dq_row (by omega) h hv (fun r hr => dq_len hr ?_)))
  have key : ∀ (f p : Nat), p + f = row.length → (∀ i, i < p → (decide (dc_w D v i = s) && (List.range row.length).any (fun q => decide (i ≤ q + far ∧ q ≤ i + far ∧ q ≠ i ∧ dc_w D v q = t))) = false) → pw_Wp E m_X7_isNear (e + 1) 17 [some (va_rf (some a)), some (.int (iI v)), some (va_rf (some c)), some (va_rf (some c')), some (.int (iI far)), some (.int (iI row.length)), some (.int (iI (p : Nat))), none] [] w (c_z K) := by
    intro f
    induction f with
    | zero =>
      intro p hp hs
      refine s_X7_isNear_17 _ _ _ _ _ _ _ (ifT (by rw [iI_len (by omega) (by omega)]; omega) ⟨false, rfl, ?_⟩)
      rw [any_false (fun i hi => hs i (by omega))] at H
      exact H
    | succ f ih =>
      intro p hp hs
      refine s_X7_isNear_17 _ _ _ _ _ _ _ (ifF (by rw [iI_len (by omega) (by omega)]; omega) (dq_word (by omega) h hD hv (by omega) (fun c1 hc1 => dq_equals (by omega) hw hc1 hc ?_)))
      by_cases y : dc_w D v p = s
      · rw [decide_eq_true y]
        refine ifF (by decide) ?_
        have e1 : iI (p : Nat) - iI (far : Nat) = iI ((p : Int) - far) := iI_sub _ _
        have e2 : (if (0 : Int32) < iI (p : Nat) - iI (far : Nat) then iI (p : Nat) - iI (far : Nat) else 0) = iI ((p - far : Nat) : Int) := by
          rw [e1]
          have e3 : ((0 : Int32) < iI ((p : Int) - far)) = (0 < (p : Int) - far) := iI_lt (a := 0) (rI_small (by omega) (by omega)) (rI_small (by omega) (by omega))
          by_cases z : 0 < (p : Int) - far
          · rw [if_pos (by rw [e3]; exact z)]
            congr 1
            omega
          · rw [if_neg (by rw [e3]; exact z)]
            have : p - far = 0 := by omega
            rw [this]
            rfl
        rw [e2]
        have nx : (∀ q, q < row.length → (p ≤ q + far ∧ q ≤ p + far ∧ q ≠ p ∧ dc_w D v q = t) → False) → pw_Wp E m_X7_isNear (e + 1) 17 [some (va_rf (some a)), some (.int (iI v)), some (va_rf (some c)), some (va_rf (some c')), some (.int (iI far)), some (.int (iI row.length)), some (.int (iI (p : Nat) + 1)), none] [] w (c_z K) := by
          intro hq
          rw [iI_ad1]
          refine ih (p + 1) (by omega) (fun i hi => ?_)
          by_cases u : i = p
          · subst u
            rw [any_false (fun q hq1 => decide_eq_false (fun z => hq q hq1 z)), Bool.and_false]
          · exact hs i (by omega)
        have inn : ∀ (g q : Nat), q + g = row.length + far + 1 + p → p ≤ q + far → (∀ i, i < q → (p ≤ i + far ∧ i ≤ p + far ∧ i ≠ p ∧ dc_w D v i = t) → False) → pw_Wp E m_X7_isNear (e + 1) 52 [some (va_rf (some a)), some (.int (iI v)), some (va_rf (some c)), some (va_rf (some c')), some (.int (iI far)), some (.int (iI row.length)), some (.int (iI (p : Nat))), some (.int (iI (q : Nat)))] [] w (c_z K) := by
          intro g
          induction g with
          | zero =>
            intro q hq hq0 hq1
            refine s_X7_isNear_52 _ _ _ _ _ _ _ _ ?_
            rw [iI_adn]
            refine ifT (by rw [iI_ltn (by omega) (by omega)]; omega) (nx (fun i hi z => hq1 i (by omega) z))
          | succ g ih2 =>
            intro q hq hq0 hq1
            refine s_X7_isNear_52 _ _ _ _ _ _ _ _ ?_
            rw [iI_adn]
            by_cases z1 : p + far < q
            · exact ifT (by rw [iI_ltn (by omega) (by omega)]; exact z1) (nx (fun i hi z => by
                rcases Nat.lt_or_ge i q with u | u
                · exact hq1 i u z
                · omega))
            refine ifF (by rw [iI_ltn (by omega) (by omega)]; exact z1) ?_
            by_cases z2 : row.length ≤ q
            · exact ifT (by rw [iI_len (by omega) (by omega)]; exact z2) (nx (fun i hi z => hq1 i (by omega) z))
            refine ifF (by rw [iI_len (by omega) (by omega)]; exact z2) ?_
            have go : ((p ≤ q + far ∧ q ≤ p + far ∧ q ≠ p ∧ dc_w D v q = t) → False) → pw_Wp E m_X7_isNear (e + 1) 52 [some (va_rf (some a)), some (.int (iI v)), some (va_rf (some c)), some (va_rf (some c')), some (.int (iI far)), some (.int (iI row.length)), some (.int (iI (p : Nat))), some (.int (iI (q : Nat) + 1))] [] w (c_z K) := by
              intro hz
              rw [iI_ad1]
              refine ih2 (q + 1) (by omega) (by omega) (fun i hi z => ?_)
              by_cases u : i = q
              · subst u; exact hz z
              · exact hq1 i (by omega) z
            by_cases z3 : q = p
            · exact ifT (by rw [iI_eqn (by omega) (by omega)]; exact z3) (go (fun z => z.2.2.1 z3))
            refine ifF (by rw [iI_eqn (by omega) (by omega)]; exact z3) (dq_word (by omega) h hD hv (by omega) (fun c2 hc2 => dq_equals (by omega) hw hc2 hc' ?_))
            by_cases z4 : dc_w D v q = t
            · rw [decide_eq_true z4]
              refine ifF (by decide) ⟨true, rfl, ?_⟩
              rw [any_true (show p < row.length by omega) (by rw [decide_eq_true y, Bool.true_and]; exact any_true (show q < row.length by omega) (decide_eq_true ⟨hq0, by omega, z3, z4⟩))] at H
              exact H
            · rw [decide_eq_false z4]
              exact ifT (by decide) (go (fun z => z4 z.2.2.2))
        exact inn (row.length + far + 1 + p - (p - far)) (p - far) (by omega) (by omega) (fun i hi z => by omega)
      · rw [decide_eq_false y]
        refine ifT (by decide) ?_
        rw [iI_ad1]
        refine ih (p + 1) (by omega) (fun i hi => ?_)
        by_cases u : i = p
        · subst u; rw [decide_eq_false y, Bool.false_and]
        · exact hs i (by omega)
  exact key row.length 0 (by omega) (fun i hi => by omega)
def dc_asOf (D : dc) (x : Int) : Int := upto D.1.length (fun v (at' : Int) => if x < D.2.2.getD v 0 then at' else (v : Int)) (-1)
theorem cd_asOf_ok {x : Int} {K : Int32 → pw_W → Prop} (hd : 4 ≤ d) (h : c_doc E w.1 w.1 a D) (hD : dc_ok D) (hx : rI x) (H : K (iI (dc_asOf D x)) w) : pw_Cl E m_X7_asOf d [va_rf (some a), .int (iI x)] w (c_i K) := by
  replace hd := pw_d1 hd; obtain ⟨e, rfl, hd⟩ := hd
  have hn := hD.2.2.1
  have hnd := hD.2.1
  refine e_X7_asOf _ _ (s_X7_asOf_0 _ _ ?_)
  have key : ∀ (f v : Nat), v + f = D.1.length → pw_Wp E m_X7_asOf (e + 1) 4 [some (va_rf (some a)), some (.int (iI x)), some (.int (iI (upto v (fun v (at' : Int) => if x < D.2.2.getD v 0 then at' else (v : Int)) (-1)))), some (.int (iI (v : Nat)))] [] w (c_i K) := by
    intro f
    induction f with
    | zero =>
      intro v hv
      refine s_X7_asOf_4 _ _ _ _ (dq_many (by omega) h (ifT (by rw [iI_len (by omega) (by omega)]; omega) ⟨_, rfl, ?_⟩))
      have : v = D.1.length := by omega
      rw [this]
      exact H
    | succ f ih =>
      intro v hv
      have nx := ih (v + 1) (by omega)
      rw [upto_s] at nx
      obtain ⟨y, hy⟩ := dc_get (l := D.2.2) (i := v) (by omega)
      have hyr := hD.2.2.2.2.2 y (List.mem_of_getElem? hy)
      rw [dc_getD hy] at nx
      refine s_X7_asOf_4 _ _ _ _ (dq_many (by omega) h (ifF (by rw [iI_len (by omega) (by omega)]; omega) (dq_date (by omega) h hy ?_)))
      have e0 : (iI x < iI y) = (x < y) := iI_lt hx (rI_small (by omega) (by omega))
      by_cases q : x < y
      · rw [if_pos q] at nx
        refine ifT (by rw [e0]; exact q) ?_
        rw [iI_ad1]
        exact nx
      · rw [if_neg q] at nx
        refine ifF (by rw [e0]; exact q) ?_
        rw [iI_ad1]
        exact nx
  exact key D.1.length 0 (by omega)
end
