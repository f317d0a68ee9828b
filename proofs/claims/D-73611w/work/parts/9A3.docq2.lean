set_option maxRecDepth 100000
/-! the component: what is asked of a document's tokens -/
theorem c_it.cx {E : pw_E} {w u : pw_W} {F : Nat → Prop} {n it k a : Nat} {mc : Int32} (hw : wf E w) (c : cx E w u F n) (i : c_it u.1 it k mc a) (hit : w.2.1 ≤ it) (o : pw_O) : cx E w (pw_up u it o) F n := by
  obtain ⟨l, hi⟩ := i
  exact (c.tn hw (cx.up c.ok o hi (Nat.le_trans hw.b hit) (F := fun q => q = it) rfl) (fun q e => Or.inr (by have e : q = it := e; omega))).le (by omega)
/-- the tokens' list, opened -/
theorem c_doc.toks {E : pw_E} {h : pw_H} {a : Nat} {D : dc} (k : c_doc E h h a D) : ∃ (lv lt ld bt ct : Nat) (mt : Int32) (ts : List Nat), h a = some (6, [va_rf (some lv), va_rf (some lt), va_rf (some ld)]) ∧ c_al E h lt mt bt ct (ts.map some) ∧ ts.length = D.2.1.length ∧ ∀ (j t : Nat), ts[j]? = some t → ∃ c : Nat, h t = some (7, [va_rf (some c), .int (iI (dc_set D.1 j))]) := by
  obtain ⟨lv, bv, cv, mv, lt, bt, ct, mt, ld, bd, cd, md, rs, ts, ds, h1, h2, h3, h4, h5, ⟨h7, h8⟩, -⟩ := k
  refine ⟨lv, lt, ld, bt, ct, mt, ts, h1, h3, h7, fun j t ht => ?_⟩
  obtain ⟨s, hs⟩ := dc_get (l := D.2.1) (i := j) (by have := (List.getElem?_eq_some_iff.mp ht).1; omega)
  obtain ⟨c, c1, -⟩ := h8 j t s ht hs
  exact ⟨c, c1⟩
section
variable {E : pw_E} {d : Nat} {w : pw_W} {a : Nat} {D : dc}
/-- a loop over a document's tokens: at its head -/
theorem dq_tstep {e k : Nat} {u : pw_W} {lt bt ct : Nat} {mt : Int32} {ts : List Nat} {X : pw_W → Prop} {Y : Int32 → pw_W → Prop} (hd : 2 ≤ e) (hw : wf E w) (h3 : c_al E w.1 lt mt bt ct (ts.map some)) (h8 : ∀ (j t : Nat), ts[j]? = some t → ∃ c : Nat, w.1 t = some (7, [va_rf (some c), .int (iI (dc_set D.1 j))])) (c : cx E w u c_no 8) (i : c_it u.1 w.2.1 k mt lt) (hk : k ≤ ts.length) (hX : k = ts.length → X u) (hY : ∀ u', k < ts.length → cx E w u' c_no 8 → c_it u'.1 w.2.1 (k + 1) mt lt → Y (iI (dc_set D.1 k)) u') :
    f_V E u (some w.2.1) 19 m_J15_hasNext e [] (c_z (fun b w1 => (if bI b = 0 then X w1 else f_V E w1 (some w.2.1) 19 m_J15_next e [] (c_r (fun o7 w6 => f_cast w6 o7 "VersionSearch$Token" (f_geti w6 o7 7 1 (fun x11 => Y x11 w6))))))) := by
  refine cl_step hd i hw.b (h3.mono c.sub1) (by simpa using hk) (fun q => hX (by simpa using q)) (fun x o hx hi ho => ?_)
  have hkl := (List.getElem?_eq_some_iff.mp hx).1
  rw [List.length_map] at hkl
  have ht : ts[k]? = some ts[k] := List.getElem?_eq_getElem hkl
  rw [List.getElem?_map, ht] at hx
  cases hx
  obtain ⟨c', hc'⟩ := h8 k _ ht
  have c2 := i.cx hw c (Nat.le_refl _) o
  have g := c2.at hc'
  exact ⟨Or.inr ⟨ts[k], 7, _, rfl, g, c_canT⟩, ts[k], _, _, rfl, g, rfl, hY _ hkl c2 hi⟩
def dc_post (D : dc) : Int := upto D.2.1.length (fun j (n : Int) => n + s_rows (dc_set D.1 j)) 0
theorem cd_postings_ok {K : Int32 → pw_W → Prop} (hd : 5 ≤ d) (hw : wf E w) (h : c_doc E w.1 w.1 a D) (h10 : D.1.length ≤ 10) (H : ∀ w', cx E w w' c_no 8 → K (iI (dc_post D)) w') : pw_Cl E m_X7_postings d [va_rf (some a)] w (c_i K) := by
  replace hd := pw_d1 hd; obtain ⟨e, rfl, hd⟩ := hd
  obtain ⟨lv, lt, ld, bt, ct, mt, ts, h1, h3, h7, h8⟩ := h.toks
  unfold dc_post at H
  refine e_X7_postings _ (s_X7_postings_0 _ ⟨a, _, _, rfl, h1, rfl, lt, _, rfl, h3.1, cl_iterator_ok (by omega) hw h3 (fun w1 c1 n1 i1 => ?_)⟩)
  have key : ∀ (f k : Nat) (u : pw_W), k + f = ts.length → cx E w u c_no 8 → c_it u.1 w.2.1 k mt lt → pw_Wp E m_X7_postings (e + 1) 10 [none, some (.int (iI (upto k (fun j (n : Int) => n + s_rows (dc_set D.1 j)) 0))), some (va_rf (some w.2.1)), none] [] u (c_i K) := by
    intro f
    induction f with
    | zero =>
      intro k u hk c i
      refine s_X7_postings_10 _ _ (dq_tstep (by omega) hw h3 h8 c i (by omega) (fun q => ⟨_, rfl, ?_⟩) (fun u' q => by omega))
      rw [q, h7]
      exact H u c
    | succ f ih =>
      intro k u hk c i
      refine s_X7_postings_10 _ _ (dq_tstep (by omega) hw h3 h8 c i (by omega) (fun q => by omega) (fun u' q c' i' => c_rows_ok (by omega) (dc_set_r h10) ?_))
      rw [iI_add]
      exact ih (k + 1) u' (by omega) c' i'
  exact key ts.length 0 w1 (by omega) c1 i1
theorem s_full_10 : ∀ n : Fin 11, ((1 : Int32) <<< (iI ((n : Nat) : Int) &&& 31)) - 1 = iI ((2 ^ (n : Nat) - 1 : Nat) : Int) := by decide +kernel
def dc_kept (D : dc) : Int := upto D.2.1.length (fun j (n : Int) => n + (if dc_set D.1 j = ((2 ^ D.1.length - 1 : Nat) : Int) then 1 else 0)) 0
theorem cd_kept_ok {K : Int32 → pw_W → Prop} (hd : 4 ≤ d) (hw : wf E w) (h : c_doc E w.1 w.1 a D) (h10 : D.1.length ≤ 10) (H : ∀ w', cx E w w' c_no 8 → K (iI (dc_kept D)) w') : pw_Cl E m_X7_kept d [va_rf (some a)] w (c_i K) := by
  replace hd := pw_d1 hd; obtain ⟨e, rfl, hd⟩ := hd
  obtain ⟨lv, lt, ld, bt, ct, mt, ts, h1, h3, h7, h8⟩ := h.toks
  unfold dc_kept at H
  have hf := s_full_10 ⟨D.1.length, by omega⟩
  have hp : 2 ^ D.1.length ≤ 2 ^ 10 := Nat.pow_le_pow_right (by omega) h10
  refine e_X7_kept _ (s_X7_kept_0 _ ⟨a, _, _, rfl, h1, rfl, lt, _, rfl, h3.1, cl_iterator_ok (by omega) hw h3 (fun w1 c1 n1 i1 => ?_)⟩)
  have key : ∀ (f k : Nat) (u : pw_W), k + f = ts.length → cx E w u c_no 8 → c_it u.1 w.2.1 k mt lt → pw_Wp E m_X7_kept (e + 1) 10 [some (va_rf (some a)), some (.int (iI (upto k (fun j (n : Int) => n + (if dc_set D.1 j = ((2 ^ D.1.length - 1 : Nat) : Int) then 1 else 0)) 0))), some (va_rf (some w.2.1)), none] [] u (c_i K) := by
    intro f
    induction f with
    | zero =>
      intro k u hk c i
      refine s_X7_kept_10 _ _ _ (dq_tstep (by omega) hw h3 h8 c i (by omega) (fun q => ⟨_, rfl, ?_⟩) (fun u' q => by omega))
      rw [q, h7]
      exact H u c
    | succ f ih =>
      intro k u hk c i
      refine s_X7_kept_10 _ _ _ (dq_tstep (by omega) hw h3 h8 c i (by omega) (fun q => by omega) (fun u' q c' i' => dq_many (by omega) (h.mono c'.sub1 c'.sub1) ?_))
      have nx := ih (k + 1) u' (by omega) c' i'
      rw [upto_s] at nx
      have hr := dc_set_r (j := k) h10
      have hf : ((1 : Int32) <<< (iI (D.1.length : Nat) &&& 31)) - 1 = iI ((2 ^ D.1.length - 1 : Nat) : Int) := hf
      rw [hf]
      have e0 : (iI (dc_set D.1 k) = iI ((2 ^ D.1.length - 1 : Nat) : Int)) = (dc_set D.1 k = ((2 ^ D.1.length - 1 : Nat) : Int)) := iI_eq (rI_small (by omega) (by omega)) (rI_small (by omega) (by omega))
      by_cases z : dc_set D.1 k = ((2 ^ D.1.length - 1 : Nat) : Int)
      · rw [if_pos z] at nx
        refine ifT (by rw [e0]; exact z) ?_
        rw [iI_a1]
        exact nx
      · rw [if_neg z, Int.add_zero] at nx
        refine ifF (by rw [e0]; exact z) ?_
        rw [iI_a0]
        exact nx
  exact key ts.length 0 w1 (by omega) c1 i1
def dc_shared (D : dc) (x y : Int) : Int := upto D.2.1.length (fun j (n : Int) => n + (if (s_has (dc_set D.1 j) x && s_has (dc_set D.1 j) y) = true then 1 else 0)) 0
theorem cd_shared_ok {x y : Int} {K : Int32 → pw_W → Prop} (hd : 4 ≤ d) (hw : wf E w) (h : c_doc E w.1 w.1 a D) (H : ∀ w', cx E w w' c_no 8 → K (iI (dc_shared D x y)) w') : pw_Cl E m_X7_shared d [va_rf (some a), .int (iI x), .int (iI y)] w (c_i K) := by
  replace hd := pw_d1 hd; obtain ⟨e, rfl, hd⟩ := hd
  obtain ⟨lv, lt, ld, bt, ct, mt, ts, h1, h3, h7, h8⟩ := h.toks
  unfold dc_shared at H
  refine e_X7_shared _ _ _ (s_X7_shared_0 _ _ _ ⟨a, _, _, rfl, h1, rfl, lt, _, rfl, h3.1, cl_iterator_ok (by omega) hw h3 (fun w1 c1 n1 i1 => ?_)⟩)
  have key : ∀ (f k : Nat) (u : pw_W), k + f = ts.length → cx E w u c_no 8 → c_it u.1 w.2.1 k mt lt → pw_Wp E m_X7_shared (e + 1) 11 [none, some (.int (iI x)), some (.int (iI y)), some (.int (iI (upto k (fun j (n : Int) => n + (if (s_has (dc_set D.1 j) x && s_has (dc_set D.1 j) y) = true then 1 else 0)) 0))), some (va_rf (some w.2.1)), none] [] u (c_i K) := by
    intro f
    induction f with
    | zero =>
      intro k u hk c i
      refine s_X7_shared_11 _ _ _ _ ?_
      refine cl_step (by omega) i hw.b (h3.mono c.sub1) (by simp; omega) (fun q => ⟨_, rfl, ?_⟩) (fun x o hx hi ho => ?_)
      · rw [List.length_map] at q
        rw [q, h7]
        exact H u c
      · have hkl := (List.getElem?_eq_some_iff.mp hx).1
        rw [List.length_map] at hkl
        omega
    | succ f ih =>
      intro k u hk c i
      refine s_X7_shared_11 _ _ _ _ ?_
      refine cl_step (by omega) i hw.b (h3.mono c.sub1) (by simp; omega) (fun q => ?_) (fun x' o hx hi ho => ?_)
      · rw [List.length_map] at q
        omega
      have hkl := (List.getElem?_eq_some_iff.mp hx).1
      rw [List.length_map] at hkl
      have ht : ts[k]? = some ts[k] := List.getElem?_eq_getElem hkl
      rw [List.getElem?_map, ht] at hx
      cases hx
      obtain ⟨c', hc'⟩ := h8 k _ ht
      have c2 := i.cx hw c (Nat.le_refl _) o
      have g := c2.at hc'
      have nx := ih (k + 1) _ (by omega) c2 hi
      rw [upto_s] at nx
      refine ⟨Or.inr ⟨ts[k], 7, _, rfl, g, c_canT⟩, ts[k], _, _, rfl, g, rfl, c_has_ok (by omega) ?_⟩
      cases z1 : s_has (dc_set D.1 k) x with
      | false =>
        rw [z1, Bool.false_and, if_neg (by decide), Int.add_zero] at nx
        refine ifT (by decide) ?_
        rw [iI_a0]
        exact nx
      | true =>
        refine ifF (by decide) ⟨ts[k], _, _, rfl, g, rfl, c_has_ok (by omega) ?_⟩
        cases z2 : s_has (dc_set D.1 k) y with
        | false =>
          rw [z1, z2, Bool.and_false, if_neg (by decide), Int.add_zero] at nx
          refine ifT (by decide) ?_
          rw [iI_a0]
          exact nx
        | true =>
          rw [z1, z2, if_pos (by decide)] at nx
          refine ifF (by decide) ?_
          rw [iI_a1]
          exact nx
  exact key ts.length 0 w1 (by omega) c1 i1
def dc_fresh (D : dc) (v : Nat) : Int := upto (dc_len D v) (fun p (n : Int) => n + (if s_below (dc_set D.1 ((dc_row D v).getD p 0)) v = 0 then 1 else 0)) 0
theorem cd_fresh_ok {row : List Nat} {v : Nat} {K : Int32 → pw_W → Prop} (hd : 4 ≤ d) (h : c_doc E w.1 w.1 a D) (hD : dc_ok D) (hv : D.1[v]? = some row) (H : K (iI (dc_fresh D v)) w) : pw_Cl E m_X7_fresh d [va_rf (some a), .int (iI v)] w (c_i K) := by
  replace hd := pw_d1 hd; obtain ⟨e, rfl, hd⟩ := hd
  obtain ⟨b1, b2, b3, b4, b5⟩ := hD.row hv
  unfold dc_fresh dc_len at H
  rw [b4] at H
  refine e_X7_fresh _ _ (s_X7_fresh_0 _ _ (dq_row (by omega) h hv (fun r hr => dq_len hr ?_)))
  have key : ∀ (f p : Nat), p + f = row.length → pw_Wp E m_X7_fresh (e + 1) 21 [some (va_rf (some a)), some (.int (iI v)), some (.int (iI (upto p (fun p (n : Int) => n + (if s_below (dc_set D.1 (row.getD p 0)) v = 0 then 1 else 0)) 0))), some (va_rf (some r)), some (.int (iI row.length)), some (.int (iI (p : Nat))), none] [] w (c_i K) := by
    intro f
    induction f with
    | zero =>
      intro p hp
      refine s_X7_fresh_21 _ _ _ _ _ _ (ifT (by rw [iI_len (by omega) (by omega)]; omega) ⟨_, rfl, ?_⟩)
      have : p = row.length := by omega
      rw [this]
      exact H
    | succ f ih =>
      intro p hp
      have nx := ih (p + 1) (by omega)
      rw [upto_s] at nx
      have hj : row[p]? = some row[p] := List.getElem?_eq_getElem (by omega)
      obtain ⟨s, hs⟩ := b2 p _ hj
      rw [dc_getD hj] at nx
      refine s_X7_fresh_21 _ _ _ _ _ _ (ifF (by rw [iI_len (by omega) (by omega)]; omega) (dq_aldi hr hj b1 (dq_tok (by omega) h hs (fun t c ht hc => ⟨t, _, _, rfl, ht, rfl, ?_⟩))))
      have e0 : ((iI (dc_set D.1 row[p]) &&& ((1 <<< (iI v &&& 31)) - 1)) = 0) = (s_below (dc_set D.1 row[p]) v = 0) := by
        unfold s_below
        rw [← Int32.toInt_inj]
        rfl
      by_cases z : s_below (dc_set D.1 row[p]) v = 0
      · rw [if_pos z] at nx
        refine ifT (by rw [e0]; exact z) ?_
        rw [iI_a1, iI_ad1]
        exact nx
      · rw [if_neg z, Int.add_zero] at nx
        refine ifF (by rw [e0]; exact z) ?_
        rw [iI_a0, iI_ad1]
        exact nx
  exact key row.length 0 (by omega)
def dc_lost (D : dc) (v : Nat) : Int := if v = 0 then 0 else (dc_len D (v - 1) : Int) - dc_shared D ((v : Int) - 1) v
theorem cd_lost_ok {row : List Nat} {v : Nat} {K : Int32 → pw_W → Prop} (hd : 5 ≤ d) (hw : wf E w) (h : c_doc E w.1 w.1 a D) (hD : dc_ok D) (hv : D.1[v]? = some row) (H : ∀ w', cx E w w' c_no 8 → K (iI (dc_lost D v)) w') : pw_Cl E m_X7_lost d [va_rf (some a), .int (iI v)] w (c_i K) := by
  replace hd := pw_d1 hd; obtain ⟨e, rfl, hd⟩ := hd
  obtain ⟨b1, b2, b3, b4, b5⟩ := hD.row hv
  unfold dc_lost at H
  refine e_X7_lost _ _ (s_X7_lost_0 _ _ ?_)
  have e0 : (iI v = 0) = (v = 0) := iI_eqn (b := 0) (by omega) (by omega)
  by_cases q : v = 0
  · rw [if_pos q] at H
    exact ifT (by rw [e0]; exact q) ⟨_, rfl, H w (cx.refl hw)⟩
  · rw [if_neg q] at H
    obtain ⟨row1, hv1⟩ := dc_get (l := D.1) (i := v - 1) (by omega)
    obtain ⟨g1, g2, g3, g4, g5⟩ := hD.row hv1
    unfold dc_len at H
    rw [g4] at H
    have e1 : iI v - 1 = iI ((v : Int) - 1) := iI_sub _ 1
    have e2 : iI ((v : Int) - 1) = iI ((v - 1 : Nat) : Int) := by congr 1; omega
    obtain ⟨us, hu⟩ := h.obj
    rw [e1]
    refine ifF (by rw [e0]; exact q) ?_
    rw [e2]
    refine dq_row (by omega) h hv1 (fun r hr => dq_len hr ⟨a, us, rfl, hu, ?_⟩)
    rw [← e2]
    refine cd_shared_ok (by omega) hw h (fun w' c => ⟨_, rfl, ?_⟩)
    rw [iI_sub]
    exact H w' c
theorem c_placeOf_ok {row : List Nat} {r t : Nat} {K : Int32 → pw_W → Prop} (hd : 1 ≤ d) (hr : c_ints w.1 r row) (hl : row.length ≤ 1000) (hrow : ∀ j ∈ row, j ≤ 1000) (ht : t ≤ 1000) (H : K (iI (dc_place row t)) w) : pw_Cl E m_X7_placeOf d [va_rf (some r), .int (iI t)] w (c_i K) := by
  replace hd := pw_d1 hd; obtain ⟨e, rfl, hd⟩ := hd
  refine e_X7_placeOf _ _ (s_X7_placeOf_0 _ _ ?_)
  have key : ∀ (f p : Nat), p + f = row.length → dc_place row t = dc_pl t p (row.drop p) → pw_Wp E m_X7_placeOf (e + 1) 2 [some (va_rf (some r)), some (.int (iI t)), some (.int (iI (p : Nat)))] [] w (c_i K) := by
    intro f
    induction f with
    | zero =>
      intro p hp hq
      refine s_X7_placeOf_2 _ _ _ (dq_len hr (ifT (by rw [iI_len (by omega) (by omega)]; omega) ⟨_, rfl, ?_⟩))
      rw [List.drop_eq_nil_of_le (by omega)] at hq
      rw [hq] at H
      exact H
    | succ f ih =>
      intro p hp hq
      have hj : row[p]? = some row[p] := List.getElem?_eq_getElem (by omega)
      have := hrow _ (List.mem_of_getElem? hj)
      rw [List.drop_eq_getElem_cons (by omega), dc_pl] at hq
      refine s_X7_placeOf_2 _ _ _ (dq_len hr (ifF (by rw [iI_len (by omega) (by omega)]; omega) (dq_aldi hr hj hl ?_)))
      by_cases z : row[p] = t
      · rw [if_pos z] at hq
        rw [hq] at H
        exact ifT (by rw [z]) ⟨_, rfl, H⟩
      · rw [if_neg z] at hq
        refine ifF (by rw [iI_eqn (by omega) (by omega)]; exact z) ?_
        rw [iI_ad1]
        exact ih (p + 1) (by omega) hq
  exact key row.length 0 (by omega) rfl
def dc_turnP (was row : List Nat) (i j : Nat) : Int := if dc_place was (row.getD i 0) = -1 then 0 else if dc_place was (row.getD j 0) = -1 then 0 else if dc_place was (row.getD i 0) ≤ dc_place was (row.getD j 0) then 0 else 1
def dc_turned (D : dc) (v : Nat) : Int := if v = 0 then 0 else upto (dc_len D v) (fun b (n : Int) => upto b (fun a (n : Int) => n + dc_turnP (dc_row D (v - 1)) (dc_row D v) a b) n) 0
theorem cd_turned_ok {row : List Nat} {v : Nat} {K : Int32 → pw_W → Prop} (hd : 4 ≤ d) (h : c_doc E w.1 w.1 a D) (hD : dc_ok D) (hv : D.1[v]? = some row) (H : K (iI (dc_turned D v)) w) : pw_Cl E m_X7_turned d [va_rf (some a), .int (iI v)] w (c_i K) := by
  replace hd := pw_d1 hd; obtain ⟨e, rfl, hd⟩ := hd
  obtain ⟨b1, b2, b3, b4, b5⟩ := hD.row hv
  have ht := hD.2.2.2.1
  unfold dc_turned at H
  refine e_X7_turned _ _ (s_X7_turned_0 _ _ ?_)
  have e0 : (iI v = 0) = (v = 0) := iI_eqn (b := 0) (by omega) (by omega)
  by_cases q : v = 0
  · rw [if_pos q] at H
    exact ifT (by rw [e0]; exact q) ⟨_, rfl, H⟩
  rw [if_neg q] at H
  obtain ⟨was, hv1⟩ := dc_get (l := D.1) (i := v - 1) (by omega)
  obtain ⟨g1, g2, g3, g4, g5⟩ := hD.row hv1
  unfold dc_len at H
  rw [g4, b4] at H
  have e2 : iI v - 1 = iI ((v - 1 : Nat) : Int) := by
    have : iI v - iI 1 = _ := iI_sub _ 1
    rw [show ((v - 1 : Nat) : Int) = (v : Int) - 1 by omega]
    exact this
  rw [e2]
  have hb : ∀ j ∈ row, j ≤ 1000 := fun j hj => by have := hD.1 row (List.mem_of_getElem? hv) j hj; omega
  have hbw : ∀ j ∈ was, j ≤ 1000 := fun j hj => by have := hD.1 was (List.mem_of_getElem? hv1) j hj; omega
  refine ifF (by rw [e0]; exact q) (dq_row (by omega) h hv (fun r hr => dq_row (by omega) h hv1 (fun r' hr' => ?_)))
  have key : ∀ (f b : Nat), b + f = row.length → pw_Wp E m_X7_turned (e + 1) 38 [none, none, some (va_rf (some r)), some (va_rf (some r')), some (.int (iI (upto b (fun b (n : Int) => upto b (fun a (n : Int) => n + dc_turnP was row a b) n) 0))), some (.int (iI (b : Nat))), none, none, none] [] w (c_i K) := by
    intro f
    induction f with
    | zero =>
      intro b hk
      refine s_X7_turned_38 _ _ _ _ (dq_len hr (ifT (by rw [iI_len (by omega) (by omega)]; omega) ⟨_, rfl, ?_⟩))
      have : b = row.length := by omega
      rw [this]
      exact H
    | succ f ih =>
      intro b hk
      have nx := ih (b + 1) (by omega)
      rw [upto_s] at nx
      refine s_X7_turned_38 _ _ _ _ (dq_len hr (ifF (by rw [iI_len (by omega) (by omega)]; omega) ?_))
      generalize upto b (fun b (n : Int) => upto b (fun a (n : Int) => n + dc_turnP was row a b) n) 0 = n0 at nx ⊢
      have xb : row[b]? = some row[b] := List.getElem?_eq_getElem (by omega)
      have hrb := hb _ (List.mem_of_getElem? xb)
      have inn : ∀ (g c : Nat), c + g = b → pw_Wp E m_X7_turned (e + 1) 48 [none, none, some (va_rf (some r)), some (va_rf (some r')), some (.int (iI (upto c (fun a (n : Int) => n + dc_turnP was row a b) n0))), some (.int (iI (b : Nat))), some (.int (iI (c : Nat))), none, none] [] w (c_i K) := by
        intro g
        induction g with
        | zero =>
          intro c hc
          refine s_X7_turned_48 _ _ _ _ _ (ifT (by rw [iI_len (by omega) (by omega)]; omega) ?_)
          have : c = b := by omega
          rw [this, iI_ad1]
          exact nx
        | succ g ih2 =>
          intro c hc
          have nx2 := ih2 (c + 1) (by omega)
          rw [upto_s] at nx2
          have xc : row[c]? = some row[c] := List.getElem?_eq_getElem (by omega)
          have hrc := hb _ (List.mem_of_getElem? xc)
          refine s_X7_turned_48 _ _ _ _ _ (ifF (by rw [iI_len (by omega) (by omega)]; omega) (dq_aldi hr xc b1 (c_placeOf_ok (by omega) hr' g1 hbw hrc (dq_aldi hr xb b1 (c_placeOf_ok (by omega) hr' g1 hbw hrb ?_)))))
          have p1 := dc_place_r was row[c]
          have p2 := dc_place_r was row[b]
          have ed : dc_turnP was row c b = if dc_place was row[c] = -1 then 0 else if dc_place was row[b] = -1 then 0 else if dc_place was row[c] ≤ dc_place was row[b] then 0 else 1 := by
            unfold dc_turnP
            rw [dc_getD xc, dc_getD xb]
          rw [ed] at nx2
          have m1 : (iI (dc_place was row[c]) = -1) = (dc_place was row[c] = -1) := iI_eq (b := -1) (rI_small (by omega) (by omega)) (rI_small (by omega) (by omega))
          have m2 : (iI (dc_place was row[b]) = -1) = (dc_place was row[b] = -1) := iI_eq (b := -1) (rI_small (by omega) (by omega)) (rI_small (by omega) (by omega))
          have m3 : (iI (dc_place was row[c]) ≤ iI (dc_place was row[b])) = (dc_place was row[c] ≤ dc_place was row[b]) := iI_le (rI_small (by omega) (by omega)) (rI_small (by omega) (by omega))
          by_cases z1 : dc_place was row[c] = -1
          · rw [if_pos z1, Int.add_zero] at nx2
            refine ifT (by rw [m1]; exact z1) ?_
            rw [iI_a0, iI_ad1]
            exact nx2
          · rw [if_neg z1] at nx2
            refine ifF (by rw [m1]; exact z1) ?_
            by_cases z2 : dc_place was row[b] = -1
            · rw [if_pos z2, Int.add_zero] at nx2
              refine ifT (by rw [m2]; exact z2) ?_
              rw [iI_a0, iI_ad1]
              exact nx2
            · rw [if_neg z2] at nx2
              refine ifF (by rw [m2]; exact z2) ?_
              by_cases z3 : dc_place was row[c] ≤ dc_place was row[b]
              · rw [if_pos z3, Int.add_zero] at nx2
                refine ifT (by rw [m3]; exact z3) ?_
                rw [iI_a0, iI_ad1]
                exact nx2
              · rw [if_neg z3] at nx2
                refine ifF (by rw [m3]; exact z3) ?_
                rw [iI_a1, iI_ad1]
                exact nx2
      exact inn b 0 (by omega)
  exact key row.length 0 (by omega)
theorem s_till_10 : ∀ v : Fin 10, ((1 : Int32) <<< (iI ((v : Nat) : Int) + 1 &&& 31)) - 1 = ((2 : Int32) <<< (iI ((v : Nat) : Int) &&& 31)) - 1 := by decide +kernel
theorem s_till_r : ∀ (x : Fin 1024) (v : Fin 10), 0 ≤ s_till ((x : Nat) : Int) ((v : Nat) : Int) ∧ s_till ((x : Nat) : Int) ((v : Nat) : Int) < 1024 := by decide +kernel
def dc_oldest (D : dc) (v : Nat) : Int × Int := upto (dc_len D v) (fun p (b : Int × Int) => (if s_ones (s_till (dc_set D.1 ((dc_row D v).getD p 0)) v) ≤ b.2 then b.1 else (p : Int), max b.2 (s_ones (s_till (dc_set D.1 ((dc_row D v).getD p 0)) v)))) (-1, 0)
theorem cd_oldest_ok {row : List Nat} {v : Nat} {K : Int32 → pw_W → Prop} (hd : 4 ≤ d) (h : c_doc E w.1 w.1 a D) (hD : dc_ok D) (h10 : D.1.length ≤ 10) (hv : D.1[v]? = some row) (H : K (iI (dc_oldest D v).1) w) : pw_Cl E m_X7_oldest d [va_rf (some a), .int (iI v)] w (c_i K) := by
  replace hd := pw_d1 hd; obtain ⟨e, rfl, hd⟩ := hd
  obtain ⟨b1, b2, b3, b4, b5⟩ := hD.row hv
  unfold dc_oldest dc_len at H
  rw [b4] at H
  have ht := s_till_10 ⟨v, by omega⟩
  have ht : ((1 : Int32) <<< (iI v + 1 &&& 31)) - 1 = ((2 : Int32) <<< (iI v &&& 31)) - 1 := ht
  refine e_X7_oldest _ _ (s_X7_oldest_0 _ _ (dq_row (by omega) h hv (fun r hr => ?_)))
  have key : ∀ (f p : Nat), p + f = row.length → 0 ≤ (upto p (fun p (b : Int × Int) => (if s_ones (s_till (dc_set D.1 (row.getD p 0)) v) ≤ b.2 then b.1 else (p : Int), max b.2 (s_ones (s_till (dc_set D.1 (row.getD p 0)) v)))) (-1, 0)).2 ∧ (upto p (fun p (b : Int × Int) => (if s_ones (s_till (dc_set D.1 (row.getD p 0)) v) ≤ b.2 then b.1 else (p : Int), max b.2 (s_ones (s_till (dc_set D.1 (row.getD p 0)) v)))) (-1, 0)).2 ≤ 10 → pw_Wp E m_X7_oldest (e + 1) 20 [some (va_rf (some a)), some (.int (iI v)), some (va_rf (some r)), some (.int (iI (upto p (fun p (b : Int × Int) => (if s_ones (s_till (dc_set D.1 (row.getD p 0)) v) ≤ b.2 then b.1 else (p : Int), max b.2 (s_ones (s_till (dc_set D.1 (row.getD p 0)) v)))) (-1, 0)).1)), some (.int (iI (upto p (fun p (b : Int × Int) => (if s_ones (s_till (dc_set D.1 (row.getD p 0)) v) ≤ b.2 then b.1 else (p : Int), max b.2 (s_ones (s_till (dc_set D.1 (row.getD p 0)) v)))) (-1, 0)).2)), some (.int (iI (p : Nat))), none] [] w (c_i K) := by
    intro f
    induction f with
    | zero =>
      intro p hp _
      refine s_X7_oldest_20 _ _ _ _ _ _ (dq_len hr (ifT (by rw [iI_len (by omega) (by omega)]; omega) ⟨_, rfl, ?_⟩))
      have : p = row.length := by omega
      rw [this]
      exact H
    | succ f ih =>
      intro p hp hb
      have nx := ih (p + 1) (by omega)
      rw [upto_s] at nx
      have hj : row[p]? = some row[p] := List.getElem?_eq_getElem (by omega)
      obtain ⟨s, hs⟩ := b2 p _ hj
      rw [dc_getD hj] at nx
      generalize upto p (fun p (b : Int × Int) => (if s_ones (s_till (dc_set D.1 (row.getD p 0)) v) ≤ b.2 then b.1 else (p : Int), max b.2 (s_ones (s_till (dc_set D.1 (row.getD p 0)) v)))) (-1, 0) = b at nx hb ⊢
      have hr10 := dc_set_r (j := row[p]) h10
      have hq := s_till_r ⟨(dc_set D.1 row[p]).toNat, by omega⟩ ⟨v, by omega⟩
      have hq : 0 ≤ s_till (((dc_set D.1 row[p]).toNat : Nat) : Int) (v : Nat) ∧ s_till (((dc_set D.1 row[p]).toNat : Nat) : Int) (v : Nat) < 1024 := hq
      rw [show (((dc_set D.1 row[p]).toNat : Nat) : Int) = dc_set D.1 row[p] by omega] at hq
      have ho := s_ones_r (s_till (dc_set D.1 row[p]) v)
      have lt : ∀ (t c : Nat), w.1 t = some (7, [va_rf (some c), .int (iI (dc_set D.1 row[p]))]) → f_geti w (some t) 7 1 (fun x20 => pw_Cl E m_X0_bits e [.int (x20 &&& ((1 <<< (iI v + 1 &&& 31)) - 1))] w (c_i (fun x25 w24 => (if iI b.2 < x25 then pw_Wp E m_X7_oldest (e + 1) 20 [some (va_rf (some a)), some (.int (iI v)), some (va_rf (some r)), some (.int (iI (p : Nat))), some (.int x25), some (.int (iI (p : Nat) + 1)), none] [] w24 (c_i K) else pw_Wp E m_X7_oldest (e + 1) 20 [some (va_rf (some a)), some (.int (iI v)), some (va_rf (some r)), some (.int (iI b.1)), some (.int (iI b.2)), some (.int (iI (p : Nat) + 1)), none] [] w24 (c_i K))))) := by
        intro t c htc
        refine ⟨t, _, _, rfl, htc, rfl, ?_⟩
        have e9 : iI (dc_set D.1 row[p]) &&& ((1 <<< (iI v + 1 &&& 31)) - 1) = iI (s_till (dc_set D.1 row[p]) v) := by
          rw [ht]
          unfold s_till
          rw [iI_of]
        show pw_Cl E m_X0_bits e [.int (iI (dc_set D.1 row[p]) &&& ((1 <<< (iI v + 1 &&& 31)) - 1))] w _
        rw [e9]
        refine c_bits_ok (by omega) hq ?_
        have e0 : (iI b.2 < iI (s_ones (s_till (dc_set D.1 row[p]) v))) = (b.2 < s_ones (s_till (dc_set D.1 row[p]) v)) := iI_lt (rI_small (by omega) (by omega)) (rI_small (by omega) (by omega))
        by_cases z : s_ones (s_till (dc_set D.1 row[p]) v) ≤ b.2
        · have nx := nx (by show 0 ≤ max b.2 _ ∧ max b.2 _ ≤ 10; omega)
          rw [if_pos z, Int.max_eq_left z] at nx
          refine ifF (by rw [e0]; omega) ?_
          rw [iI_ad1]
          exact nx
        · have nx := nx (by show 0 ≤ max b.2 _ ∧ max b.2 _ ≤ 10; omega)
          rw [if_neg z, Int.max_eq_right (by omega)] at nx
          refine ifT (by rw [e0]; omega) ?_
          rw [iI_ad1]
          exact nx
      obtain ⟨lv, lt', ld, bt, ct, mt, ts, h1, h3, h7, h8⟩ := h.toks
      refine s_X7_oldest_20 _ _ _ _ _ _ (dq_len hr (ifF (by rw [iI_len (by omega) (by omega)]; omega) ?_))
      have hjl := (List.getElem?_eq_some_iff.mp hs).1
      obtain ⟨t, t1, t2⟩ := dc_map (l := ts) (i := row[p]) (by omega)
      obtain ⟨c, hc⟩ := h8 _ _ t1
      exact ⟨a, _, _, rfl, h1, rfl, dq_aldi hr hj b1 ⟨lt', _, rfl, h3.1, cl_get_ok (by omega) h3 t2 ⟨Or.inr ⟨t, 7, _, rfl, hc, c_canT⟩, lt t c hc⟩⟩⟩
  exact key row.length 0 (by omega) ⟨(by decide : (0 : Int) ≤ 0), (by decide : (0 : Int) ≤ 10)⟩
end
