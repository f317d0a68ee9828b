set_option maxRecDepth 100000
/-! the plain law: a further version, a further document -/
/-- a document, a version further -/
def ed_D (D : dc) (f : List Nat) (ss : List (List Int)) (x : Int) : dc := (D.1 ++ [f], D.2.1 ++ ss, D.2.2 ++ [x])
/-- new tokens of the document i get the next numbers -/
def gx (A : Nat → Int) (n : Nat) (g : Nat → Nat → Nat) (i : Nat) : Nat → Nat → Nat := fun y j => if y = i ∧ n ≤ j then (A 5).toNat + (j - n) else g y j
theorem gx_old {A : Nat → Int} {n : Nat} {g : Nat → Nat → Nat} {i y j : Nat} (h : y ≠ i ∨ j < n) : gx A n g i y j = g y j := by
  unfold gx
  rw [if_neg (by omega)]
theorem gx_new {A : Nat → Int} {n : Nat} {g : Nat → Nat → Nat} {i k : Nat} : gx A n g i i (n + k) = (A 5).toNat + k := by
  unfold gx
  rw [if_pos ⟨rfl, by omega⟩, Nat.add_sub_cancel_left]
section
variable {A C : Nat → Int} {Ds : List dc} {g : Nat → Nat → Nat} {i v p j t k : Nat} {D : dc} {f : List Nat} {ss : List (List Int)} {x date : Int}
theorem rl.bld (h : rl A Ds g) (hA : g_ok A) (hl4 : Ds.length ≤ 4) (hi : Ds[i]? = some D) (h9 : D.1.length ≤ 9) (hD : ∀ row ∈ D.1, ∀ j ∈ row, j < D.2.1.length) (hDs : ∀ (y : Nat) (D' : dc), Ds[y]? = some D' → ∀ row ∈ D'.1, ∀ j ∈ row, j < D'.2.1.length)
    (hb : g_bld A i date (ss.map s_code) (f.map (fun j => ((gx A D.2.1.length g i i j : Nat) : Int))) ss.length C) (hn : A 5 + ss.length ≤ 319) (h0 : C 0 = A 0) : rl C (Ds.set i (ed_D D f ss x)) (gx A D.2.1.length g i) := by
  obtain ⟨h1, h2, h3⟩ := h
  have hil := (List.getElem?_eq_some_iff.mp hi).1
  have hA5 := hA.1
  have hmi : a_many A i = D.1.length := (h2 i D hi).1.1
  have hm : 0 ≤ a_many A i ∧ a_many A i ≤ 9 := by omega
  have hd : 0 ≤ (i : Int) ∧ (i : Int) < 4 := by omega
  refine ⟨by rw [h0, h1, List.length_set], fun y D' hy => ?_, fun t ht => ?_⟩
  · have hyl := (List.getElem?_eq_some_iff.mp hy).1
    rw [List.length_set] at hyl
    have hd' : 0 ≤ (y : Int) ∧ (y : Int) < 4 := by omega
    by_cases e : y = i
    · subst e
      rw [List.getElem?_set_self hyl] at hy
      cases hy
      obtain ⟨⟨m1, m2⟩, m3, m4⟩ := h2 y D hi
      refine ⟨⟨?_, fun v row hv => ?_⟩, fun j s hj => ?_, fun j k hjk hk => ?_⟩
      · rw [hb.2.1, hmi]
        show _ = ((D.1 ++ [f]).length : Int)
        rw [List.length_append]
        rfl
      · have hv : (D.1 ++ [f])[v]? = some row := hv
        by_cases q : v < D.1.length
        · rw [List.getElem?_append_left q] at hv
          rw [(hb.rowOld hA hm.2 hd hd' ⟨by omega, by omega⟩).2, m2 v row hv]
          refine List.map_congr_left (fun j hj => ?_)
          rw [gx_old (Or.inr (hD row (List.mem_of_getElem? hv) j hj))]
        · have hvl := (List.getElem?_eq_some_iff.mp hv).1
          rw [List.length_append] at hvl
          have hvl : v < D.1.length + 1 := hvl
          have ev : v = D.1.length := by omega
          subst ev
          rw [List.getElem?_append_right (Nat.le_refl _), Nat.sub_self] at hv
          cases hv
          have := hb.rowNew.2
          rw [hmi] at this
          exact this
      · have hj : (D.2.1 ++ ss)[j]? = some s := hj
        rw [hb.1]
        by_cases q : j < D.2.1.length
        · rw [List.getElem?_append_left q] at hj
          obtain ⟨t1, t2, t3⟩ := m3 j s hj
          rw [gx_old (Or.inr q)]
          obtain ⟨u1, u2⟩ := hb.tok hA5.1 hm hd (t := (g y j : Nat)) ⟨by omega, t3⟩ (by omega)
          exact ⟨u1.trans t1, u2.trans t2, by omega⟩
        · rw [List.getElem?_append_right (by omega)] at hj
          have hjl := (List.getElem?_eq_some_iff.mp hj).1
          obtain ⟨b1, b2⟩ := hb.2.2.2.2.2.1 (j - D.2.1.length) (s_code s) hjl (by rw [List.getElem?_map, hj]; rfl)
          have ej : j = D.2.1.length + (j - D.2.1.length) := by omega
          have eg : gx A D.2.1.length g y y j = (A 5).toNat + (j - D.2.1.length) := by
            conv => lhs; rw [ej]
            exact gx_new
          rw [eg]
          have ec : (((A 5).toNat + (j - D.2.1.length) : Nat) : Int) = A 5 + ((j - D.2.1.length : Nat) : Int) := by omega
          rw [ec]
          unfold a_word a_whose
          rw [← Int.add_assoc, ← Int.add_assoc]
          exact ⟨b1, b2, by omega⟩
      · have hk : k < (D.2.1 ++ ss).length := hk
        rw [List.length_append] at hk
        have lt : ∀ j, j < D.2.1.length → g y j < (A 5).toNat := fun j hj => by
          obtain ⟨s, hs⟩ := dc_get hj
          have := (m3 j s hs).2.2
          omega
        by_cases q : k < D.2.1.length
        · rw [gx_old (Or.inr (by omega)), gx_old (Or.inr q)]
          exact m4 j k hjk q
        · have ek : gx A D.2.1.length g y y k = (A 5).toNat + (k - D.2.1.length) := by
            conv => lhs; rw [show k = D.2.1.length + (k - D.2.1.length) by omega]
            exact gx_new
          by_cases q2 : j < D.2.1.length
          · rw [gx_old (Or.inr q2), ek]
            have := lt j q2
            omega
          · have ej : gx A D.2.1.length g y y j = (A 5).toNat + (j - D.2.1.length) := by
              conv => lhs; rw [show j = D.2.1.length + (j - D.2.1.length) by omega]
              exact gx_new
            rw [ej, ek]
            omega
    · rw [List.getElem?_set_ne (Ne.symm e)] at hy
      obtain ⟨⟨m1, m2⟩, m3, m4⟩ := h2 y D' hy
      have go : ∀ j, gx A D.2.1.length g i y j = g y j := fun j => gx_old (Or.inl e)
      have hmy := hA.2.1 y hd'.1 hd'.2
      refine ⟨⟨?_, fun v row hv => ?_⟩, fun j s hj => ?_, fun j k hjk hk => ?_⟩
      · rw [hb.many hA5.1 hm hd hd', if_neg (by omega), m1]
      · have hvl := (List.getElem?_eq_some_iff.mp hv).1
        rw [(hb.rowOld hA hm.2 hd hd' ⟨by omega, by omega⟩).2, m2 v row hv]
        exact List.map_congr_left (fun j _ => by rw [go])
      · obtain ⟨t1, t2, t3⟩ := m3 j s hj
        rw [go, hb.1]
        obtain ⟨u1, u2⟩ := hb.tok hA5.1 hm hd (t := (g y j : Nat)) ⟨by omega, t3⟩ (by omega)
        exact ⟨u1.trans t1, u2.trans t2, by omega⟩
      · rw [go, go]
        exact m4 j k hjk hk
  · rw [hb.1] at ht
    by_cases q : (t : Int) < A 5
    · obtain ⟨y, D', j, hy, hj, rfl⟩ := h3 t q
      by_cases e : y = i
      · subst e
        rw [hi] at hy
        cases hy
        exact ⟨y, _, j, List.getElem?_set_self hil, by show j < (D.2.1 ++ ss).length; rw [List.length_append]; omega, (gx_old (Or.inr hj)).symm⟩
      · exact ⟨y, D', j, by rw [List.getElem?_set_ne (Ne.symm e)]; exact hy, hj, (gx_old (Or.inl e)).symm⟩
    · refine ⟨i, _, D.2.1.length + (t - (A 5).toNat), List.getElem?_set_self hil, ?_, ?_⟩
      · show _ < (D.2.1 ++ ss).length
        rw [List.length_append]
        omega
      · rw [gx_new]
        omega
theorem rl_dt.bld (hdt : rl_dt A Ds) (h : rl A Ds g) (hA : g_ok A) (hl4 : Ds.length ≤ 4) (hi : Ds[i]? = some D) (h9 : D.1.length ≤ 9) (hlen : ∀ (y : Nat) (D' : dc), Ds[y]? = some D' → D'.1.length = D'.2.2.length) {ws row : List Int} {n : Nat} (hb : g_bld A i date ws row n C) : rl_dt C (Ds.set i (ed_D D f ss date)) := by
  intro y D' v x hy hx
  have hil := (List.getElem?_eq_some_iff.mp hi).1
  have hyl := (List.getElem?_eq_some_iff.mp hy).1
  rw [List.length_set] at hyl
  have hmi : a_many A i = D.1.length := (h.2.1 i D hi).1.1
  have hun : ∀ q : Nat, g_un (A 5) i (10 * i + a_many A i) n q → C q = A q := hb.2.2.2.2.2.2
  have hA5 := hA.1
  have old : ∀ (z : Nat) (D0 : dc) (w : Nat) (x : Int), Ds[z]? = some D0 → D0.2.2[w]? = some x → (z ≠ i ∨ w < D.1.length) → z < Ds.length → C (6 + (10 * z + w)) = x := by
    intro z D0 w x hz hw hne hzl
    rw [hun _ ?_]
    · exact hdt z D0 w x hz hw
    · have hwl := (List.getElem?_eq_some_iff.mp hw).1
      have hz1 := (h.2.1 z D0 hz).1.1
      have hz2 := hA.2.1 z (by omega) (by omega)
      have hz3 := hlen z D0 hz
      unfold g_un
      rw [hmi]
      refine ⟨by omega, by omega, ?_, by omega, by omega, by omega, by omega⟩
      rcases hne with q | q
      · omega
      · by_cases e : z = i
        · subst e; omega
        · omega
  by_cases e : y = i
  · subst e
    rw [List.getElem?_set_self hyl] at hy
    cases hy
    have hx : (D.2.2 ++ [date])[v]? = some x := hx
    have hll := hlen y D hi
    by_cases q : v < D.2.2.length
    · rw [List.getElem?_append_left q] at hx
      exact old y D v x hi hx (Or.inr (by omega)) hyl
    · have hvl := (List.getElem?_eq_some_iff.mp hx).1
      rw [List.length_append] at hvl
      have hvl : v < D.2.2.length + 1 := hvl
      have ev : v = D.2.2.length := by omega
      subst ev
      rw [List.getElem?_append_right (Nat.le_refl _), Nat.sub_self] at hx
      cases hx
      have := hb.2.2.1
      rw [hmi] at this
      rw [← this]
      congr 1
      omega
  · rw [List.getElem?_set_ne (Ne.symm e)] at hy
    exact old y D' v x hy hx (Or.inl e) hyl
theorem da_ed (h : da_o0 Ds) (hw : da_w Ds) (hl : da_let Ds) (hi : Ds[i]? = some D) (hDok : dc_ok D) (h9 : D.1.length ≤ 9) (hf : f.length ≤ 20 ∧ ∀ j ∈ f, j < D.2.1.length + ss.length) (hn : D.2.1.length + ss.length ≤ 1000) (hss : ∀ s ∈ ss, (∀ c ∈ s, 97 ≤ c ∧ c ≤ 122) ∧ 1 ≤ s.length ∧ s.length ≤ 4) (hx : 0 ≤ x ∧ x ≤ 1000) : da_o0 (Ds.set i (ed_D D f ss x)) ∧ da_w (Ds.set i (ed_D D f ss x)) ∧ da_let (Ds.set i (ed_D D f ss x)) := by
  have hmem := List.mem_of_getElem? hi
  refine ⟨⟨by rw [List.length_set]; exact h.1, fun D' hD' => ?_⟩, fun D' hD' => ?_, fun D' hD' => ?_⟩
  · rcases List.mem_or_eq_of_mem_set hD' with q | rfl
    · exact h.2 D' q
    · obtain ⟨o1, o2, o3, o4, o5, o6⟩ := hDok
      refine ⟨⟨fun row hrow j hj => ?_, ?_, ?_, ?_, fun row hrow => ?_, fun y hy => ?_⟩, ?_, ?_⟩
      · show j < (D.2.1 ++ ss).length
        rw [List.length_append]
        rcases List.mem_append.mp hrow with z | z
        · have := o1 row z j hj
          omega
        · rw [List.mem_singleton] at z
          rw [z] at hj
          exact hf.2 j hj
      · show (D.1 ++ [f]).length = (D.2.2 ++ [x]).length
        rw [List.length_append, List.length_append, o2]
        rfl
      · show (D.1 ++ [f]).length ≤ 1000
        rw [List.length_append]
        show D.1.length + 1 ≤ 1000
        omega
      · show (D.2.1 ++ ss).length ≤ 1000
        rw [List.length_append]
        exact hn
      · rcases List.mem_append.mp hrow with z | z
        · exact o5 row z
        · rw [List.mem_singleton] at z
          rw [z]
          omega
      · rcases List.mem_append.mp hy with z | z
        · exact o6 y z
        · rw [List.mem_singleton] at z
          rw [z]
          exact hx
      · show 1 ≤ (D.1 ++ [f]).length
        rw [List.length_append]
        show 1 ≤ D.1.length + 1
        omega
      · show (D.1 ++ [f]).length ≤ 10
        rw [List.length_append]
        show D.1.length + 1 ≤ 10
        omega
  · rcases List.mem_or_eq_of_mem_set hD' with q | rfl
    · exact hw D' q
    · obtain ⟨w1, w2⟩ := hw D hmem
      refine ⟨fun row hrow => ?_, fun s hs => ?_⟩
      · rcases List.mem_append.mp hrow with z | z
        · exact w1 row z
        · rw [List.mem_singleton] at z
          rw [z]
          exact hf.1
      · rcases List.mem_append.mp hs with z | z
        · exact w2 s z
        · exact (hss s z).2
  · rcases List.mem_or_eq_of_mem_set hD' with q | rfl
    · exact hl D' q
    · intro s hs
      rcases List.mem_append.mp hs with z | z
      · exact hl D hmem s z
      · exact (hss s z).1
/-- the row that a change makes -/
def ch_row (c : Nat) (D : dc) (r1 r2 n : Nat) : List Nat := if c = 0 then r_puts (dc_row D (D.1.length - 1)) r1 D.2.1.length n else if c = 1 then r_cuts (dc_row D (D.1.length - 1)) r1 r2 else if c = 2 then r_moves (dc_row D (D.1.length - 1)) r1 r2 else dc_row D r1
theorem g_ids_map (n : Int) (hn : 0 ≤ n) : ∀ (f k : Nat), g_ids n k f = (List.range' k f).map (fun j => ((n.toNat + j : Nat) : Int)) := by
  intro f
  induction f with
  | zero => intro k; rfl
  | succ f ih =>
    intro k
    rw [List.range'_succ, List.map_cons, ← ih (k + 1)]
    show (n + k) :: g_ids n (k + 1) f = _
    congr 1
    omega
/-- what a change asks -/
def ch_can (c : Nat) (D : dc) (r1 r2 n : Nat) : Prop := (c = 0 → r1 ≤ dc_last D ∧ dc_last D + n ≤ 20) ∧ (c = 1 → r1 + r2 ≤ dc_last D) ∧ (c = 2 → r1 < dc_last D ∧ r2 < dc_last D) ∧ (c = 3 → r1 < D.1.length) ∧ (c ≠ 0 → n = 0) ∧ c ≤ 3
theorem rl_ok.there (h : rl_ok A Ds g) (hi : Ds[i]? = some D) {c r1 r2 : Nat} (hc : c ≤ 3) : g_there A c i r1 r2 = true ↔ (c = 0 → r1 ≤ dc_last D) ∧ (c = 1 → r1 + r2 ≤ dc_last D) ∧ (c = 2 → r1 < dc_last D ∧ r2 < dc_last D) ∧ (c = 3 → r1 < D.1.length) := by
  have hl := h.last hi
  have e : A (Int.toNat (46 + g_last A i)) = dc_last D := hl
  have hm := (h.dat hi).2.2.2.2.1
  unfold g_there
  rw [e, hm]
  have : c = 0 ∨ c = 1 ∨ c = 2 ∨ c = 3 := by omega
  rcases this with rfl | rfl | rfl | rfl
  · rw [if_pos (by rfl), Bool.not_eq_true', decide_eq_false_iff_not]
    omega
  · rw [if_neg (by decide), if_pos (by rfl), Bool.not_eq_true', decide_eq_false_iff_not]
    omega
  · rw [if_neg (by decide), if_neg (by decide), if_pos (by rfl)]
    split
    · rename_i q
      constructor
      · intro z; cases z
      · intro z; omega
    · rw [Bool.not_eq_true', decide_eq_false_iff_not]
      omega
  · rw [if_neg (by decide), if_neg (by decide), if_neg (by decide), Bool.not_eq_true', decide_eq_false_iff_not]
    omega
theorem r_moves_e {row : List Nat} {r1 r2 : Nat} : r_moves row r1 r2 = (row.eraseIdx r1).take r2 ++ row.getD r1 0 :: (row.eraseIdx r1).drop r2 := by
  unfold r_moves r_puts r_cuts
  rw [List.eraseIdx_eq_take_drop_succ]
  simp
theorem s_code_r {s : List Int} (hs : ∀ c ∈ s, 97 ≤ c ∧ c ≤ 122) (hl : 1 ≤ s.length ∧ s.length ≤ 4) : 1 ≤ s_code s ∧ s_code s < 531441 := by
  match s, hs, hl with
  | [a], hs, _ =>
    have ha := hs a (by simp)
    have e : s_code [a] = a - 96 := by show 27 * 0 + a - 97 + 1 = _; omega
    omega
  | [a, b], hs, _ =>
    have ha := hs a (by simp)
    have hb := hs b (by simp)
    have e : s_code [a, b] = 27 * (a - 96) + (b - 96) := by show 27 * (27 * 0 + a - 97 + 1) + b - 97 + 1 = _; omega
    omega
  | [a, b, c], hs, _ =>
    have ha := hs a (by simp)
    have hb := hs b (by simp)
    have hc := hs c (by simp)
    have e : s_code [a, b, c] = 27 * (27 * (a - 96) + (b - 96)) + (c - 96) := by show 27 * (27 * (27 * 0 + a - 97 + 1) + b - 97 + 1) + c - 97 + 1 = _; omega
    omega
  | [a, b, c, d], hs, _ =>
    have ha := hs a (by simp)
    have hb := hs b (by simp)
    have hc := hs c (by simp)
    have hd := hs d (by simp)
    have e : s_code [a, b, c, d] = 27 * (27 * (27 * (a - 96) + (b - 96)) + (c - 96)) + (d - 96) := by show 27 * (27 * (27 * (27 * 0 + a - 97 + 1) + b - 97 + 1) + c - 97 + 1) + d - 97 + 1 = _; omega
    omega
theorem rl_ok.made (h : rl_ok A Ds g) (hi : Ds[i]? = some D) (h9 : D.1.length ≤ 9) {c r1 r2 : Nat} (hc : ch_can c D r1 r2 ss.length) (hn : A 5 + ss.length ≤ 319) (hss : ∀ s ∈ ss, (∀ c ∈ s, 97 ≤ c ∧ c ≤ 122) ∧ 1 ≤ s.length ∧ s.length ≤ 4) (hx : 0 ≤ x ∧ x ≤ 1000) (hdate : rI date) :
    rl_ok (g_make A c i r1 r2 (ss.map s_code) date) (Ds.set i (ed_D D (ch_row c D r1 r2 ss.length) ss x)) (gx A D.2.1.length g i) ∧ (rl_dt A Ds → x = date → rl_dt (g_make A c i r1 r2 (ss.map s_code) date) (Ds.set i (ed_D D (ch_row c D r1 r2 ss.length) ss x))) ∧ g_make A c i r1 r2 (ss.map s_code) date 5 = A 5 + ss.length := by
  obtain ⟨⟨g1, g2⟩, g3, g4, g5, g6, g7, g8, g9, g10⟩ := h.dat hi
  obtain ⟨c0, c1, c2, c3, c4, c5⟩ := hc
  have hm : 1 ≤ a_many A i ∧ a_many A i ≤ 9 := by omega
  have ht : g_there A c i r1 r2 = true := (h.there hi c5).mpr ⟨fun z => (c0 z).1, c1, c2, c3⟩
  have hlast := h.last hi
  have hwl : (ss.map s_code).length = ss.length := List.length_map _
  have hws : ∀ w ∈ ss.map s_code, 1 ≤ w ∧ w < 531441 := by
    intro w hw
    obtain ⟨s, hs, rfl⟩ := List.mem_map.mp hw
    obtain ⟨k1, k2⟩ := hss s hs
    obtain ⟨q1, q2⟩ := s_code_r k1 k2
    exact ⟨q1, q2⟩
  obtain ⟨gv, gv5, gv0, gvm⟩ := g_make_val (date := date) h.2.1 (fun _ => by rw [hwl]; exact hn) (r0 := i) ⟨g1, by omega⟩ hm (c := c) (r1 := r1) (r2 := r2) ⟨by omega, by omega⟩ (by omega) (fun _ => by omega) ht (fun z => by rw [hwl, hlast]; have := c0 (by omega); omega) hws hdate
  obtain ⟨gf, gb⟩ := g_make_bld (date := date) h.2.1.1 (ws := ss.map s_code) (fun _ => by rw [hwl]; exact hn) (r0 := i) ⟨g1, g2⟩ hm (c := c) (r1 := r1) (r2 := r2) ⟨by omega, by omega⟩ (by omega) (fun _ => by omega) ht (fun z => by rw [hwl, hlast]; have := c0 (by omega); omega)
  have hk : (if (c : Int) = 0 then (ss.map s_code).length else 0) = ss.length := by
    rw [hwl]
    by_cases z : c = 0
    · rw [if_pos (by omega)]
    · rw [if_neg (by omega), c4 z]
  rw [hk] at gb gv5
  have n5 := h.n5
  -- the row, by local tokens
  have rowOf : ∀ v, v < D.1.length → a_row A i v = (dc_row D v).map (fun j => ((gx A D.2.1.length g i i j : Nat) : Int)) := by
    intro v hv
    have hr := h.r0 hi hv
    rw [(h.1.2.1 i D hi).1.2 v _ hr]
    exact List.map_congr_left (fun j hj => by rw [gx_old (Or.inr ((h.rw1 hi hr).2.2.2.2.2.1 j hj))])
  have hlst : D.1.length - 1 < D.1.length := by omega
  have hrow : ro_ch c (a_row A i (g_from A c i r1)) (g_ids (A 5) 0 (ss.map s_code).length) r1 r2 = (ch_row c D r1 r2 ss.length).map (fun j => ((gx A D.2.1.length g i i j : Nat) : Int)) := by
    have em : a_many A i - 1 = ((D.1.length - 1 : Nat) : Int) := by omega
    have ids : g_ids (A 5) 0 (ss.map s_code).length = ((List.range ss.length).map (fun k => D.2.1.length + k)).map (fun j => ((gx A D.2.1.length g i i j : Nat) : Int)) := by
      rw [g_ids_map _ n5.1, hwl, List.map_map, ← List.range_eq_range']
      refine List.map_congr_left (fun k _ => ?_)
      show (((A 5).toNat + k : Nat) : Int) = ((gx A D.2.1.length g i i (D.2.1.length + k) : Nat) : Int)
      rw [gx_new]
    unfold ro_ch ch_row
    have : c = 0 ∨ c = 1 ∨ c = 2 ∨ c = 3 := by omega
    rcases this with rfl | rfl | rfl | rfl
    · rw [if_pos (by rfl), if_pos rfl, ids]
      unfold g_from
      rw [if_neg (by decide), em, rowOf _ hlst]
      unfold ro_put r_puts
      rw [Int.toNat_natCast, List.map_append, List.map_append, List.map_take, List.map_drop]
    · rw [if_neg (by decide), if_pos (by rfl), if_neg (by decide), if_pos rfl]
      unfold g_from
      rw [if_neg (by decide), em, rowOf _ hlst]
      unfold ro_cut r_cuts
      rw [Int.toNat_natCast, Int.toNat_natCast, List.map_append, List.map_take, List.map_drop]
    · rw [if_neg (by decide), if_neg (by decide), if_pos (by rfl), if_neg (by decide), if_neg (by decide), if_pos rfl]
      unfold g_from
      rw [if_neg (by decide), em, rowOf _ hlst, Int.toNat_natCast, Int.toNat_natCast]
      obtain ⟨l1, l2⟩ := c2 rfl
      have l1' : r1 < (dc_row D (D.1.length - 1)).length := l1
      have l2' : r2 < (dc_row D (D.1.length - 1)).length := l2
      rw [ro_mv0 (by rw [List.length_map]; exact l1') (by rw [List.length_map]; exact l2'), r_moves_e, List.map_append, List.map_cons, List.map_take, List.map_drop, List.eraseIdx_eq_take_drop_succ, List.eraseIdx_eq_take_drop_succ, List.map_append, List.map_take, List.map_drop]
      congr 2
      obtain ⟨j, hj⟩ := dc_get l1'
      rw [dc_getD hj, dc_getD (x := ((gx A D.2.1.length g i i j : Nat) : Int)) (by rw [List.getElem?_map, hj]; rfl)]
    · rw [if_neg (by decide), if_neg (by decide), if_neg (by decide), if_neg (by decide), if_neg (by decide), if_neg (by decide)]
      unfold g_from
      rw [if_pos (by rfl)]
      exact rowOf r1 (c3 rfl)
  rw [hrow] at gb
  have hrl := h.rw1 hi (h.r0 hi hlst)
  have hll : (dc_row D (D.1.length - 1)).length ≤ 20 := hrl.2.1
  have hmem : ∀ v, v < D.1.length → (dc_row D v).length ≤ 20 ∧ ∀ j ∈ dc_row D v, j < D.2.1.length := fun v hv => by
    have := h.rw1 hi (h.r0 hi hv)
    exact ⟨this.2.1, this.2.2.2.2.2.1⟩
  have hf : (ch_row c D r1 r2 ss.length).length ≤ 20 ∧ ∀ j ∈ ch_row c D r1 r2 ss.length, j < D.2.1.length + ss.length := by
    unfold ch_row
    have hml := hmem _ hlst
    have : c = 0 ∨ c = 1 ∨ c = 2 ∨ c = 3 := by omega
    rcases this with rfl | rfl | rfl | rfl
    · rw [if_pos rfl]
      obtain ⟨l1, l2⟩ := c0 rfl
      unfold dc_last dc_len at l1 l2
      unfold r_puts
      refine ⟨by simp only [List.length_append, List.length_take, List.length_map, List.length_range, List.length_drop]; omega, fun j hj => ?_⟩
      rcases List.mem_append.mp hj with z | z
      · have := hml.2 j (List.mem_of_mem_take z); omega
      · rcases List.mem_append.mp z with z | z
        · obtain ⟨k, hk, rfl⟩ := List.mem_map.mp z
          have := List.mem_range.mp hk
          omega
        · have := hml.2 j (List.mem_of_mem_drop z); omega
    · rw [if_neg (by decide), if_pos rfl]
      unfold r_cuts
      refine ⟨by simp only [List.length_append, List.length_take, List.length_drop]; omega, fun j hj => ?_⟩
      rcases List.mem_append.mp hj with z | z
      · have := hml.2 j (List.mem_of_mem_take z); omega
      · have := hml.2 j (List.mem_of_mem_drop z); omega
    · rw [if_neg (by decide), if_neg (by decide), if_pos rfl, r_moves_e]
      obtain ⟨l1, l2⟩ := c2 rfl
      have l1' : r1 < (dc_row D (D.1.length - 1)).length := l1
      refine ⟨by simp only [List.length_append, List.length_take, List.length_cons, List.length_drop, List.length_eraseIdx]; split <;> omega, fun j hj => ?_⟩
      rcases List.mem_append.mp hj with z | z
      · have := hml.2 j (List.mem_of_mem_eraseIdx (List.mem_of_mem_take z)); omega
      · rcases List.mem_cons.mp z with rfl | z
        · obtain ⟨j, hj⟩ := dc_get l1'
          rw [dc_getD hj]
          have := hml.2 j (List.mem_of_getElem? hj); omega
        · have := hml.2 j (List.mem_of_mem_eraseIdx (List.mem_of_mem_drop z)); omega
    · rw [if_neg (by decide), if_neg (by decide), if_neg (by decide)]
      have := hmem r1 (c3 rfl)
      exact ⟨this.1, fun j hj => by have := this.2 j hj; omega⟩
  have htk : D.2.1.length + ss.length ≤ 1000 := by
    have : ∀ m, m ≤ D.2.1.length → (m : Int) ≤ A 5 := by
      intro m
      induction m with
      | zero => intro _; omega
      | succ m ih =>
        intro hm
        have key : ∀ j, j < D.2.1.length → (j : Int) ≤ (g i j : Nat) := by
          intro j
          induction j with
          | zero => intro _; omega
          | succ j jh =>
            intro hj
            have := (h.1.2.1 i D hi).2.2 j (j + 1) (by omega) hj
            have := jh (by omega)
            omega
        obtain ⟨s, hs⟩ := dc_get (l := D.2.1) (i := m) (by omega)
        have := (h.tok hi hs).2.2.1
        have := key m (by omega)
        omega
    have := this _ (Nat.le_refl _)
    omega
  obtain ⟨d1, d2, d3⟩ := da_ed (x := x) h.2.2.1 h.2.2.2.1 h.2.2.2.2 hi g10 h9 hf htk hss hx
  have hDs : ∀ (y : Nat) (D' : dc), Ds[y]? = some D' → ∀ row ∈ D'.1, ∀ j ∈ row, j < D'.2.1.length := fun y D' hy => (h.2.2.1.2 D' (List.mem_of_getElem? hy)).1.1
  have hlen : ∀ (y : Nat) (D' : dc), Ds[y]? = some D' → D'.1.length = D'.2.2.length := fun y D' hy => (h.2.2.1.2 D' (List.mem_of_getElem? hy)).1.2.1
  refine ⟨⟨h.1.bld h.2.1.1 g5 hi h9 (hDs i D hi) hDs gb hn gv0, gv, d1, d2, d3⟩, fun hdt e => ?_, gv5⟩
  subst e
  exact hdt.bld h.1 h.2.1.1 g5 hi h9 hlen gb
end
