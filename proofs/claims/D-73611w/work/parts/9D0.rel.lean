set_option maxRecDepth 100000
/-! the plain law: the component's documents and the twin's told array say the same -/
/-- A: the twin's told array; Ds: the component's documents; g: a document's token's number among all tokens -/
def rl (A : Nat → Int) (Ds : List dc) (g : Nat → Nat → Nat) : Prop :=
  A 0 = Ds.length ∧
  (∀ (i : Nat) (D : dc), Ds[i]? = some D →
    (a_many A i = D.1.length ∧ ∀ (v : Nat) (row : List Nat), D.1[v]? = some row → a_row A i v = row.map (fun j => ((g i j : Nat) : Int))) ∧
    (∀ (j : Nat) (s : List Int), D.2.1[j]? = some s → a_word A (g i j) = s_code s ∧ a_whose A (g i j) = i ∧ ((g i j : Nat) : Int) < A 5) ∧
    ∀ j k : Nat, j < k → k < D.2.1.length → g i j < g i k) ∧
  ∀ t : Nat, (t : Int) < A 5 → ∃ (i : Nat) (D : dc) (j : Nat), Ds[i]? = some D ∧ j < D.2.1.length ∧ t = g i j
/-- .. of the dates, too -/
def rl_dt (A : Nat → Int) (Ds : List dc) : Prop := ∀ (i : Nat) (D : dc) (v : Nat) (x : Int), Ds[i]? = some D → D.2.2[v]? = some x → A (6 + (10 * i + v)) = x
/-- words are of small letters -/
def da_let (Ds : List dc) : Prop := ∀ D ∈ Ds, ∀ s ∈ D.2.1, ∀ c ∈ s, 97 ≤ c ∧ c ≤ 122
def da_o0 (Ds : List dc) : Prop := Ds.length ≤ 4 ∧ ∀ D ∈ Ds, dc_ok D ∧ 1 ≤ D.1.length ∧ D.1.length ≤ 10
def rl_ok (A : Nat → Int) (Ds : List dc) (g : Nat → Nat → Nat) : Prop := rl A Ds g ∧ g_val A ∧ da_o0 Ds ∧ da_w Ds ∧ da_let Ds
theorem s_cmp_0 : ∀ s t : List Int, s_cmp s t = 0 → s = t
  | [], [], _ => rfl
  | [], y :: t, h => by
    have h : ((([] : List Int).length : Int) - (y :: t).length) = 0 := h
    simp only [List.length_nil, List.length_cons] at h
    omega
  | x :: s, [], h => by
    have h : (((x :: s).length : Nat) : Int) = 0 := by rw [← s_cmp_nil]; exact h
    simp only [List.length_cons] at h
    omega
  | x :: s, y :: t, h => by
    have h : (if x = y then s_cmp s t else x - y) = 0 := h
    split at h
    · rename_i e
      rw [e, s_cmp_0 s t h]
    · omega
theorem s_wide_inj {s t : List Int} (hs : ∀ c ∈ s, 97 ≤ c ∧ c ≤ 122) (ht : ∀ c ∈ t, 97 ≤ c ∧ c ≤ 122) (h1 : 1 ≤ s.length ∧ s.length ≤ 4) (h3 : 1 ≤ t.length ∧ t.length ≤ 4) (h : s_wide 4 (s_code s) = s_wide 4 (s_code t)) : s = t := by
  obtain ⟨-, e1, e2⟩ := s_cmp_wide hs ht h1.1 h1.2 h3.1 h3.2
  refine s_cmp_0 s t ?_
  have := e1.mp
  have := e2.mp
  omega
theorem s_code_inj {s t : List Int} (hs : ∀ c ∈ s, 97 ≤ c ∧ c ≤ 122) (ht : ∀ c ∈ t, 97 ≤ c ∧ c ≤ 122) (h1 : 1 ≤ s.length ∧ s.length ≤ 4) (h3 : 1 ≤ t.length ∧ t.length ≤ 4) (h : s_code s = s_code t) : s = t := s_wide_inj hs ht h1 h3 (by rw [h])
section
variable {A : Nat → Int} {Ds : List dc} {g : Nat → Nat → Nat} {i v p j : Nat} {D : dc} {row : List Nat} {s : List Int}
theorem rl_ok.dat (h : rl_ok A Ds g) (hi : Ds[i]? = some D) : (0 ≤ (i : Int) ∧ (i : Int) < 4) ∧ i < Ds.length ∧ A 0 = Ds.length ∧ Ds.length ≤ 4 ∧ a_many A i = D.1.length ∧ 1 ≤ D.1.length ∧ D.1.length ≤ 10 ∧ da_D Ds i = D ∧ dc_ok D := by
  obtain ⟨⟨h1, h2, h3⟩, h4, h5, h6, h7⟩ := h
  have hl := (List.getElem?_eq_some_iff.mp hi).1
  obtain ⟨a4, a5, a6⟩ := h5.2 D (List.mem_of_getElem? hi)
  have a2 := h5.1
  exact ⟨⟨by omega, by omega⟩, hl, h1, a2, (h2 i D hi).1.1, a5, a6, dc_getD hi, a4⟩
theorem rl_ok.rw1 (h : rl_ok A Ds g) (hi : Ds[i]? = some D) (hv : D.1[v]? = some row) : a_long A i v = row.length ∧ row.length ≤ 20 ∧ (v : Int) < a_many A i ∧ dc_row D v = row ∧ dc_len D v = row.length ∧ (∀ j ∈ row, j < D.2.1.length) ∧ row.Nodup := by
  obtain ⟨⟨g1, g2⟩, g3, g4, g5, g6, g7, g8, g9, g10⟩ := h.dat hi
  obtain ⟨⟨h1, h2, h3⟩, h4, h5, h6, h7⟩ := h
  have hvl := (List.getElem?_eq_some_iff.mp hv).1
  have e := (h2 i D hi).1.2 v row hv
  have hl := congrArg List.length e
  rw [a_row_len, List.length_map] at hl
  have b1 := h4.ok
  have hr : dc_row D v = row := dc_getD hv
  have hmem := List.mem_of_getElem? hv
  have hll := (h6 D (List.mem_of_getElem? hi)).1 row hmem
  have hnn : 0 ≤ a_long A i v := by
    have := b1.2.2.2.1 i v (by omega) (by omega) (by omega) (by omega)
    omega
  have hnd : (a_row A i v).Nodup := (h4.2.2.1 i v g1 g2 (by omega) (by omega)).2
  refine ⟨by omega, hll, by omega, hr, by unfold dc_len; rw [hr], g10.1 row hmem, ?_⟩
  rw [e] at hnd
  exact (List.pairwise_map.mp hnd).imp (fun hne e => hne (by rw [e]))
theorem rl_ok.tok (h : rl_ok A Ds g) (hi : Ds[i]? = some D) (hj : D.2.1[j]? = some s) : a_word A (g i j) = s_code s ∧ a_whose A (g i j) = i ∧ ((g i j : Nat) : Int) < A 5 ∧ (∀ c ∈ s, 97 ≤ c ∧ c ≤ 122) ∧ 1 ≤ s.length ∧ s.length ≤ 4 := by
  obtain ⟨⟨h1, h2, h3⟩, h4, h5, h6, h7⟩ := h
  obtain ⟨e1, e2, e3⟩ := (h2 i D hi).2.1 j s hj
  have hm := List.mem_of_getElem? hi
  have hs := List.mem_of_getElem? hj
  exact ⟨e1, e2, e3, h7 D hm s hs, (h6 D hm).2 s hs⟩
theorem rl_ok.inj (h : rl_ok A Ds g) (hi : Ds[i]? = some D) {k : Nat} (hj : j < D.2.1.length) (hk : k < D.2.1.length) (e : g i j = g i k) : j = k := by
  have h2 := (h.1.2.1 i D hi).2.2
  rcases Nat.lt_trichotomy j k with q | q | q
  · have := h2 j k q hk; omega
  · exact q
  · have := h2 k j q hj; omega
theorem rl_ok.tokAt (h : rl_ok A Ds g) (hi : Ds[i]? = some D) (hv : D.1[v]? = some row) (hp : row[p]? = some j) : a_tok A i v p = g i j ∧ j < D.2.1.length ∧ (p : Int) < a_long A i v := by
  obtain ⟨r1, r2, r3, r4, r5, r6, r7⟩ := h.rw1 hi hv
  have e := (h.1.2.1 i D hi).1.2 v row hv
  have hpl := (List.getElem?_eq_some_iff.mp hp).1
  have e1 : (a_row A i v)[p]? = some (a_tok A i v p) := a_row_at (by omega)
  rw [e, List.getElem?_map, hp] at e1
  exact ⟨(Option.some.inj e1).symm, r6 j (List.mem_of_getElem? hp), by omega⟩
theorem rl_ok.wordAt (h : rl_ok A Ds g) (hi : Ds[i]? = some D) (hv : D.1[v]? = some row) (hp : p < row.length) : a_wordAt A i v p = s_code (dc_w D v p) ∧ (∀ c ∈ dc_w D v p, 97 ≤ c ∧ c ≤ 122) ∧ 1 ≤ (dc_w D v p).length ∧ (dc_w D v p).length ≤ 4 := by
  obtain ⟨j, hj⟩ := dc_get hp
  obtain ⟨e1, e2, e3⟩ := h.tokAt hi hv hj
  obtain ⟨s, hs⟩ := dc_get e2
  obtain ⟨f1, f2, f3, f4, f5, f6⟩ := h.tok hi hs
  rw [dc_w_eq hv hj hs]
  refine ⟨?_, f4, f5, f6⟩
  unfold a_wordAt
  rw [e1, f1]
theorem upto_find {c : Nat → Prop} [∀ k, Decidable (c k)] (n : Nat) {p : Nat} (hp : p < n) (hc : c p) (hu : ∀ k, k < n → c k → k = p) : upto n (fun k (r : Int) => if c k then (k : Int) else r) (-1) = p := by
  have lo := upto_last n (-1) hp hc
  have hi : upto n (fun k (r : Int) => if c k then (k : Int) else r) (-1) ≤ p := by
    refine upto_ind (Q := fun a => a ≤ (p : Int)) (by omega) n (fun k a hk ha => ?_)
    split
    · rename_i q
      rw [hu k hk q]; exact Int.le_refl _
    · exact ha
  omega
theorem upto_nofind {c : Nat → Prop} [∀ k, Decidable (c k)] (n : Nat) (hu : ∀ k, k < n → ¬ c k) : upto n (fun k (r : Int) => if c k then (k : Int) else r) (-1) = -1 := by
  refine upto_ind (Q := fun a => a = (-1 : Int)) rfl n (fun k a hk ha => ?_)
  rw [if_neg (hu k hk)]
  exact ha
theorem dc_place_at {row : List Nat} {p j : Nat} (hn : row.Nodup) (hp : row[p]? = some j) : dc_place row j = p := by
  have hm := dc_pl_mem j row 0 (List.mem_of_getElem? hp)
  have hr := dc_place_r row j
  have hm' : dc_place row j ≠ -1 := hm
  rcases hr with e | ⟨e1, e2, e3⟩
  · exact absurd e hm'
  · obtain ⟨a1, a2⟩ := List.getElem?_eq_some_iff.mp e3
    obtain ⟨b1, b2⟩ := List.getElem?_eq_some_iff.mp hp
    have := (List.getElem_inj hn).mp (a2.trans b2.symm)
    omega
theorem dc_place_no {row : List Nat} {j : Nat} (h : j ∉ row) : dc_place row j = -1 := by
  rcases dc_place_r row j with e | ⟨e1, e2, e3⟩
  · exact e
  · exact absurd (List.mem_of_getElem? e3) h
theorem rl_ok.place (h : rl_ok A Ds g) (hi : Ds[i]? = some D) (hv : D.1[v]? = some row) (hj : j < D.2.1.length) : a_place A i v (g i j) = dc_place row j := by
  obtain ⟨r1, r2, r3, r4, r5, r6, r7⟩ := h.rw1 hi hv
  have hL : (a_long A i v).toNat = row.length := by omega
  unfold a_place
  rw [hL]
  by_cases hm : j ∈ row
  · obtain ⟨p, hp⟩ := List.getElem?_of_mem hm
    rw [dc_place_at r7 hp]
    have hpl := (List.getElem?_eq_some_iff.mp hp).1
    refine upto_find (c := fun p => a_tok A i v p = g i j) row.length hpl (h.tokAt hi hv hp).1 (fun k hk hc => ?_)
    obtain ⟨j', hj'⟩ := dc_get hk
    obtain ⟨e1, e2, e3⟩ := h.tokAt hi hv hj'
    have e4 : j' = j := h.inj hi e2 hj (by have : ((g i j' : Nat) : Int) = (g i j : Nat) := e1.symm.trans hc; omega)
    subst e4
    obtain ⟨a1, a2⟩ := List.getElem?_eq_some_iff.mp hj'
    obtain ⟨b1, b2⟩ := List.getElem?_eq_some_iff.mp hp
    exact (List.getElem_inj r7).mp (a2.trans b2.symm)
  · rw [dc_place_no hm]
    refine upto_nofind (c := fun p => a_tok A i v p = g i j) row.length (fun k hk hc => ?_)
    obtain ⟨j', hj'⟩ := dc_get hk
    obtain ⟨e1, e2, e3⟩ := h.tokAt hi hv hj'
    have e4 : j' = j := h.inj hi e2 hj (by have : ((g i j' : Nat) : Int) = (g i j : Nat) := e1.symm.trans hc; omega)
    subst e4
    exact hm (List.mem_of_getElem? hj')
theorem s_or_0 {x : Int} (h : rI x) : s_or x 0 = x := by
  unfold s_or
  rw [show iI 0 = 0 from rfl, Int32.or_zero]
  exact iI_toInt h
theorem rl_ok.whereAt (h : rl_ok A Ds g) (hi : Ds[i]? = some D) (hj : j < D.2.1.length) : a_where A (g i j) = dc_set D.1 j := by
  obtain ⟨⟨g1, g2⟩, g3, g4, g5, g6, g7, g8, g9, g10⟩ := h.dat hi
  obtain ⟨s, hs⟩ := dc_get hj
  obtain ⟨f1, f2, f3, f4, f5, f6⟩ := h.tok hi hs
  unfold a_where dc_set
  rw [f2, g6]
  show upto ((D.1.length : Nat) : Int).toNat _ _ = _
  rw [Int.toNat_natCast]
  have key : ∀ n, n ≤ D.1.length → upto n (fun v s => if a_place A (i : Int) v (g i j) = -1 then s_or s 0 else s_or s (s_bit v)) 0 = upto n (fun v s => if j ∈ D.1.getD v [] then s_or s (s_bit v) else s) 0 := by
    intro n
    induction n with
    | zero => intro _; rfl
    | succ n ih =>
      intro hn
      rw [upto_s, upto_s, ih (by omega)]
      obtain ⟨row, hr⟩ := dc_get (l := D.1) (i := n) (by omega)
      have hg : D.1.getD n [] = row := dc_getD hr
      rw [hg, h.place hi hr hj]
      by_cases hm : j ∈ row
      · rw [if_neg (show ¬ dc_place row j = -1 from dc_pl_mem j row 0 hm), if_pos hm]
      · rw [if_pos (dc_place_no hm), if_neg hm]
        exact s_or_0 (dc_set_s D.1 j 0 n)
  exact key _ (Nat.le_refl _)
end
