set_option maxRecDepth 100000
/-! the component: version, life, dated, shared, common, answered as the twin does -/
theorem da_isVer.at {Ds : List dc} {a v : Int} (h : da_isVer Ds a v = true) : ∃ (i n : Nat) (D : dc) (row : List Nat), a = i ∧ v = n ∧ Ds[i]? = some D ∧ D.1[n]? = some row ∧ n < D.1.length := by
  unfold da_isVer at h
  rw [Bool.and_eq_true] at h
  obtain ⟨h1, h2⟩ := h
  have h1 := of_decide_eq_true h1
  have h2 := of_decide_eq_true h2
  obtain ⟨D, hD⟩ := dc_get (l := Ds) (i := a.toNat) (by omega)
  have e : da_D Ds a.toNat = D := dc_getD hD
  rw [e] at h2
  obtain ⟨row, hr⟩ := dc_get (l := D.1) (i := v.toNat) (by omega)
  exact ⟨a.toNat, v.toNat, D, row, by omega, by omega, hD, hr, by omega⟩
theorem s_isV.at {V : sS} {i a v : Int} (h : s_isV V i a v = true) : s_isA V i = true ∧ da_isVer (s_A V i).2.1 a v = true := by
  unfold s_isV at h
  rw [Bool.and_eq_true] at h
  exact h
section
variable {E : pw_E} {d : Nat} {w : pw_W} {z : pw_H} {f s ka : Nat} {x : sX} {V : sS} {A : Nat → Int}
/-- of a version: what the twin asks first -/
theorem s_rl.ver {i a v : Int} {X Y : Int} (hR : s_isA V i = true → s_rl A (s_A V i)) : (if s_isA V i = true then (if a_isVer A a v = true then X else Y) else Y) = if s_isV V i a v = true then X else Y := by
  unfold s_isV
  cases c : s_isA V i with
  | false => rw [if_neg (by decide), if_neg (by rw [Bool.false_and]; decide)]
  | true =>
    obtain ⟨g, hr, -⟩ := hR c
    rw [if_pos rfl, Bool.true_and, hr.isVer2]
theorem fx_version_ok {i a v q : Int} {K : Int32 → pw_W → Prop} (hd : 100 ≤ d) (hw : wf E w) (h : s_fc E z w.1 f s ka x V) (hi : rI i) (ha : rI a) (hv : rI v) (hq : rI q) (hR : s_isA V i = true → s_rl A (s_A V i)) (H : (fun y => ∀ w', cx E w w' c_no 28010 → K (iI y) w') (if s_isA V i = true then a_version A a v q else -1)) : pw_Cl E m_X0_version d [va_rf (some f), .int (iI i), .int (iI a), .int (iI v), .int (iI q)] w (c_i K) := by
  replace hd := pw_d1 hd; obtain ⟨e, rfl, hd⟩ := hd
  have r0 : cx E w w c_no 28010 := cx.refl hw
  unfold a_version at H
  rw [s_rl.ver hR] at H
  refine e_X0_version _ _ _ _ _ (s_X0_version_0 _ _ _ _ _ (q_isVersion (by omega) h hi ha hv ?_))
  cases c : s_isV V i a v with
  | false =>
    rw [if_neg (by rw [c]; decide)] at H
    exact ifT (by rw [bI_0]) ⟨_, rfl, H w r0⟩
  | true =>
    rw [if_pos c] at H
    obtain ⟨c1, c2⟩ := s_isV.at c
    obtain ⟨g, hr, hdt, -⟩ := hR c1
    obtain ⟨-, hA, hok, -, -⟩ := h.A c1
    obtain ⟨j, n, D, row, rfl, rfl, hj, hn, hl⟩ := da_isVer.at c2
    obtain ⟨g1, g2, g3, g4, g5, g6, g7⟩ := hok.at hj
    obtain ⟨b1, b2, b3, b4, b5⟩ := g4.row hn
    obtain ⟨x1, x2, x3, x4, x5, x6, x7⟩ := hr.rw1 hj hn
    refine ifF (by rw [bI_0]; decide) (q_archiveOf (by omega) h c1 (qa_of (by omega) hA hj (fun b hb => dq_row (by omega) hb hn (fun r hr9 => dq_len hr9 ?_))))
    obtain ⟨ud, hud⟩ := hb.obj
    have eq := fun k (hk : rI k) => iI_eq (a := q) (b := k) hq hk
    have e0 := eq 0 (rI_small (by omega) (by omega)); have e1 := eq 1 (rI_small (by omega) (by omega)); have e2 := eq 2 (rI_small (by omega) (by omega)); have e3 := eq 3 (rI_small (by omega) (by omega)); have e4 := eq 4 (rI_small (by omega) (by omega)); have e5 := eq 5 (rI_small (by omega) (by omega))
    by_cases z0 : q = 0
    · rw [if_pos (by omega), if_pos z0, x1] at H
      exact ifT (by rw [show (0 : Int32) = iI 0 from rfl, e0]; exact z0) ⟨_, rfl, H w r0⟩
    refine ifF (by rw [show (0 : Int32) = iI 0 from rfl, e0]; exact z0) ?_
    by_cases z1 : q = 1
    · rw [if_pos (by omega), if_neg z0, if_pos z1] at H
      obtain ⟨y, hy⟩ := dc_get (l := D.2.2) (i := n) (by have := g4.2.1; omega)
      rw [show Int.toNat (6 + (10 * (j : Int) + (n : Int))) = 6 + (10 * j + n) by omega, hdt j D n y hj hy] at H
      exact ifT (by rw [show (1 : Int32) = iI 1 from rfl, e1]; exact z1) (dq_date (by omega) hb hy ⟨_, rfl, H w r0⟩)
    refine ifF (by rw [show (1 : Int32) = iI 1 from rfl, e1]; exact z1) ?_
    by_cases z2 : q = 2
    · rw [if_pos (by omega), if_neg z0, if_neg z1, if_pos z2, hr.fresh hj hl] at H
      exact ifT (by rw [show (2 : Int32) = iI 2 from rfl, e2]; exact z2) ⟨b, ud, rfl, hud, cd_fresh_ok (by omega) hb g4 hn ⟨_, rfl, H w r0⟩⟩
    refine ifF (by rw [show (2 : Int32) = iI 2 from rfl, e2]; exact z2) ?_
    by_cases z3 : q = 3
    · rw [if_pos (by omega), if_neg z0, if_neg z1, if_neg z2, if_pos z3, hr.lost hj hl] at H
      exact ifT (by rw [show (3 : Int32) = iI 3 from rfl, e3]; exact z3) ⟨b, ud, rfl, hud, cd_lost_ok (by omega) hw hb g4 hn (fun w' c' => ⟨_, rfl, H w' (c'.le (by omega))⟩)⟩
    refine ifF (by rw [show (3 : Int32) = iI 3 from rfl, e3]; exact z3) ?_
    by_cases z4 : q = 4
    · rw [if_pos (by omega), if_neg z0, if_neg z1, if_neg z2, if_neg z3, if_pos z4, hr.turned hj hl] at H
      exact ifT (by rw [show (4 : Int32) = iI 4 from rfl, e4]; exact z4) ⟨b, ud, rfl, hud, cd_turned_ok (by omega) hb g4 hn ⟨_, rfl, H w r0⟩⟩
    refine ifF (by rw [show (4 : Int32) = iI 4 from rfl, e4]; exact z4) ?_
    by_cases z5 : q = 5
    · rw [if_pos (by omega), if_neg z0, if_neg z1, if_neg z2, if_neg z3, if_neg z4, if_pos z5, hr.oldest hj hl] at H
      exact ifT (by rw [show (5 : Int32) = iI 5 from rfl, e5]; exact z5) ⟨b, ud, rfl, hud, cd_oldest_ok (by omega) hb g4 g6 hn ⟨_, rfl, H w r0⟩⟩
    refine ifF (by rw [show (5 : Int32) = iI 5 from rfl, e5]; exact z5) ?_
    have ee : (9 : Int32) + iI (row.length : Nat) = iI (9 + (row.length : Nat)) := iI_add 9 _
    rw [ee]
    refine c_isIn_ok (a := 10) (by omega) hq (rI_small (by omega) (by omega)) (rI_small (by omega) (by omega)) ?_
    by_cases m : 10 ≤ q ∧ q ≤ 9 + (row.length : Nat)
    · rw [decide_eq_true m]
      rw [if_neg (by omega), if_neg (by rw [x1]; omega)] at H
      have eq9 : q - 10 = ((q - 10).toNat : Nat) := by omega
      have ew : iI q - 10 = iI ((q - 10).toNat : Nat) := by rw [← eq9]; exact iI_sub q 10
      rw [ew]
      rw [eq9] at H
      generalize (q - 10).toNat = p at eq9 H ⊢
      rw [(hr.wordAt hj hn (by omega)).1] at H
      exact ifF (by rw [bI_0]; decide) (dq_word (by omega) hb g4 hn (by omega) (fun t ht => cs_code_ok (by omega) hw ht ⟨_, rfl, H w r0⟩))
    · rw [decide_eq_false m]
      refine ifT (by rw [bI_0]) ⟨_, rfl, ?_⟩
      by_cases t : q < 10
      · rw [if_pos t, if_neg z0, if_neg z1, if_neg z2, if_neg z3, if_neg z4, if_neg z5] at H
        exact H w r0
      · rw [if_neg t, if_pos (by rw [x1]; omega)] at H
        exact H w r0
theorem fx_life_ok {i a v p q : Int} {K : Int32 → pw_W → Prop} (hd : 100 ≤ d) (hw : wf E w) (h : s_fc E z w.1 f s ka x V) (hi : rI i) (ha : rI a) (hv : rI v) (hp : rI p) (hq : rI q) (hR : s_isA V i = true → s_rl A (s_A V i)) (H : (fun y => ∀ w', cx E w w' c_no 28010 → K (iI y) w') (if s_isA V i = true then a_life A a v p q else -1)) : pw_Cl E m_X0_life d [va_rf (some f), .int (iI i), .int (iI a), .int (iI v), .int (iI p), .int (iI q)] w (c_i K) := by
  replace hd := pw_d1 hd; obtain ⟨e, rfl, hd⟩ := hd
  have r0 : cx E w w c_no 28010 := cx.refl hw
  unfold a_life at H
  rw [s_rl.ver hR] at H
  refine e_X0_life _ _ _ _ _ _ (s_X0_life_0 _ _ _ _ _ _ (q_isVersion (by omega) h hi ha hv ?_))
  cases c : s_isV V i a v with
  | false =>
    rw [if_neg (by rw [c]; decide)] at H
    exact ifT (by rw [bI_0]) ⟨_, rfl, H w r0⟩
  | true =>
    rw [if_pos c] at H
    obtain ⟨c1, c2⟩ := s_isV.at c
    obtain ⟨g, hr, hdt, -⟩ := hR c1
    obtain ⟨-, hA, hok, -, -⟩ := h.A c1
    obtain ⟨j, n, D, row, rfl, rfl, hj, hn, hl⟩ := da_isVer.at c2
    obtain ⟨g1, g2, g3, g4, g5, g6, g7⟩ := hok.at hj
    obtain ⟨b1, b2, b3, b4, b5⟩ := g4.row hn
    obtain ⟨x1, x2, x3, x4, x5, x6, x7⟩ := hr.rw1 hj hn
    rw [x1] at H
    refine ifF (by rw [bI_0]; decide) (q_archiveOf (by omega) h c1 (qa_of (by omega) hA hj (fun b hb => dq_row (by omega) hb hn (fun r hr9 => dq_len hr9 ?_))))
    have e1 : iI (row.length : Nat) - 1 = iI ((row.length : Nat) - 1) := iI_sub _ 1
    rw [e1]
    refine c_isIn0_ok (by omega) hp (rI_small (by omega) (by omega)) ?_
    by_cases m : 0 ≤ p ∧ p ≤ ((row.length : Nat) : Int) - 1
    · rw [decide_eq_true m] at H ⊢
      rw [if_pos rfl] at H
      have ep : p = (p.toNat : Nat) := by omega
      rw [ep] at H ⊢
      generalize p.toNat = k at ep H ⊢
      obtain ⟨t, ht⟩ := dc_get (l := row) (i := k) (by omega)
      obtain ⟨y1, y2, y3⟩ := hr.tokAt hj hn ht
      rw [y1, hr.whereAt hj y2] at H
      obtain ⟨sw, hsw⟩ := dc_get y2
      refine ifF (by rw [bI_0]; decide) ?_
      have hy := dc_set_r (R := D.1) (j := t) g6
      have hpos : 0 < dc_set D.1 t := by
        obtain ⟨v9, v1, v2⟩ := hr.somewhere hj y2
        have h9 := hr.setHas hj v1 t
        rw [decide_eq_true v2] at h9
        by_cases z : dc_set D.1 t = 0
        · rw [z] at h9
          have : ∀ k : Fin 10, s_has 0 ((k : Nat) : Int) = false := by decide
          have := this ⟨v9, by omega⟩
          rw [show s_has 0 ((v9 : Nat) : Int) = false from this] at h9
          cases h9
        · omega
      have hfin : ∀ tk ct : Nat, w.1 tk = some (7, [va_rf (some ct), .int (iI (dc_set D.1 t))]) → f_geti w (some tk) 7 1 (fun x55 => if iI q = 0 then pw_Cl E m_J21_numberOfTrailingZeros e [.int x55] w (c_i (fun x60 w59 => c_i K (.inl (some (.int x60))) w59)) else if iI q = 1 then pw_Cl E m_J21_numberOfLeadingZeros e [.int x55] w (c_i (fun x62 w61 => c_i K (.inl (some (.int (31 - x62)))) w61)) else if iI q = 2 then pw_Cl E m_X0_bits e [.int x55] w (c_i (fun x64 w63 => c_i K (.inl (some (.int x64))) w63)) else if iI q = 3 then pw_Cl E m_X0_rows e [.int x55] w (c_i (fun x66 w65 => c_i K (.inl (some (.int x66))) w65)) else c_i K (.inl (some (.int (-1)))) w) := by
        intro tk ct htk
        refine ⟨tk, _, _, rfl, htk, rfl, ?_⟩
        have eq := fun k (hk : rI k) => iI_eq (a := q) (b := k) hq hk
        have e0 := eq 0 (rI_small (by omega) (by omega)); have e1 := eq 1 (rI_small (by omega) (by omega)); have e2 := eq 2 (rI_small (by omega) (by omega)); have e3 := eq 3 (rI_small (by omega) (by omega))
        by_cases z0 : q = 0
        · rw [if_pos z0] at H
          exact ifT (by rw [show (0 : Int32) = iI 0 from rfl, e0]; exact z0) (cz_tz_ok (by omega) ⟨hpos, hy.2⟩ ⟨_, rfl, H w r0⟩)
        refine ifF (by rw [show (0 : Int32) = iI 0 from rfl, e0]; exact z0) ?_
        by_cases z1 : q = 1
        · rw [if_neg z0, if_pos z1] at H
          have e31 : (31 : Int32) - iI (31 - s_last (dc_set D.1 t)) = iI (s_last (dc_set D.1 t)) := by
            show iI 31 - _ = _
            rw [iI_sub]
            congr 1
            omega
          exact ifT (by rw [show (1 : Int32) = iI 1 from rfl, e1]; exact z1) (cz_lz_ok (by omega) ⟨hpos, hy.2⟩ ⟨_, rfl, by rw [e31]; exact H w r0⟩)
        refine ifF (by rw [show (1 : Int32) = iI 1 from rfl, e1]; exact z1) ?_
        by_cases z2 : q = 2
        · rw [if_neg z0, if_neg z1, if_pos z2] at H
          exact ifT (by rw [show (2 : Int32) = iI 2 from rfl, e2]; exact z2) (c_bits_ok (by omega) hy ⟨_, rfl, H w r0⟩)
        refine ifF (by rw [show (2 : Int32) = iI 2 from rfl, e2]; exact z2) ?_
        by_cases z3 : q = 3
        · rw [if_neg z0, if_neg z1, if_neg z2, if_pos z3] at H
          exact ifT (by rw [show (3 : Int32) = iI 3 from rfl, e3]; exact z3) (c_rows_ok (by omega) hy ⟨_, rfl, H w r0⟩)
        rw [if_neg z0, if_neg z1, if_neg z2, if_neg z3] at H
        exact ifF (by rw [show (3 : Int32) = iI 3 from rfl, e3]; exact z3) ⟨_, rfl, H w r0⟩
      obtain ⟨lv, bv, cv, mv, lt, bt, ct, mt, ld, bd, cd, md, rs, ts, ds, h1, h2, h3, h4, ⟨h5, h6⟩, ⟨h7, h8⟩, -⟩ := hb
      obtain ⟨r5, r1, r2⟩ := dc_map (l := rs) (i := n) (by omega)
      have hr5 := h6 n r5 row r1 hn
      obtain ⟨tk, t1, t2⟩ := dc_map (l := ts) (i := t) (by omega)
      obtain ⟨c9, q1, q2⟩ := h8 t tk sw t1 hsw
      exact ⟨b, _, _, rfl, h1, rfl, b, _, _, rfl, h1, rfl, lv, _, rfl, h2.1, cl_get_ok (by omega) h2 r2 ⟨Or.inr ⟨r5, 1000, _, rfl, hr5, c_canI⟩, dq_aldi hr5 ht b1 ⟨lt, _, rfl, h3.1, cl_get_ok (by omega) h3 t2 ⟨Or.inr ⟨tk, 7, _, rfl, q1, c_canT⟩, hfin tk c9 q1⟩⟩⟩⟩
    · rw [decide_eq_false m] at H ⊢
      rw [if_neg (by decide)] at H
      exact ifT (by rw [bI_0]) ⟨_, rfl, H w r0⟩
theorem fx_dated_ok {i q : Int} {K : Int32 → pw_W → Prop} (hd : 100 ≤ d) (hw : wf E w) (h : s_fc E z w.1 f s ka x V) (hi : rI i) (hq : rI q) (hR : s_isA V i = true → s_rl A (s_A V i)) (H : (fun y => ∀ w', cx E w w' c_no 28010 → K (iI y) w') (if s_isA V i = true then a_dat A q 40 0 else -1)) : pw_Cl E m_X0_dated d [va_rf (some f), .int (iI i), .int (iI q)] w (c_i K) := by
  replace hd := pw_d1 hd; obtain ⟨e, rfl, hd⟩ := hd
  refine e_X0_dated _ _ _ (s_X0_dated_0 _ _ _ (q_isA (by omega) h hi ?_))
  cases c : s_isA V i with
  | false =>
    rw [if_neg (by rw [c]; decide)] at H
    exact ifT (by rw [bI_0]) ⟨_, rfl, H w (cx.refl hw)⟩
  | true =>
    rw [if_pos c] at H
    obtain ⟨g, hr, hdt, -⟩ := hR c
    obtain ⟨-, hA, hok, -, -⟩ := h.A c
    obtain ⟨us, hus⟩ := hA.obj
    refine ifF (by rw [bI_0]; decide) (q_archiveOf (by omega) h c ⟨_, us, rfl, hus, ca_dated_ok (by omega) hw hA hok hq (fun w' r c' hp => ⟨_, rfl, ?_⟩)⟩)
    rw [hr.dated hdt hp] at H
    exact H w' (c'.le (by omega))
theorem fx_shared_ok {i a v u : Int} {K : Int32 → pw_W → Prop} (hd : 100 ≤ d) (hw : wf E w) (h : s_fc E z w.1 f s ka x V) (hi : rI i) (ha : rI a) (hv : rI v) (hu : rI u) (hR : s_isA V i = true → s_rl A (s_A V i)) (H : (fun y => ∀ w', cx E w w' c_no 28010 → K (iI y) w') (if s_isA V i = true then (if a_isVer A a v = true then (if a_isVer A a u = true then a_shared A a v u else -1) else -1) else -1)) : pw_Cl E m_X0_shared d [va_rf (some f), .int (iI i), .int (iI a), .int (iI v), .int (iI u)] w (c_i K) := by
  replace hd := pw_d1 hd; obtain ⟨e, rfl, hd⟩ := hd
  have r0 : cx E w w c_no 28010 := cx.refl hw
  rw [s_rl.ver hR] at H
  refine e_X0_shared _ _ _ _ _ (s_X0_shared_0 _ _ _ _ _ (q_isVersion (by omega) h hi ha hv ?_))
  cases c : s_isV V i a v with
  | false =>
    rw [if_neg (by rw [c]; decide)] at H
    exact ifT (by rw [bI_0]) ⟨_, rfl, H w r0⟩
  | true =>
    rw [if_pos c] at H
    obtain ⟨c1, c2⟩ := s_isV.at c
    obtain ⟨g, hr, hdt, -⟩ := hR c1
    obtain ⟨-, hA, hok, -, -⟩ := h.A c1
    refine ifF (by rw [bI_0]; decide) (q_isVersion (by omega) h hi ha hu ?_)
    have e3 : s_isV V i a u = da_isVer (s_A V i).2.1 a u := by unfold s_isV; rw [c1, Bool.true_and]
    rw [hr.isVer2] at H
    rw [e3]
    cases c3 : da_isVer (s_A V i).2.1 a u with
    | false =>
      rw [if_neg (by rw [c3]; decide)] at H
      exact ifT (by rw [bI_0]) ⟨_, rfl, H w r0⟩
    | true =>
      rw [if_pos c3] at H
      obtain ⟨j, n, D, row, rfl, rfl, hj, hn, hl⟩ := da_isVer.at c2
      obtain ⟨j', n', D', row', ej, rfl, hj', hn', hl'⟩ := da_isVer.at c3
      have : j' = j := by omega
      subst this
      rw [hj] at hj'
      cases hj'
      rw [hr.shared hj hl hl'] at H
      refine ifF (by rw [bI_0]; decide) (q_archiveOf (by omega) h c1 (qa_of (by omega) hA hj (fun b hb => ?_)))
      obtain ⟨ud, hud⟩ := hb.obj
      exact ⟨b, ud, rfl, hud, cd_shared_ok (by omega) hw hb (fun w' c' => ⟨_, rfl, H w' (c'.le (by omega))⟩)⟩
theorem fx_common_ok {i a v b u : Int} {K : Int32 → pw_W → Prop} (hd : 100 ≤ d) (hw : wf E w) (h : s_fc E z w.1 f s ka x V) (hi : rI i) (ha : rI a) (hv : rI v) (hb : rI b) (hu : rI u) (hR : s_isA V i = true → s_rl A (s_A V i)) (H : (fun y => ∀ w', cx E w w' c_no 28010 → K (iI y) w') (if s_isA V i = true then (if a_isVer A a v = true then (if a_isVer A b u = true then a_lcs A a v b u (a_long A a v).toNat (a_long A b u).toNat else -1) else -1) else -1)) : pw_Cl E m_X0_common d [va_rf (some f), .int (iI i), .int (iI a), .int (iI v), .int (iI b), .int (iI u)] w (c_i K) := by
  replace hd := pw_d1 hd; obtain ⟨e, rfl, hd⟩ := hd
  have r0 : cx E w w c_no 28010 := cx.refl hw
  rw [s_rl.ver hR] at H
  refine e_X0_common _ _ _ _ _ _ (s_X0_common_0 _ _ _ _ _ _ (q_isVersion (by omega) h hi ha hv ?_))
  cases c : s_isV V i a v with
  | false =>
    rw [if_neg (by rw [c]; decide)] at H
    exact ifT (by rw [bI_0]) ⟨_, rfl, H w r0⟩
  | true =>
    rw [if_pos c] at H
    obtain ⟨c1, c2⟩ := s_isV.at c
    obtain ⟨g, hr, hdt, -⟩ := hR c1
    obtain ⟨-, hA, hok, -, -⟩ := h.A c1
    refine ifF (by rw [bI_0]; decide) (q_isVersion (by omega) h hi hb hu ?_)
    have e3 : s_isV V i b u = da_isVer (s_A V i).2.1 b u := by unfold s_isV; rw [c1, Bool.true_and]
    rw [hr.isVer2] at H
    rw [e3]
    cases c3 : da_isVer (s_A V i).2.1 b u with
    | false =>
      rw [if_neg (by rw [c3]; decide)] at H
      exact ifT (by rw [bI_0]) ⟨_, rfl, H w r0⟩
    | true =>
      rw [if_pos c3] at H
      obtain ⟨j, n, D, row, rfl, rfl, hj, hn, hl⟩ := da_isVer.at c2
      obtain ⟨j', n', D', row', rfl, rfl, hj', hn', hl'⟩ := da_isVer.at c3
      have l1 := hr.len hj hl
      have l2 := hr.len hj' hl'
      rw [l1.1, l2.1, Int.toNat_natCast, Int.toNat_natCast, hr.lcs hj hl hj' hl' _ _ (Nat.le_refl _) (Nat.le_refl _)] at H
      obtain ⟨us, hus⟩ := hA.obj
      exact ifF (by rw [bI_0]; decide) (q_archiveOf (by omega) h c1 ⟨_, us, rfl, hus, ca_common_ok (by omega) hw hA hok hj hl hj' hl' (fun w' c' => ⟨_, rfl, H w' (c'.le (by omega))⟩)⟩)
end
