set_option maxRecDepth 100000
/-! the component: index -/
/-- what the index holds is right: nothing seen, nothing held -/
def ixq_0 (Q : Int → qT) : Prop := ixq_ok Q ∧ ∀ κ, ¬ 0 < (Q κ).1 → Q κ = (0, 0, -1, 0)
section
variable {E : pw_E} {d : Nat} {W w u : pw_W} {a m1 i v : Nat} {Ds : List dc} {D : dc} {row : List Nat} {t : Int} {mc1 : Int32} {xs1 : List tE} {Q : Int → qT}
theorem ixq_st {x : Int} (hx : D.2.2[v]? = some x) (hxr : 0 ≤ x ∧ x ≤ 1000) (hl : dc_len D v ≤ 1000) (h : ixq_0 Q) : ixq_0 (ix_st i D v Q) ∧ ∀ κ, 0 < (ix_st i D v Q κ).1 ↔ (0 < (Q κ).1 ∨ 0 < ix_n D v κ (dc_len D v)) := by
  obtain ⟨h1, h2⟩ := h
  have hn : ∀ κ, 0 ≤ ix_n D v κ (dc_len D v) ∧ ix_n D v κ (dc_len D v) ≤ 1000 := fun κ => by have := ix_n_r D v κ (dc_len D v); omega
  unfold ix_st
  rw [dc_getD hx]
  refine ⟨⟨fun κ => ?_, fun κ hκ => ?_⟩, fun κ => ?_⟩
  · by_cases q : 0 < ix_n D v κ (dc_len D v)
    · simp only [if_pos q]
      exact ixq_see (h1 κ) hxr (hn κ)
    · simp only [if_neg q]
      exact h1 κ
  · show (if _ then _ else _ : qT) = _
    by_cases q : 0 < ix_n D v κ (dc_len D v)
    · refine absurd ?_ hκ
      show 0 < (if _ then _ else _ : qT).1
      rw [if_pos q]
      have := (h1 κ).1
      show 0 < (Q κ).1 + 1
      omega
    · have hκ : ¬ 0 < (if 0 < ix_n D v κ (dc_len D v) then ix_see (i : Nat) x (ix_n D v κ (dc_len D v)) (Q κ) else Q κ).1 := hκ
      rw [if_neg q] at hκ
      rw [if_neg q]
      exact h2 κ hκ
  · show 0 < (if _ then _ else _ : qT).1 ↔ _
    have := (h1 κ).1
    by_cases q : 0 < ix_n D v κ (dc_len D v)
    · rw [if_pos q]
      constructor
      · intro _; exact Or.inr q
      · intro _
        show 0 < (Q κ).1 + 1
        omega
    · rw [if_neg q]
      constructor
      · exact Or.inl
      · rintro (z | z)
        · exact z
        · exact absurd z q
/-- read in a later world, told of the earlier one -/
theorem qa_ofP {p : pw_H} {e : Nat} {K : Option Nat → pw_W → Prop} (hd : 4 ≤ e) (hp : c_sub p u.1) (h : c_arch E p p a Ds t) (hi : Ds[i]? = some D) (H : ∀ b : Nat, c_doc E p p b D → K (some b) u) : f_V E u (some a) 4 m_X5_of e [.int (iI (i : Nat))] (c_r K) := by
  obtain ⟨ld, bd, cd, md, as, h1, h2, ⟨h3, h4⟩, h5⟩ := h
  have hl := (List.getElem?_eq_some_iff.mp hi).1
  obtain ⟨b, b1, b2⟩ := dc_map (l := as) (i := i) (by omega)
  have hb := h4 i b D b1 hi
  obtain ⟨us, hu⟩ := hb.obj
  replace hd := pw_d1 hd; obtain ⟨e, rfl, hd⟩ := hd
  exact ⟨a, _, rfl, hp _ _ h1, e_X5_of _ _ (s_X5_of_0 _ _ ⟨a, _, _, rfl, hp _ _ h1, rfl, ld, _, rfl, hp _ _ h2.1, cl_get_ok hd (h2.mono hp) b2 ⟨Or.inr ⟨b, 6, us, rfl, hp _ _ hu, c_canD⟩, _, rfl, H b hb⟩⟩)⟩
theorem dq_rowP {p : pw_H} {e b : Nat} {K : Option Nat → pw_W → Prop} (hd : 3 ≤ e) (hp : c_sub p u.1) (h : c_doc E p p b D) (hv : D.1[v]? = some row) (H : ∀ r : Nat, c_ints p r row → K (some r) u) :
    f_getr u (some b) 6 0 (fun x1 => f_V E u x1 18 m_J2_get e [.int (iI v)] (c_r (fun o6 w5 => f_cast w5 o6 "[I" (K o6 w5)))) := by
  obtain ⟨lv, bv, cv, mv, lt, bt, ct, mt, ld, bd, cd, md, rs, ts, ds, h1, h2, h3, h4, ⟨h5, h6⟩, -⟩ := h
  have hl := (List.getElem?_eq_some_iff.mp hv).1
  obtain ⟨r, r1, r2⟩ := dc_map (l := rs) (i := v) (by omega)
  have hr := h6 v r row r1 hv
  exact ⟨b, _, _, rfl, hp _ _ h1, rfl, lv, _, rfl, hp _ _ h2.1, cl_get_ok hd (h2.mono hp) r2 ⟨Or.inr ⟨r, 1000, _, rfl, hp _ _ hr, c_canI⟩, H r hr⟩⟩
theorem ix_ver {K : Option Nat → pw_W → Prop} (hd : 18 ≤ d) (hW : wf E W) (h : c_arch E W.1 W.1 a Ds t) (hD : da_ok Ds) (hw : da_w Ds) (hi : Ds[i]? = some D) (hv : D.1[v]? = some row) {c : Nat} (hS : ixS E W u c m1 mc1 xs1 Q (fun κ => 0 < (Q κ).1)) (hQ : ixq_0 Q) (hl : xs1.length ≤ 10000)
    (fin : ∀ (u' : pw_W) (mc1' : Int32) (xs1' : List tE), ixS E W u' (c + 686) m1 mc1' xs1' (ix_st i D v Q) (fun κ => 0 < (ix_st i D v Q κ).1) → ixq_0 (ix_st i D v Q) → xs1'.length ≤ xs1.length + 20 → pw_Wp E m_X5_index (d + 1) 20 [some (va_rf (some a)), some (va_rf (some m1)), some (.int (iI (i : Nat))), some (.int (iI ((v + 1 : Nat) : Int))), none, none, none, none, none, none, none] [] u' (c_r K)) :
    pw_Wp E m_X5_index (d + 1) 20 [some (va_rf (some a)), some (va_rf (some m1)), some (.int (iI (i : Nat))), some (.int (iI (v : Nat))), none, none, none, none, none, none, none] [] u (c_r K) := by
  obtain ⟨g1, g2, g3, g4, g5, g6, g7⟩ := hD.at hi
  obtain ⟨b1, b2, b3, b4, b5⟩ := g4.row hv
  have hr20 := (hw D (List.mem_of_getElem? hi)).1 row (List.mem_of_getElem? hv)
  obtain ⟨x, hx⟩ := dc_get (l := D.2.2) (i := v) (by have := g4.2.1; omega)
  have hxr := g4.2.2.2.2.2 x (List.mem_of_getElem? hx)
  have hlen : dc_len D v = row.length := by unfold dc_len; rw [b4]
  have hA := h.mono hS.1.sub1 hS.1.sub1
  have hu := hS.1.ok
  refine s_X5_index_20 _ _ _ _ (qa_of (by omega) hA hi (fun b hb => dq_many (by omega) hb (ifF (by rw [iI_len (by omega) (by omega)]; omega) ?_)))
  have c1 : cx E u (pw_new u (22, [va_rf none, va_rf none, va_rf none, va_rf none, .int 0, .int 0, va_rf none, va_rf none, va_rf none]) 9) c_no 13 := cx.new hu _ 9
  refine tm_init_ok (τ := false) (by omega) c1.ok (pw_new_1 _ _ _) hu.b (fun u2 c2 n2 k2 => ?_)
  have hm2 : u.2.1 < u2.2.1 := by rw [n2]; exact Nat.lt_succ_self _
  have hS1 := hS.cxno c1
  have hne : ∀ q, oF m1 xs1 q → ¬ q = u.2.1 := fun q hq => by have := oF_lt hu hS.2.1 q hq; omega
  have hk22 : ∀ (q : Nat) (o : pw_O), (pw_new u (22, [va_rf none, va_rf none, va_rf none, va_rf none, .int 0, .int 0, va_rf none, va_rf none, va_rf none]) 9).1 q = some o → q = u.2.1 → o.1 ≠ 21 ∧ o.1 ≠ 28 ∧ o.1 ≠ 1001 := by
    intro q o hq hqi
    subst hqi
    rw [pw_new_1] at hq
    cases hq
    exact ⟨(by decide : (22 : Nat) ≠ 21), (by decide : (22 : Nat) ≠ 28), (by decide : (22 : Nat) ≠ 1001)⟩
  have hS2 : ixS E W u2 (c + 13) m1 mc1 xs1 Q (fun κ => 0 < (Q κ).1) := ⟨(hS1.1.tn hW c2 (fun q hq => Or.inr (by have hq : q = u.2.1 := hq; rw [hq]; exact hS.1.le1))).le (by omega), hS1.2.1.keep c2 hne hk22, hS1.2.2⟩
  have hH2 : ixH E W u2 m1 xs1 u.2.1 0 none [] (fun κ => ix_n D v κ 0) := by
    refine ⟨⟨k2, fun e he => (by cases he), fun κ => ⟨fun ⟨e, he, _⟩ => (by cases he), fun q => absurd q (by show ¬ (0 : Int) < 0; omega)⟩⟩, ?_⟩
    rintro q (rfl | ⟨e, he, _⟩)
    · exact ⟨hS.1.le1, fun ho => hne _ ho rfl⟩
    · cases he
  refine qa_ofP (by omega) hS2.1.sub1 h hi (fun b2 hb2 => dq_rowP (by omega) hS2.1.sub1 hb2 hv (fun r hr => dq_len (hS2.1.at hr) ?_))
  refine ix_66 (by omega) hW h hD hw hi hv hr row.length 0 u2 (c + 13) 0 [] (by omega) hS2 hH2 (Nat.le_refl _) (fun u3 mc2 xs2 hS3 hH3 hl3 => ?_)
  obtain ⟨us3, hm3⟩ := hH3.1.1.obj
  obtain ⟨d', rfl, hd'⟩ := pw_d1 hd
  refine s_X5_index_66 _ _ _ _ _ _ _ _ (ifT (by rw [iI_len (by omega) (by omega)]; omega) ⟨u.2.1, us3, rfl, hm3, e_J18_keySet _ (s_J18_keySet_0 _ ⟨u.2.1, us3, rfl, hm3, tm_keySet_ok (by omega) hS3.1.ok hH3.1.1 (fun u4 c4 n4 k4 q4 => ⟨_, rfl, u3.2.1, _, rfl, q4, tm_iterator_ok (by omega) c4.ok k4 q4 (fun u5 c5 n5 i5 => ?_)⟩)⟩)⟩)
  have hb2m : t_F u.2.1 xs2 u.2.1 := Or.inl rfl
  have hkk : ∀ (q : Nat) (o : pw_O), u3.1 q = some o → q = u.2.1 → o.1 ≠ 21 ∧ o.1 ≠ 28 ∧ o.1 ≠ 1001 := fun q o hq hqi => t_F_ok hH3.1.1 q o hq (Or.inl hqi)
  have hS4 : ixS E W u4 (c + 13 + 15 * row.length + 5) m1 mc1 xs1 Q (fun κ => 0 < (Q κ).1) := ⟨hS3.1.tn hW c4 (fun q hq => Or.inr (by have hq : q = u.2.1 := hq; rw [hq]; exact hS.1.le1)), hS3.2.1.keep c4 hne hkk, hS3.2.2⟩
  have hH4 : ixH E W u4 m1 xs1 u.2.1 mc2 (some u3.2.1) xs2 (fun κ => ix_n D v κ row.length) := by
    refine ⟨⟨k4, fun e he => ?_, hH3.1.2.2⟩, hH3.2⟩
    obtain ⟨b, q1, q2⟩ := hH3.1.2.1 e he
    exact ⟨b, q1, c4.keep q2 (fun z => (hkk _ _ q2 z).2.1 rfl)⟩
  have hS5 := hS4.cxno c5
  have hH5 := hH4.cxno c5
  obtain ⟨y1, y2⟩ := ixq_st (i := i) hx hxr (by omega) hQ
  have hall := tk_all hH5.1
  have eQ : ix_Q xs2 xs2.length i x (fun κ => ix_n D v κ row.length) Q = ix_st i D v Q := by
    funext κ
    unfold ix_Q ix_st
    rw [hall, dc_getD hx, hlen]
    by_cases q : 0 < ix_n D v κ row.length
    · rw [decide_eq_true q, if_pos rfl, if_pos q]
    · rw [decide_eq_false q, if_neg (by decide), if_neg q]
  have tk0 : ∀ κ, tk xs2 0 κ = false := fun κ => rfl
  have e0 : ix_Q xs2 0 i x (fun κ => ix_n D v κ row.length) Q = Q := by
    funext κ
    unfold ix_Q
    rw [tk0]
    rfl
  have hS6 : ixS E W u5 (c + 13 + 15 * row.length + 5 + 8) m1 mc1 xs1 (ix_Q xs2 0 i x (fun κ => ix_n D v κ row.length) Q) (fun κ => 0 < (Q κ).1 ∨ tk xs2 0 κ = true) := by
    rw [e0]
    obtain ⟨z1, ⟨q1, q2, q3, q4⟩, z3⟩ := hS5
    refine ⟨z1, ⟨q1, q2, q3, fun κ => (q4 κ).trans ⟨Or.inl, fun z => z.resolve_right (by rw [tk0]; decide)⟩⟩, z3⟩
  refine ix_158 (by omega) hW h hD hi hx (Nat.le_trans (Nat.le_trans hS3.1.le1 c4.1) (Nat.le_refl _)) hQ.1 (fun κ => by have := ix_n_r D v κ row.length; omega) hQ.2 xs2.length 0 u5 _ mc1 xs1 (by omega) hS6 hH5 i5 (by omega) (fun u' mc1' xs1' hS7 hl7 => ?_)
  rw [eQ] at hS7
  refine fin u' mc1' xs1' ⟨hS7.1.le (by omega), ?_, hS7.2.2⟩ y1 (by omega)
  obtain ⟨q1, q2, q3, q4⟩ := hS7.2.1
  refine ⟨q1, q2, q3, fun κ => (q4 κ).trans ?_⟩
  show (0 < (Q κ).1 ∨ tk xs2 xs2.length κ = true) ↔ 0 < (ix_st i D v Q κ).1
  rw [y2 κ, hlen, hall, decide_eq_true_eq]
theorem ca_index_ok {K : Option Nat → pw_W → Prop} (hd : 20 ≤ d) (hW : wf E W) (h : c_arch E W.1 W.1 a Ds t) (hD : da_ok Ds) (hw : da_w Ds) (H : ∀ (u : pw_W) (m : Nat) (mc : Int32) (xs : List tE), cx E W u c_no 28000 → c_om E u.1 m mc none xs (ix_R Ds) (fun κ => 0 < (ix_R Ds κ).1) → (∀ q, oF m xs q → W.2.1 ≤ q) → xs.length ≤ 800 → K (some m) u) : pw_Cl E m_X5_index d [va_rf (some a)] W (c_r K) := by
  have hl := hD.1
  replace hd := pw_d1 hd; obtain ⟨e, rfl, hd⟩ := hd
  have c1 : cx E W (pw_new W (22, [va_rf none, va_rf none, va_rf none, va_rf none, .int 0, .int 0, va_rf none, va_rf none, va_rf none]) 9) c_no 13 := cx.new hW _ 9
  refine e_X5_index _ (s_X5_index_0 _ (tm_init_ok (τ := false) (by omega) c1.ok (pw_new_1 _ _ _) hW.b (fun u2 c2 n2 k2 => ?_)))
  have hS0 : ixS E W u2 13 W.2.1 0 [] (fun _ => (0, 0, -1, 0)) (fun κ => 0 < ((fun _ => (0, 0, -1, 0)) κ : qT).1) := by
    refine ⟨(c1.tn hW c2 (fun q hq => Or.inr (by have hq : q = W.2.1 := hq; omega))).le (by omega), ⟨k2, fun e he => (by cases he), fun e he => (by cases he), fun κ => ⟨fun ⟨e, he, _⟩ => (by cases he), fun q => absurd q (by show ¬ (0 : Int) < 0; omega)⟩⟩, ?_⟩
    rintro q ((rfl | ⟨e, he, _⟩) | ⟨e, he, _⟩)
    · exact Nat.le_refl _
    · cases he
    · cases he
  have hQ0 : ixq_0 (fun _ => (0, 0, -1, 0)) := ⟨fun κ => ⟨by show (0 : Int) ≤ 0; omega, (show rI 0 by constructor <;> omega), ⟨by show (-1 : Int) ≤ -1; omega, by show (-1 : Int) ≤ 1000; omega⟩, by show (0 : Int) ≤ 0; omega, by show (0 : Int) ≤ 1000; omega⟩, fun κ _ => rfl⟩
  have key : ∀ (f i : Nat) (u : pw_W) (mc1 : Int32) (xs1 : List tE), i + f = Ds.length → ixS E W u (13 + 686 * da_cnt Ds i) W.2.1 mc1 xs1 (upto i (fun i Q => upto (da_D Ds i).1.length (fun v Q => ix_st i (da_D Ds i) v Q) Q) (fun _ => (0, 0, -1, 0))) (fun κ => 0 < (upto i (fun i Q => upto (da_D Ds i).1.length (fun v Q => ix_st i (da_D Ds i) v Q) Q) (fun _ => (0, 0, -1, 0)) κ).1) → ixq_0 (upto i (fun i Q => upto (da_D Ds i).1.length (fun v Q => ix_st i (da_D Ds i) v Q) Q) (fun _ => (0, 0, -1, 0))) → xs1.length ≤ 20 * da_cnt Ds i → da_cnt Ds i ≤ 10 * i → pw_Wp E m_X5_index (e + 1) 10 [some (va_rf (some a)), some (va_rf (some W.2.1)), some (.int (iI (i : Nat))), none, none, none, none, none, none, none, none] [] u (c_r K) := by
    intro f
    induction f with
    | zero =>
      intro i u mc1 xs1 hi hS hQ hx hc
      have : i = Ds.length := by omega
      subst this
      refine s_X5_index_10 _ _ _ (qa_many (by omega) (h.mono hS.1.sub1 hS.1.sub1) (ifT (by rw [iI_len (by omega) (by omega)]; omega) ⟨_, rfl, H u W.2.1 mc1 xs1 (hS.1.le (by omega)) hS.2.1 hS.2.2 (by omega)⟩))
    | succ f ih =>
      intro i u mc1 xs1 hi hS hQ hx hc
      obtain ⟨D, hD1⟩ := dc_get (l := Ds) (i := i) (by omega)
      obtain ⟨g1, g2, g3, g4, g5, g6, g7⟩ := hD.at hD1
      have nx := fun u' mc1' xs1' => ih (i + 1) u' mc1' xs1' (by omega)
      have ec : da_cnt Ds (i + 1) = da_cnt Ds i + D.1.length := by
        unfold da_cnt
        rw [upto_s, g3]
      simp only [upto_s, g3, ec] at nx
      refine s_X5_index_10 _ _ _ (qa_many (by omega) (h.mono hS.1.sub1 hS.1.sub1) (ifF (by rw [iI_len (by omega) (by omega)]; omega) ?_))
      generalize upto i (fun i Q => upto (da_D Ds i).1.length (fun v Q => ix_st i (da_D Ds i) v Q) Q) (fun _ => (0, 0, -1, 0)) = Q0 at nx hS hQ ⊢
      have inn : ∀ (g v : Nat) (u' : pw_W) (mc1' : Int32) (xs1' : List tE), v + g = D.1.length → ixS E W u' (13 + 686 * (da_cnt Ds i + v)) W.2.1 mc1' xs1' (upto v (fun v Q => ix_st i D v Q) Q0) (fun κ => 0 < (upto v (fun v Q => ix_st i D v Q) Q0 κ).1) → ixq_0 (upto v (fun v Q => ix_st i D v Q) Q0) → xs1'.length ≤ 20 * (da_cnt Ds i + v) → pw_Wp E m_X5_index (e + 1) 20 [some (va_rf (some a)), some (va_rf (some W.2.1)), some (.int (iI (i : Nat))), some (.int (iI (v : Nat))), none, none, none, none, none, none, none] [] u' (c_r K) := by
        intro g
        induction g with
        | zero =>
          intro v u' mc1' xs1' hv hS' hQ' hx'
          have : v = D.1.length := by omega
          subst this
          refine s_X5_index_20 _ _ _ _ (qa_of (by omega) (h.mono hS'.1.sub1 hS'.1.sub1) hD1 (fun b hb => dq_many (by omega) hb (ifT (by rw [iI_len (by omega) (by omega)]; omega) ?_)))
          rw [iI_ad1]
          exact nx u' mc1' xs1' hS' hQ' hx' (by omega)
        | succ g ih2 =>
          intro v u' mc1' xs1' hv hS' hQ' hx'
          obtain ⟨row, hr⟩ := dc_get (l := D.1) (i := v) (by omega)
          refine ix_ver (by omega) hW h hD hw hD1 hr hS' hQ' (by omega) (fun u'' mc'' xs'' hS'' hQ'' hx'' => ?_)
          exact ih2 (v + 1) u'' mc'' xs'' (by omega) ⟨hS''.1.le (by omega), hS''.2⟩ hQ'' (by omega)
      exact inn D.1.length 0 u mc1 xs1 (by omega) hS hQ hx
  exact key Ds.length 0 u2 0 [] (by omega) hS0 hQ0 (by simp) (Nat.zero_le _)
end
