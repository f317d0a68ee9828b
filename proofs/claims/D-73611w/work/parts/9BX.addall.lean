set_option maxRecDepth 100000
/-! the component: a list's elements added to another one -/
section
variable {E : pw_E} {d : Nat} {w : pw_W} {a a2 b b2 cap cap2 : Nat} {mc mc2 : Int32} {xs ys : List (Option Nat)}
theorem cl_addAll_ok {K : Bool → pw_W → Prop} (hd : 6 ≤ d) (hw : wf E w) (h : c_al E w.1 a mc b cap xs) (h2 : c_al E w.1 a2 mc2 b2 cap2 ys) (hr : xs.length + ys.length ≤ cap) (he : c_els w.1 ys)
    (H : ∀ u, cx E w u (fun q => q = a ∨ (q = b ∧ 0 < cap)) (ys.length + 4) → c_al E u.1 a (mc + 1) b cap (xs ++ ys) → K (decide (ys.length ≠ 0)) u) : pw_Cl E m_J2_addAll d [va_rf (some a), va_rf (some a2)] w (c_z K) := by
  replace hd := pw_d1 hd; obtain ⟨e, rfl, hd⟩ := hd
  have hl2 := h2.len
  have hl1 := h.len
  obtain ⟨ws, p1, p2, p3, p4, p5, p6, p7, p8, p9⟩ := h2.use hw
  obtain ⟨vs, q1, q2, q3, q4, q5, q6, q7, q8, q9⟩ := h.use hw
  obtain ⟨e1, rfl, hd1⟩ := pw_d1 (show 4 + 1 ≤ e by omega)
  refine e_J2_addAll _ _ (s_J2_addAll_0 _ _ ⟨a2, _, rfl, p1, e_J2_toArray _ (s_J2_toArray_0 _ ⟨a2, _, _, rfl, p1, rfl, a2, _, _, rfl, p1, rfl, ?_⟩)⟩)
  refine cr_copyO (by omega) hw p2 (by omega) (by omega) (fun i v hi hv => ?_) (fun us hus hus2 => ⟨_, rfl, ?_⟩)
  · obtain ⟨y, hy⟩ := dc_get (l := ys) (i := i) hi
    have := p6 i y hy
    rw [this] at hv
    cases hv
    exact ⟨y, rfl, he y (List.mem_of_getElem? hy)⟩
  have c1 : cx E w (pw_new w (1003, us) ys.length) c_no (ys.length + 4) := cx.new hw _ _
  have r1 := c1.at q1
  have r2 := c1.at q2
  have r3 : (pw_new w (1003, us) ys.length).1 w.2.1 = some (1003, us) := pw_new_1 _ _ _
  have nwa := hw.lt q1
  have nwb := hw.lt q2
  have hab : a ≠ b := by rintro rfl; rw [q1] at q2; cases q2
  have els1 : ∀ (i : Nat) (v : Value), us[i]? = some v → i < ys.length → ∃ y, v = va_rf y ∧ c_ok (pw_new w (1003, us) ys.length).1 y := by
    intro i v hv hi
    obtain ⟨y, hy⟩ := dc_get (l := ys) (i := i) hi
    rw [hus2 i hi, if_pos (by omega), p6 i y hy] at hv
    cases hv
    exact ⟨y, rfl, (he y (List.mem_of_getElem? hy)).mono c1.sub1⟩
  generalize pw_new w (1003, us) ys.length = w1 at c1 r1 r2 r3 els1 ⊢
  have c2 : cx E w1 (pw_up w1 a (18, [.int (mc + 1), va_rf (some b), .int (iI xs.length)])) (fun q => q = a ∨ (q = b ∧ 0 < cap)) 0 := cx.up c1.ok _ r1 q7 (Or.inl rfl)
  have s1 : (pw_up w1 a (18, [.int (mc + 1), va_rf (some b), .int (iI xs.length)])).1 a = some (18, [.int (mc + 1), va_rf (some b), .int (iI xs.length)]) := pw_up_1 _ _ _
  have s2 : (pw_up w1 a (18, [.int (mc + 1), va_rf (some b), .int (iI xs.length)])).1 b = some (1003, vs) := by rw [pw_up_ne (Ne.symm hab)]; exact r2
  have s3 : (pw_up w1 a (18, [.int (mc + 1), va_rf (some b), .int (iI xs.length)])).1 w.2.1 = some (1003, us) := by rw [pw_up_ne (by omega)]; exact r3
  refine ⟨a, _, _, rfl, r1, rfl, a, _, rfl, r1, q7, ⟨w.2.1, 3, _, us, rfl, s3, rfl, ?_⟩⟩
  rw [iI_ofNat, hus]
  have c12 : cx E w (pw_up w1 a (18, [.int (mc + 1), va_rf (some b), .int (iI xs.length)])) (fun q => q = a ∨ (q = b ∧ 0 < cap)) (ys.length + 4) := (c1.no.tr c2).le (by omega)
  have e0 : (iI ys.length = 0) = (ys.length = 0) := iI_eqn (b := 0) (by omega) (by omega)
  by_cases z : ys.length = 0
  · have hh := H _ c12 ?_
    · rw [decide_eq_false (by omega)] at hh
      exact ifT (by rw [e0]; exact z) ⟨false, rfl, hh⟩
    · rw [List.eq_nil_of_length_eq_zero z, List.append_nil]
      refine ⟨s1, h.2.1, h.2.2.1, h.2.2.2.1, ?_⟩
      rcases h.2.2.2.2 with t | ⟨t1, t2, -⟩
      · exact Or.inl t
      · exact Or.inr ⟨t1, t2, vs, s2, q3, q6⟩
  · refine ifF (by rw [e0]; exact z) ⟨a, _, _, rfl, s1, rfl, ⟨b, 3, _, vs, rfl, s2, rfl, ?_⟩⟩
    rw [iI_ofNat, q3]
    refine ⟨a, _, _, rfl, s1, rfl, ?_⟩
    have hcp : 0 < cap := by omega
    have hbb := q9 hcp
    have m1 : (iI ys.length ≤ iI cap - iI xs.length) = (ys.length ≤ cap - xs.length) := by
      rw [iI_sub, show (cap : Int) - xs.length = ((cap - xs.length : Nat) : Int) by omega]
      exact iI_len (by omega) (by omega)
    refine ifT (by rw [m1]; omega) ?_
    refine ⟨w.2.1, b, 3, 3, _, _, us, vs, rfl, rfl, rfl, rfl, rfl, fun _ => by omega, s3, s2, hbb, by decide, iI_n0 (by omega), iI_n0 (by omega), ?_, ?_, ?_, ?_⟩
    · rw [iI_nn (show ys.length ≤ 1000000000 by omega)]
      show 0 + _ ≤ _
      omega
    · rw [iI_nn (show ys.length ≤ 1000000000 by omega), iI_nn (show xs.length ≤ 1000000000 by omega)]
      omega
    · intro i hi v hv
      rw [iI_nn (show ys.length ≤ 1000000000 by omega)] at hi
      have hv : us[0 + i]? = some v := hv
      rw [Nat.zero_add] at hv
      obtain ⟨y, rfl, hy⟩ := els1 i v hv hi
      exact c_fit (hy.up r1)
    · rw [iI_nn (show ys.length ≤ 1000000000 by omega), iI_nn (show xs.length ≤ 1000000000 by omega)]
      have h0 : (0 : Int32).toNatClampNeg = 0 := rfl
      rw [h0]
      have c3 : cx E (pw_up w1 a (18, [.int (mc + 1), va_rf (some b), .int (iI xs.length)])) (pw_up (pw_up w1 a (18, [.int (mc + 1), va_rf (some b), .int (iI xs.length)])) b (1003, pw_cpy us vs 0 xs.length ys.length)) (fun q => q = a ∨ (q = b ∧ 0 < cap)) 0 := cx.up c2.ok _ s2 hbb (Or.inr ⟨rfl, hcp⟩)
      have u1 : (pw_up (pw_up w1 a (18, [.int (mc + 1), va_rf (some b), .int (iI xs.length)])) b (1003, pw_cpy us vs 0 xs.length ys.length)).1 a = some (18, [.int (mc + 1), va_rf (some b), .int (iI xs.length)]) := by rw [pw_up_ne hab]; exact s1
      have c4 : cx E _ (pw_up (pw_up (pw_up w1 a (18, [.int (mc + 1), va_rf (some b), .int (iI xs.length)])) b (1003, pw_cpy us vs 0 xs.length ys.length)) a (18, [.int (mc + 1), va_rf (some b), .int (iI ((xs.length + ys.length : Nat) : Int))])) (fun q => q = a ∨ (q = b ∧ 0 < cap)) 0 := cx.up c3.ok _ u1 q7 (Or.inl rfl)
      have hh := H _ (((c12.tr c3).tr c4).le (by omega)) ?_
      · rw [decide_eq_true z] at hh
        refine ⟨a, _, rfl, u1, q7, ⟨true, rfl, ?_⟩⟩
        show K true (pw_up _ a (18, [.int (mc + 1), va_rf (some b), .int (iI xs.length + iI ys.length)]))
        rw [iI_adn]
        exact hh
      · refine ⟨by rw [List.length_append]; exact pw_up_1 _ _ _, by rw [List.length_append]; exact hr, h.2.2.1, h.2.2.2.1, Or.inr ⟨hcp, hbb, _, by rw [pw_up_ne (Ne.symm hab)]; exact pw_up_1 _ _ _, by rw [pw_cpy_len (by omega) (by omega)]; exact q3, fun i x hx => ?_⟩⟩
        rw [pw_cpy_get (by omega) (by omega)]
        by_cases y : i < xs.length
        · rw [List.getElem?_append_left y] at hx
          rw [if_neg (by omega)]
          exact q6 i x hx
        · rw [List.getElem?_append_right (by omega)] at hx
          have hi := (List.getElem?_eq_some_iff.mp hx).1
          rw [if_pos (by omega), Nat.zero_add, hus2 (i - xs.length) (by omega), if_pos (by omega)]
          exact p6 _ _ hx
end
section
variable {E : pw_E} {d : Nat} {w : pw_W} {a b cap : Nat} {mc : Int32} {xs : List (Option Nat)}
theorem cl_clear_ok {K : pw_W → Prop} (hd : 1 ≤ d) (hw : wf E w) (h : c_al E w.1 a mc b cap xs) (H : ∀ u, cx E w u (fun q => q = a ∨ (q = b ∧ 0 < cap)) 0 → u.2 = w.2 → c_al E u.1 a (mc + 1) b cap [] → K u) : pw_Cl E m_J2_clear d [va_rf (some a)] w (c_v K) := by
  replace hd := pw_d1 hd; obtain ⟨e, rfl, hd⟩ := hd
  have hl1 := h.len
  obtain ⟨vs, q1, q2, q3, q4, q5, q6, q7, q8, q9⟩ := h.use hw
  have hab : a ≠ b := by rintro rfl; rw [q1] at q2; cases q2
  have c1 : cx E w (pw_up w a (18, [.int (mc + 1), va_rf (some b), .int (iI xs.length)])) (fun q => q = a ∨ (q = b ∧ 0 < cap)) 0 := cx.up hw _ q1 q7 (Or.inl rfl)
  have s1 : (pw_up w a (18, [.int (mc + 1), va_rf (some b), .int (iI xs.length)])).1 a = some (18, [.int (mc + 1), va_rf (some b), .int (iI xs.length)]) := pw_up_1 _ _ _
  have c2 : cx E (pw_up w a (18, [.int (mc + 1), va_rf (some b), .int (iI xs.length)])) (pw_up (pw_up w a (18, [.int (mc + 1), va_rf (some b), .int (iI xs.length)])) a (18, [.int (mc + 1), va_rf (some b), .int 0])) (fun q => q = a ∨ (q = b ∧ 0 < cap)) 0 := cx.up c1.ok _ s1 q7 (Or.inl rfl)
  refine e_J2_clear _ (s_J2_clear_0 _ ⟨a, _, _, rfl, q1, rfl, a, _, rfl, q1, q7, a, _, _, rfl, s1, rfl, a, _, _, rfl, s1, rfl, a, _, rfl, s1, q7, ?_⟩)
  show pw_Wp E m_J2_clear (e + 1) 27 [none, some (va_rf (some b)), some (.int (iI xs.length)), some (.int (iI ((0 : Nat) : Int)))] [] (pw_up (pw_up w a (18, [.int (mc + 1), va_rf (some b), .int (iI xs.length)])) a (18, [.int (mc + 1), va_rf (some b), .int 0])) (c_v K)
  have key : ∀ (f k : Nat) (u : pw_W) (us : List Value), k + f = xs.length → cx E w u (fun q => q = a ∨ (q = b ∧ 0 < cap)) 0 → u.2 = w.2 → u.1 a = some (18, [.int (mc + 1), va_rf (some b), .int 0]) → u.1 b = some (1003, us) → us.length = cap → pw_Wp E m_J2_clear (e + 1) 27 [none, some (va_rf (some b)), some (.int (iI xs.length)), some (.int (iI (k : Nat)))] [] u (c_v K) := by
    intro f
    induction f with
    | zero =>
      intro k u us hk cu nu h1 h2 h3
      refine s_J2_clear_27 _ _ _ (ifT (by rw [iI_len (by omega) (by omega)]; omega) ⟨rfl, H u cu nu ⟨h1, Nat.zero_le _, h.2.2.1, h.2.2.2.1, ?_⟩⟩)
      rcases h.2.2.2.2 with t | ⟨t1, t2, -⟩
      · exact Or.inl t
      · exact Or.inr ⟨t1, t2, us, h2, h3, fun i x hx => by simp at hx⟩
    | succ f ih =>
      intro k u us hk cu nu h1 h2 h3
      have hc : 0 < cap := by omega
      have cu2 : cx E u (pw_up u b (1003, us.set k (va_rf none))) (fun q => q = a ∨ (q = b ∧ 0 < cap)) 0 := cx.up cu.ok _ h2 (q9 hc) (Or.inr ⟨rfl, hc⟩)
      refine s_J2_clear_27 _ _ _ (ifF (by rw [iI_len (by omega) (by omega)]; omega) ⟨b, 3, _, us, rfl, h2, rfl, by decide, q9 hc, iI_n0 (by omega), by rw [iI_nn (by omega)]; omega, Or.inl rfl, ?_⟩)
      rw [iI_nn (by omega), iI_ad1]
      exact ih (k + 1) _ _ (by omega) ((cu.tr cu2).le (by omega)) nu (by rw [pw_up_ne hab]; exact h1) (pw_up_1 _ _ _) (by rw [List.length_set]; exact h3)
  exact key xs.length 0 _ vs (by omega) ((c1.tr c2).le (by omega)) rfl (pw_up_1 _ _ _) (by rw [pw_up_ne (Ne.symm hab), pw_up_ne (Ne.symm hab)]; exact q2) q3
end
