set_option maxRecDepth 100000
/-! the component: a state made like another -/
theorem c_canAO : pw_can 4 "java/lang/Object" := Or.inl ⟨_, rfl, by decide, Or.inr q3231⟩
theorem c_canLO : pw_can 18 "java/lang/Object" := Or.inl ⟨_, rfl, by decide, Or.inr q3226⟩
section
variable {E : pw_E} {d : Nat} {w : pw_W} {P : Nat → Prop} {z : pw_H} {f s ka s2 : Nat} {x x2 x' : sX} {V V' V2 : sS} {kp : sK}
theorem fI.upd2 {c : Nat} {w' : pw_W} (hw : wf E w) (h : fI E P z w.1 f s ka x V kp) (k : cx E w w' (s_F s x) c) (hx : s_F s x' = s_F s x) (hs : s_st E w'.1 s x' V') (ho : s_ok V') (hf : s_fz E z V') : fI E P z w'.1 f s ka x' V' kp := by
  obtain ⟨⟨h0, hs0, hz, hf0, ho0⟩, ⟨a1, a2, a3, a4, a5⟩, hk, ⟨d1, d2, d3⟩, hd⟩ := h
  have nf : ∀ (q : Nat) (o : pw_O), w.1 q = some o → (o.1 = 0 ∨ o.1 = 1005) → ¬ s_F s x q := by
    intro q o hq h1 h2
    obtain ⟨o', g1, g2, -⟩ := hs0.kind hw h2
    rw [hq] at g1
    cases g1
    omega
  refine ⟨⟨k.keep h0 (nf _ _ h0 (Or.inl rfl)), hs, fun q o hq => k.keep (hz q o hq) (fun e => by rw [(d1 q e).1] at hq; cases hq), hf, ho⟩, ⟨a1, k.keep a2 (nf _ _ a2 (Or.inr rfl)), a3, a4, a5⟩, fun j hj y hy => ⟨(hk j hj y hy).1.keepH hw (fun q o hq h9 => k.keep h9 (d3 j hj y hy q hq).2.2), (hk j hj y hy).2⟩, ?_, hd⟩
  rw [hx]
  exact ⟨d1, d2, d3⟩
/-- a list made like another -/
theorem sx_list_ok {j : Nat} {us us2 : List Value} {l l2 : lX} {ys ys2 : List Nat} {N : pw_W → Prop} (hd : 10 ≤ d) (hw : wf E w) (hs : w.1 s = some (1, us)) (hs2 : w.1 s2 = some (1, us2)) (hj : us[j]? = some (va_rf (some l.1))) (hj2 : us2[j]? = some (va_rf (some l2.1))) (hl : c_lX E w.1 l ys) (hc : l.2.2.1 = 2) (hl2 : c_lX E w.1 l2 ys2) (hc2 : l2.2.2.1 = 2) (hn : ys2.length ≤ 2) (h1 : l2.1 ≠ l.1) (h2 : l2.2.1 ≠ l.2.1) (he : ∀ y ∈ ys2, ∃ (k : Nat) (vs : List Value), w.1 y = some (k, vs) ∧ pw_can k "java/lang/Object" ∧ y ≠ l.1 ∧ y ≠ l.2.1)
    (H : ∀ (w' : pw_W) (mc' : Int32), cx E w w' (fun q => q = l.1 ∨ q = l.2.1) 6 → c_lX E w'.1 (l.1, l.2.1, 2, mc') ys2 → N w') :
    f_getr w (some s) 1 j (fun x34 => f_V E w x34 18 m_J2_clear d [] (c_v (fun w38 => f_getr w38 (some s) 1 j (fun x42 => f_getr w38 (some s2) 1 j (fun x46 => f_V E w38 x42 18 m_J2_addAll d [va_rf x46] (c_z (fun _ w50 => N w50))))))) := by
  obtain ⟨vs, q1, q2, q3, q4, q5, q6, q7, q8, q9⟩ := c_al.use hw hl
  obtain ⟨vs2, p1, p2, p3, p4, p5, p6, p7, p8, p9⟩ := c_al.use hw hl2
  have n1 : s ≠ l.1 := by rintro rfl; rw [hs] at q1; cases q1
  have n2 : s ≠ l.2.1 := by rintro rfl; rw [hs] at q2; cases q2
  have n3 : s2 ≠ l.1 := by rintro rfl; rw [hs2] at q1; cases q1
  have n4 : s2 ≠ l.2.1 := by rintro rfl; rw [hs2] at q2; cases q2
  have n5 : l2.1 ≠ l.2.1 := by rintro e; rw [e, q2] at p1; cases p1
  have n6 : l2.2.1 ≠ l.1 := by rintro e; rw [e, q1] at p2; cases p2
  refine ⟨s, _, _, rfl, hs, hj, l.1, _, rfl, q1, cl_clear_ok (by omega) hw hl (fun w1 c1 e1 l1 => ?_)⟩
  have c1 : cx E w w1 (fun q => q = l.1 ∨ q = l.2.1) 0 := c1.mono (fun q _ _ e => e.elim Or.inl (fun e => Or.inr e.1)) (Nat.le_refl _)
  have l21 : c_al E w1.1 l2.1 l2.2.2.2 l2.2.1 l2.2.2.1 (ys2.map some) := c_al.keep hl2 c1 (by omega) (by omega)
  refine ⟨s, _, _, rfl, c1.keep hs (by omega), hj, s2, _, _, rfl, c1.keep hs2 (by omega), hj2, l.1, _, rfl, l1.1, ?_⟩
  refine cl_addAll_ok (by omega) c1.ok l1 l21 (by simp; omega) (fun y hy => ?_) (fun w2 c2 l3 => ?_)
  · obtain ⟨y', hy', rfl⟩ := List.mem_map.mp hy
    obtain ⟨k, vs, k1, k2, k3, k4⟩ := he y' hy'
    exact Or.inr ⟨y', k, vs, rfl, c1.keep k1 (by omega), k2⟩
  · have c2 : cx E w1 w2 (fun q => q = l.1 ∨ q = l.2.1) 6 := c2.mono (fun q _ _ e => e.elim Or.inl (fun e => Or.inr e.1)) (by rw [List.length_map]; omega)
    rw [hc] at l3
    exact H w2 _ ((c1.tr c2).le (by omega)) l3
theorem sx_be_ok {N : pw_W → Prop} (hd : 20 ≤ d) (hw : wf E w) (h : s_st E w.1 s x V) (h2 : s_st E w.1 s2 x2 V2) (hd2 : ∀ q, s_F s2 x2 q → ¬ s_F s x q) (ho2 : s_ok V2) (hz : c_sub z w.1) (hf2 : s_fz E z V2) (hzn : ∀ q, s_F s x q → z q = none)
    (H : ∀ (w' : pw_W) (x' : sX), cx E w w' (s_F s x) 20 → s_F s x' = s_F s x → s_st E w'.1 s x' V2 → N w') : pw_Cl E m_X1_be d [va_rf (some s), va_rf (some s2)] w (c_v N) := by
  replace hd := pw_d1 hd; obtain ⟨e, rfl, hd⟩ := hd
  obtain ⟨a1, a2, ⟨a3, a4, a5⟩, ⟨k1, k2, k3⟩, ⟨b1, b2⟩, b3⟩ := id h
  obtain ⟨a1', a2', ⟨a3', a4', a5'⟩, ⟨k1', k2', k3'⟩, -, b3'⟩ := id h2
  have F1 : ∀ q, s_F s2 x2 q → ∀ q', s_F s x q' → q ≠ q' := fun q hq q' hq' e => by subst e; exact hd2 q hq hq'
  have nsx : s ≠ x.1 := by rintro rfl; rw [a1] at a2; cases a2
  have ns2x : s2 ≠ x.1 := F1 _ (Or.inl rfl) _ (Or.inr (Or.inl rfl))
  have ns2s : s2 ≠ s := F1 _ (Or.inl rfl) _ (Or.inl rfl)
  refine e_X1_be _ _ (s_X1_be_0 _ _ ⟨s2, _, _, rfl, a1', rfl, s, _, _, rfl, a1, rfl, ?_⟩)
  -- the tape
  refine ⟨x2.1, x.1, 1, 1, _, _, _, _, rfl, rfl, rfl, rfl, by decide, (fun e => by cases e), a2', a2, b2, ?_, ?_, ?_, ?_, ?_, ?_, ?_⟩
  · show ¬ ((0 : Int32) < 0); decide
  · show ¬ ((0 : Int32) < 0); decide
  · show ¬ ((600 : Int32) < 0); decide
  · rw [List.length_map, List.length_range]; decide
  · rw [List.length_map, List.length_range]; decide
  · intro i hi v hv
    have e0 : Int32.toNatClampNeg 0 = 0 := by decide
    rw [e0, Nat.zero_add, List.getElem?_map] at hv
    have hi : i < 600 := hi
    rw [List.getElem?_range hi] at hv
    have hv : some (Value.int (iI (V2.1 i))) = some v := hv
    cases hv
    refine ⟨?_, fun b hb => by cases hb⟩
    have hb := ho2.1 i
    rw [← hb]
    unfold iB
    rw [iI_of]
    show (decide (-128 ≤ ((iI (V2.1 i)).toInt8.toInt32)) && decide (((iI (V2.1 i)).toInt8.toInt32) ≤ 127)) = true
    generalize (iI (V2.1 i)).toInt8 = y
    have g1 := y.minValue_le_toInt
    have g2 := y.toInt_le
    rw [Bool.and_eq_true, decide_eq_true_eq, decide_eq_true_eq, Int32.le_iff_toInt_le, Int32.le_iff_toInt_le, Int8.toInt_toInt32]
    have h1 : Int8.minValue.toInt = -128 := by decide
    have h2 : Int8.maxValue.toInt = 127 := by decide
    have h3 : (-128 : Int32).toInt = -128 := by decide
    have h4 : (127 : Int32).toInt = 127 := by decide
    rw [h1] at g1
    rw [h2] at g2
    rw [h3, h4]
    exact ⟨g1, g2⟩
  have ecp : pw_cpy ((List.range 600).map (fun k => Value.int (iI (V2.1 k)))) ((List.range 600).map (fun k => Value.int (iI (V.1 k)))) (Int32.toNatClampNeg 0) (Int32.toNatClampNeg 0) (Int32.toNatClampNeg 600) = (List.range 600).map (fun k => Value.int (iI (V2.1 k))) := by
    have e0 : Int32.toNatClampNeg 0 = 0 := by decide
    have e6 : Int32.toNatClampNeg 600 = 600 := by decide
    rw [e0, e6]
    unfold pw_cpy
    rw [List.take_zero, List.drop_zero, List.nil_append, Nat.zero_add, List.drop_eq_nil_of_le (by rw [List.length_map, List.length_range]; omega), List.append_nil]
    exact List.take_of_length_le (by rw [List.length_map, List.length_range]; omega)
  rw [ecp]
  have c1 := cx.up (F := s_F s x) hw (1001, (List.range 600).map (fun k => Value.int (iI (V2.1 k)))) a2 b2 (Or.inr (Or.inl rfl))
  show f_geti (pw_up w x.1 (1001, _)) _ _ _ _
  have st1 : s_st E (pw_up w x.1 (1001, (List.range 600).map (fun k => Value.int (iI (V2.1 k))))).1 s x (V2.1, V.2) := by
    have hk := c1
    refine ⟨by rw [pw_up_ne nsx]; exact a1, pw_up_1 _ _ _, ?_, ⟨k1, k2, k3⟩, ⟨b1, b2⟩, b3⟩
    have kk : ∀ (l : lX) (ys : List Nat), c_lX E w.1 l ys → l.2.2.1 = 2 → ∀ o, c_lX E (pw_up w x.1 o).1 l ys := by
      intro l ys hl hc o
      obtain ⟨g1', g2', g3', g4', g5'⟩ := hl
      rcases g5' with g5' | ⟨g5', g6', vs, g7', g8'⟩
      · omega
      have n1 : l.1 ≠ x.1 := by rintro e; rw [e, a2] at g1'; cases g1'
      have n3 : l.2.1 ≠ x.1 := by rintro e; rw [e, a2] at g7'; cases g7'
      exact ⟨by rw [pw_up_ne n1]; exact g1', g2', g3', g4', Or.inr ⟨g5', g6', vs, by rw [pw_up_ne n3]; exact g7', g8'⟩⟩
    exact ⟨kk _ _ a3 k1 _, kk _ _ a4 k2 _, kk _ _ a5 k3 _⟩
  generalize pw_up w x.1 (1001, (List.range 600).map (fun k => Value.int (iI (V2.1 k)))) = w1 at c1 st1 ⊢
  have st2 : ∀ (w' : pw_W) (c : Nat), cx E w w' (s_F s x) c → s_st E w'.1 s2 x2 V2 := fun w' c k => h2.keepH hw (fun q o hq h9 => k.keep h9 (hd2 q hq))
  refine ⟨s2, _, _, rfl, (st2 w1 _ c1).1, rfl, st_fld_ok c1.ok st1 (Or.inl rfl) (fun w2 c2 _ st1 => ?_)⟩
  have c2 := c1.tr c2
  refine ⟨s2, _, _, rfl, (st2 w2 _ c2).1, rfl, st_fld_ok c2.ok st1 (Or.inr (Or.inl rfl)) (fun w3 c3 _ st1 => ?_)⟩
  have c3 := c2.tr c3
  refine ⟨s2, _, _, rfl, (st2 w3 _ c3).1, rfl, st_fld_ok c3.ok st1 (Or.inr (Or.inr rfl)) (fun w4 c4 _ st1 => ?_)⟩
  have c4 := c3.tr c4
  have st1 : s_st E w4.1 s x (V2.1, V2.2.1, V.2.2) := st1
  obtain ⟨i1, i2, ⟨i3, i4, i5⟩, -⟩ := id st1
  obtain ⟨j1, j2, ⟨j3, j4, j5⟩, -⟩ := st2 w4 _ c4
  have hz4 : c_sub z w4.1 := c4.sub hz (fun q o hq e => by rw [hzn q e] at hq; cases hq)
  have zne : ∀ (q : Nat) (o : pw_O), z q = some o → ∀ q', s_F s x q' → q ≠ q' := fun q o hq q' hq' e => by subst e; rw [hzn _ hq'] at hq; cases hq
  have zne2 : ∀ (q : Nat) (o : pw_O), z q = some o → ∀ q', s_F s x q' → q ≠ q' := zne
  have f3 : s_F s x x.2.1.1 := Or.inr (Or.inr (Or.inl rfl))
  have f4 : s_F s x x.2.1.2.1 := Or.inr (Or.inr (Or.inr (Or.inl rfl)))
  have f5 : s_F s x x.2.2.1.1 := Or.inr (Or.inr (Or.inr (Or.inr (Or.inl rfl))))
  have f6 : s_F s x x.2.2.1.2.1 := Or.inr (Or.inr (Or.inr (Or.inr (Or.inr (Or.inl rfl)))))
  have f7 : s_F s x x.2.2.2.1 := Or.inr (Or.inr (Or.inr (Or.inr (Or.inr (Or.inr (Or.inl rfl))))))
  have f8 : s_F s x x.2.2.2.2.1 := Or.inr (Or.inr (Or.inr (Or.inr (Or.inr (Or.inr (Or.inr rfl))))))
  have f3' : s_F s2 x2 x2.2.1.1 := Or.inr (Or.inr (Or.inl rfl))
  have f4' : s_F s2 x2 x2.2.1.2.1 := Or.inr (Or.inr (Or.inr (Or.inl rfl)))
  have f5' : s_F s2 x2 x2.2.2.1.1 := Or.inr (Or.inr (Or.inr (Or.inr (Or.inl rfl))))
  have f6' : s_F s2 x2 x2.2.2.1.2.1 := Or.inr (Or.inr (Or.inr (Or.inr (Or.inr (Or.inl rfl)))))
  have f7' : s_F s2 x2 x2.2.2.2.1 := Or.inr (Or.inr (Or.inr (Or.inr (Or.inr (Or.inr (Or.inl rfl))))))
  have f8' : s_F s2 x2 x2.2.2.2.2.1 := Or.inr (Or.inr (Or.inr (Or.inr (Or.inr (Or.inr (Or.inr rfl))))))
  obtain ⟨o1, o2, o3, o4, o5, o6, o7⟩ := ho2
  have eA : ∀ y ∈ V2.2.2.1.map (fun e => e.1), ∃ vs : List Value, z y = some (4, vs) := by
    intro y hy
    obtain ⟨e9, he, rfl⟩ := List.mem_map.mp hy
    exact (hf2.1 e9 he).1.obj
  have eQ : ∀ y ∈ V2.2.2.2.1.map (fun e => e.1), ∃ vs : List Value, z y = some (18, vs) := by
    intro y hy
    obtain ⟨e9, he, rfl⟩ := List.mem_map.mp hy
    obtain ⟨⟨mc, b, cap, qas, g1, -⟩, -⟩ := hf2.2.1 e9 he
    exact ⟨_, g1.1⟩
  have eH : ∀ y ∈ V2.2.2.2.2.map (fun e => e.1), ∃ vs : List Value, z y = some (18, vs) := by
    intro y hy
    obtain ⟨e9, he, rfl⟩ := List.mem_map.mp hy
    obtain ⟨⟨mc, b, cap, qas, g1, -⟩, -⟩ := hf2.2.2 e9 he
    exact ⟨_, g1.1⟩
  refine sx_list_ok (j := 4) (l := x.2.1) (l2 := x2.2.1) (by omega) c4.ok i1 j1 rfl rfl i3 k1 j3 k1' (by rw [List.length_map]; exact o5) (F1 _ f3' _ f3) (F1 _ f4' _ f4) (fun y hy => ?_) (fun w5 m5 c5 l5 => ?_)
  · obtain ⟨vs, hvs⟩ := eA y hy
    exact ⟨4, vs, hz4 _ _ hvs, c_canAO, zne _ _ hvs _ f3, zne _ _ hvs _ f4⟩
  obtain ⟨vA, qA1, qA2, -⟩ := c_al.use c4.ok i3
  obtain ⟨vB, qB1, qB2, -⟩ := c_al.use c4.ok i4
  obtain ⟨vC, qC1, qC2, -⟩ := c_al.use c4.ok i5
  have kk : ∀ {p q : Nat} {o o' : pw_O}, w4.1 p = some o → w4.1 q = some o' → o.1 ≠ o'.1 → p ≠ q := fun {p q o o'} h1 h2 h3 e => by subst e; rw [h1] at h2; cases h2; exact h3 rfl
  have sA1 := kk i1 qA1 (by decide : (1 : Nat) ≠ 18)
  have sA2 := kk i1 qA2 (by decide : (1 : Nat) ≠ 1003)
  have sB1 := kk i1 qB1 (by decide : (1 : Nat) ≠ 18)
  have sB2 := kk i1 qB2 (by decide : (1 : Nat) ≠ 1003)
  have sC1 := kk i1 qC1 (by decide : (1 : Nat) ≠ 18)
  have sC2 := kk i1 qC2 (by decide : (1 : Nat) ≠ 1003)
  have tA1 := kk i2 qA1 (by decide : (1001 : Nat) ≠ 18)
  have tA2 := kk i2 qA2 (by decide : (1001 : Nat) ≠ 1003)
  have tB1 := kk i2 qB1 (by decide : (1001 : Nat) ≠ 18)
  have tB2 := kk i2 qB2 (by decide : (1001 : Nat) ≠ 1003)
  have tC1 := kk i2 qC1 (by decide : (1001 : Nat) ≠ 18)
  have tC2 := kk i2 qC2 (by decide : (1001 : Nat) ≠ 1003)
  have AB := kk qA1 qB2 (by decide : (18 : Nat) ≠ 1003)
  have AC := kk qA1 qC2 (by decide : (18 : Nat) ≠ 1003)
  have BA := kk qB1 qA2 (by decide : (18 : Nat) ≠ 1003)
  have BC := kk qB1 qC2 (by decide : (18 : Nat) ≠ 1003)
  have CA := kk qC1 qA2 (by decide : (18 : Nat) ≠ 1003)
  have CB := kk qC1 qB2 (by decide : (18 : Nat) ≠ 1003)
  obtain ⟨⟨b31, b32, b33⟩, b34, b35, b36⟩ := b3
  have cu5 : cx E w w5 (s_F s x) 6 := (c4.trans c5 (fun a o ha hq => by rcases hq with rfl | rfl <;> assumption)).le (by decide)
  have st5 := st2 w5 _ cu5
  obtain ⟨j1', j2', ⟨j3', j4', j5'⟩, -⟩ := id st5
  have hz5 : c_sub z w5.1 := cu5.sub hz (fun q o hq e => by rw [hzn q e] at hq; cases hq)
  have i15 := c5.keep i1 (fun h => h.elim sA1 sA2)
  have i25 := c5.keep i2 (fun h => h.elim tA1 tA2)
  have i45 : c_lX E w5.1 x.2.2.1 _ := c_al.keep i4 c5 (fun h => h.elim (Ne.symm b31) BA) (fun _ h => h.elim (Ne.symm AB) (Ne.symm b34))
  have i55 : c_lX E w5.1 x.2.2.2 _ := c_al.keep i5 c5 (fun h => h.elim (Ne.symm b32) CA) (fun _ h => h.elim (Ne.symm AC) (Ne.symm b35))
  refine sx_list_ok (j := 5) (l := x.2.2.1) (l2 := x2.2.2.1) (by omega) c5.ok i15 j1' rfl rfl i45 k2 j4' k2' (by rw [List.length_map]; exact o6) (F1 _ f5' _ f5) (F1 _ f6' _ f6) (fun y hy => ?_) (fun w6 m6 c6 l6 => ?_)
  · obtain ⟨vs, hvs⟩ := eQ y hy
    exact ⟨18, vs, hz5 _ _ hvs, c_canLO, zne _ _ hvs _ f5, zne _ _ hvs _ f6⟩
  have cu6 : cx E w w6 (s_F s x) 12 := (cu5.trans c6 (fun a o ha hq => by rcases hq with rfl | rfl <;> assumption)).le (by decide)
  have st6 := st2 w6 _ cu6
  obtain ⟨j1'', j2'', ⟨j3'', j4'', j5''⟩, -⟩ := id st6
  have hz6 : c_sub z w6.1 := cu6.sub hz (fun q o hq e => by rw [hzn q e] at hq; cases hq)
  have i16 := c6.keep i15 (fun h => h.elim sB1 sB2)
  have i26 := c6.keep i25 (fun h => h.elim tB1 tB2)
  have l56 : c_lX E w6.1 (x.2.1.1, x.2.1.2.1, 2, m5) (V2.2.2.1.map (fun e => e.1)) := c_al.keep l5 c6 (fun h => h.elim b31 AB) (fun _ h => h.elim (Ne.symm BA) b34)
  have i56 : c_lX E w6.1 x.2.2.2 _ := c_al.keep i55 c6 (fun h => h.elim (Ne.symm b33) CB) (fun _ h => h.elim (Ne.symm BC) (Ne.symm b36))
  refine sx_list_ok (j := 6) (l := x.2.2.2) (l2 := x2.2.2.2) (by omega) c6.ok i16 j1'' rfl rfl i56 k3 j5'' k3' (by rw [List.length_map]; exact o7) (F1 _ f7' _ f7) (F1 _ f8' _ f8) (fun y hy => ?_) (fun w7 m7 c7 l7 => ?_)
  · obtain ⟨vs, hvs⟩ := eH y hy
    exact ⟨18, vs, hz6 _ _ hvs, c_canLO, zne _ _ hvs _ f7, zne _ _ hvs _ f8⟩
  have cu7 : cx E w w7 (s_F s x) 20 := (cu6.trans c7 (fun a o ha hq => by rcases hq with rfl | rfl <;> assumption)).le (by decide)
  refine ⟨rfl, H w7 (x.1, (x.2.1.1, x.2.1.2.1, 2, m5), (x.2.2.1.1, x.2.2.1.2.1, 2, m6), (x.2.2.2.1, x.2.2.2.2.1, 2, m7)) cu7 rfl ⟨c7.keep i16 (fun h => h.elim sC1 sC2), c7.keep i26 (fun h => h.elim tC1 tC2), ⟨?_, ?_, l7⟩, ⟨rfl, rfl, rfl⟩, ⟨b1, b2⟩, ⟨b31, b32, b33⟩, b34, b35, b36⟩⟩
  · exact c_al.keep l56 c7 (fun h => h.elim b32 AC) (fun _ h => h.elim (Ne.symm CA) b35)
  · exact c_al.keep l6 c7 (fun h => h.elim b33 BC) (fun _ h => h.elim (Ne.symm CB) b36)
end
