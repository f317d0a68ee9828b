set_option maxRecDepth 100000
/-! the component: a new state; image, again -/
theorem c_canSt : pw_can 1 "VersionSearch$State" := Or.inl ⟨_, rfl, by decide, Or.inl rfl⟩
def s_V0 : sS := (fun _ => 0, (0, 0, -1), [], [], [])
theorem s_V0_ok : s_ok s_V0 := by
  refine ⟨fun k => ?_, ⟨Int.le_refl 0, by show (0 : Int) ≤ 600; omega⟩, rI_small (x := 0) (by omega) (by omega), rI_small (x := -1) (by omega) (by omega), by decide, by decide, by decide⟩
  show iB 0 = 0
  decide
theorem s_V0_fz (E : pw_E) (z : pw_H) : s_fz E z s_V0 := ⟨fun e he => (by cases he), fun e he => (by cases he), fun e he => (by cases he)⟩
theorem rep_map {α : Type} (n : Nat) (v : α) : List.replicate n v = (List.range n).map (fun _ => v) := List.ext_getElem (by simp) (fun i h1 h2 => by simp)
section
variable {E : pw_E} {d : Nat} {w : pw_W} {P : Nat → Prop} {z : pw_H} {f s ka s2 : Nat} {x x2 x' : sX} {V V' V2 : sS} {kp : sK}
theorem sx_init_ok {K : pw_W → Prop} (hd : 20 ≤ d) (hw : wf E w) (hs : w.1 s = some (1, [va_rf none, .int 0, .int 0, .int 0, va_rf none, va_rf none, va_rf none])) (hb : pw_base E ≤ s) (H : ∀ (w' : pw_W) (x' : sX), cx E w w' (fun q => q = s) 700 → s_st E w'.1 s x' s_V0 → (∀ q, s_F s x' q → q = s ∨ w.2.1 ≤ q) → K w') : pw_Cl E m_X1_init d [va_rf (some s)] w (c_v K) := by
  replace hd := pw_d1 hd; obtain ⟨e, rfl, hd⟩ := hd
  have hbb := hw.b
  have hlt := hw.lt hs
  refine e_X1_init _ (s_X1_init_0 _ ⟨by decide, by decide, ?_⟩)
  have et : (1000 + 1, List.replicate (Int32.toNatClampNeg 600) (Value.int 0)) = ((1001, (List.range 600).map (fun k => Value.int (iI (s_V0.1 k)))) : pw_O) := by
    refine Prod.ext rfl ?_
    have e0 : iI 0 = 0 := by decide
    show List.replicate 600 (Value.int 0) = (List.range 600).map (fun _ => Value.int (iI 0))
    rw [e0]
    exact rep_map 600 _
  rw [et]
  have c1 : cx E w (pw_new w (1001, (List.range 600).map (fun k => Value.int (iI (s_V0.1 k)))) (Int32.toNatClampNeg 600)) (fun q => q = s) 604 := cx.new hw _ 600
  have t1 : (pw_new w (1001, (List.range 600).map (fun k => Value.int (iI (s_V0.1 k)))) (Int32.toNatClampNeg 600)).1 w.2.1 = some (1001, (List.range 600).map (fun k => Value.int (iI (s_V0.1 k)))) := pw_new_1 _ _ _
  have n1 : (pw_new w (1001, (List.range 600).map (fun k => Value.int (iI (s_V0.1 k)))) (Int32.toNatClampNeg 600)).2.1 = w.2.1 + 1 := rfl
  have s1 : (pw_new w (1001, (List.range 600).map (fun k => Value.int (iI (s_V0.1 k)))) (Int32.toNatClampNeg 600)).1 s = some (1, [va_rf none, .int 0, .int 0, .int 0, va_rf none, va_rf none, va_rf none]) := by rw [pw_new_ne (by omega)]; exact hs
  generalize pw_new w (1001, (List.range 600).map (fun k => Value.int (iI (s_V0.1 k)))) (Int32.toNatClampNeg 600) = w1 at c1 t1 n1 s1 ⊢
  -- a field put
  have put : ∀ (v : pw_W) (j : Nat) (us : List Value) (y : Value) (N : pw_W → Prop), wf E v → v.1 s = some (1, us) → (∀ v', cx E v v' (fun q => q = s) 0 → v'.2 = v.2 → v'.1 s = some (1, us.set j y) → (∀ q, q ≠ s → v'.1 q = v.1 q) → N v') → f_put E v (some s) 1 j y N := fun v j us y N hv h1 hN => ⟨s, us, rfl, h1, hb, hN _ (cx.up hv _ h1 hb rfl) rfl (pw_up_1 _ _ _) (fun q hq => pw_up_ne hq)⟩
  -- a list made
  have lst : ∀ (v : pw_W) (us : List Value) (N : pw_W → Prop), wf E v → v.1 s = some (1, us) → s < v.2.1 → (∀ v', cx E v v' c_no 13 → v'.2.1 = v.2.1 + 2 → c_lX E v'.1 (v.2.1, v.2.1 + 1, 2, 0) [] → N v') → pw_Cl E m_J2_init e [va_rf (some v.2.1), .int 2] (pw_new v (18, [.int 0, va_rf none, .int 0]) 3) (c_v N) := by
    intro v us N hv h1 h2 hN
    have k1 : cx E v (pw_new v (18, [.int 0, va_rf none, .int 0]) 3) c_no 7 := cx.new hv _ 3
    refine cl_init_ok (n := 2) (by omega) k1.ok (pw_new_1 _ _ _) hv.b (by decide) (fun v' k2 m2 l2 => hN v' ((cx.tn hv k1 k2 (fun q hq => Or.inr (by have hq : q = v.2.1 := hq; omega))).le (by decide)) (by rw [m2]; rfl) l2)
  refine put w1 0 _ _ _ c1.ok s1 (fun w2 c2 m2 s2 o2 => put w2 3 _ _ _ c2.ok s2 (fun w3 c3 m3 s3 o3 => ?_))
  have n3 : w3.2.1 = w.2.1 + 1 := by rw [m3, m2]; exact n1
  have t3 : w3.1 w.2.1 = _ := (o3 _ (by omega)).trans ((o2 _ (by omega)).trans t1)
  have c03 := (c1.tr c2).tr c3
  refine lst w3 _ _ c3.ok s3 (by omega) (fun w4 c4 m4 l4 => put w4 4 _ _ _ c4.ok (c4.at s3) (fun w5 c5 m5 s5 o5 => ?_))
  have n5 : w5.2.1 = w.2.1 + 3 := by rw [m5, m4, n3]
  rw [n3] at l4
  refine lst w5 _ _ c5.ok s5 (by omega) (fun w6 c6 m6 l6 => put w6 5 _ _ _ c6.ok (c6.at s5) (fun w7 c7 m7 s7 o7 => ?_))
  have n7 : w7.2.1 = w.2.1 + 5 := by rw [m7, m6, n5]
  rw [n5] at l6
  refine lst w7 _ _ c7.ok s7 (by omega) (fun w8 c8 m8 l8 => put w8 6 _ _ _ c8.ok (c8.at s7) (fun w9 c9 m9 s9 o9 => ⟨rfl, ?_⟩))
  have n9 : w9.2.1 = w.2.1 + 7 := by rw [m9, m8, n7]
  rw [n7] at l8
  rw [n3, n5, n7] at s9
  have c49 := (((c4.no.tr c5).tr (c6.no.tr c7)).tr (c8.no.tr c9))
  refine H w9 (w.2.1, (w.2.1 + 1, w.2.1 + 2, 2, 0), (w.2.1 + 3, w.2.1 + 4, 2, 0), (w.2.1 + 5, w.2.1 + 6, 2, 0)) ((c03.tr c49).le (by decide)) ⟨s9, ?_, ⟨?_, ?_, ?_⟩, ⟨rfl, rfl, rfl⟩, ⟨hb, hbb⟩, ⟨by show w.2.1 + 1 ≠ w.2.1 + 3; omega, by show w.2.1 + 1 ≠ w.2.1 + 5; omega, by show w.2.1 + 3 ≠ w.2.1 + 5; omega⟩, by show w.2.1 + 2 ≠ w.2.1 + 4; omega, by show w.2.1 + 2 ≠ w.2.1 + 6; omega, by show w.2.1 + 4 ≠ w.2.1 + 6; omega⟩ (fun q hq => ?_)
  · exact c49.keep t3 (by show ¬ w.2.1 = s; omega)
  · have k1 := c_al.keep l4 c5 (by show ¬ w.2.1 + 1 = s; omega) (fun _ => by show ¬ w.2.1 + 1 + 1 = s; omega)
    have k2 := c_al.keep (c_al.mono k1 c6.sub1) c7 (by show ¬ w.2.1 + 1 = s; omega) (fun _ => by show ¬ w.2.1 + 1 + 1 = s; omega)
    exact c_al.keep (c_al.mono k2 c8.sub1) c9 (by show ¬ w.2.1 + 1 = s; omega) (fun _ => by show ¬ w.2.1 + 1 + 1 = s; omega)
  · have k2 := c_al.keep l6 c7 (by show ¬ w.2.1 + 3 = s; omega) (fun _ => by show ¬ w.2.1 + 3 + 1 = s; omega)
    exact c_al.keep (c_al.mono k2 c8.sub1) c9 (by show ¬ w.2.1 + 3 = s; omega) (fun _ => by show ¬ w.2.1 + 3 + 1 = s; omega)
  · exact c_al.keep l8 c9 (by show ¬ w.2.1 + 5 = s; omega) (fun _ => by show ¬ w.2.1 + 5 + 1 = s; omega)
  · rcases hq with rfl | rfl | rfl | rfl | rfl | rfl | rfl | rfl
    · exact Or.inl rfl
    all_goals (refine Or.inr ?_; try dsimp only; omega)
/-- what is kept at k, changed -/
theorem fI.kept {c k : Nat} {w' : pw_W} {F : Nat → Prop} {y0 : Nat × sX × sS} (hw : wf E w) (h : fI E P z w.1 f s ka x V kp) (hk : k < 3) (hc : cx E w w' F c) (hF : ∀ (q : Nat) (o : pw_O), w.1 q = some o → F q → q = ka ∨ ∃ y, kp k = some y ∧ s_F y.1 y.2.1 q)
    (ha : w'.1 ka = some (1005, (List.range 3).map (fun j => va_rf ((if j = k then some y0 else kp j).map (fun y => y.1))))) (hs : s_st E w'.1 y0.1 y0.2.1 y0.2.2) (hf : s_fz E z y0.2.2) (ho : s_ok y0.2.2)
    (hn : ∀ q, s_F y0.1 y0.2.1 q → z q = none ∧ ¬ P q ∧ ¬ s_F s x q ∧ ∀ j : Nat, j < 3 → j ≠ k → ∀ y, kp j = some y → ¬ s_F y.1 y.2.1 q) : fI E P z w'.1 f s ka x V (fun j => if j = k then some y0 else kp j) := by
  obtain ⟨⟨h0, hs0, hz, hf0, ho0⟩, ⟨a1, a2, a3, a4, a5⟩, hkp, ⟨d1, d2, d3⟩, hd⟩ := h
  have kin : ∀ (q : Nat) (o : pw_O), w.1 q = some o → F q → o.1 = 1005 ∨ ((o.1 = 1 ∨ o.1 = 1001 ∨ o.1 = 18 ∨ o.1 = 1003) ∧ ∃ y, kp k = some y ∧ s_F y.1 y.2.1 q) := by
    intro q o hq hFq
    rcases hF q o hq hFq with rfl | ⟨y, hy, hyq⟩
    · rw [a2] at hq; cases hq; exact Or.inl rfl
    · obtain ⟨o', g1, g2, -⟩ := (hkp k hk y hy).1.kind hw hyq
      rw [hq] at g1; cases g1
      exact Or.inr ⟨g2, y, hy, hyq⟩
  have nF : ∀ (q : Nat) (o : pw_O), w.1 q = some o → s_F s x q → ¬ F q := by
    intro q o hq hsq hFq
    rcases hF q o hq hFq with rfl | ⟨y, hy, hyq⟩
    · obtain ⟨o', g1, g2, -⟩ := hs0.kind hw hsq
      rw [a2] at g1; cases g1
      rcases g2 with g2 | g2 | g2 | g2 <;> cases g2
    · exact (d3 k hk y hy q hyq).2.2 hsq
  refine ⟨⟨hc.keep h0 (fun hFq => ?_), hs0.keepH hw (fun q o hq h9 => hc.keep h9 (nF q o h9 hq)), fun q o hq => hc.keep (hz q o hq) (fun hFq => ?_), hf0, ho0⟩, ⟨a1, ha, a3, a4, a5⟩, fun j hj y hy => ?_, ⟨d1, d2, fun j hj y hy => ?_⟩, fun i j hi hj hij y y' hy hy' => ?_⟩
  · rcases kin _ _ h0 hFq with g | ⟨g, -⟩
    · cases g
    · rcases g with g | g | g | g <;> cases g
  · rcases hF q o (hz q o hq) hFq with rfl | ⟨y, hy, hyq⟩
    · rw [a3] at hq; cases hq
    · rw [(d3 k hk y hy q hyq).1] at hq; cases hq
  · have hy : (if j = k then some y0 else kp j) = some y := hy
    by_cases e : j = k
    · rw [if_pos e] at hy
      cases hy
      exact ⟨hs, hf, ho⟩
    · rw [if_neg e] at hy
      refine ⟨(hkp j hj y hy).1.keepH hw (fun q o hq h9 => hc.keep h9 (fun hFq => ?_)), (hkp j hj y hy).2⟩
      rcases hF q o h9 hFq with rfl | ⟨y9, hy9, hyq⟩
      · obtain ⟨o', g1, g2, -⟩ := (hkp j hj y hy).1.kind hw hq
        rw [a2] at g1; cases g1
        rcases g2 with g2 | g2 | g2 | g2 <;> cases g2
      · exact hd j k hj hk e y y9 hy hy9 q hq hyq
  · have hy : (if j = k then some y0 else kp j) = some y := hy
    by_cases e : j = k
    · rw [if_pos e] at hy
      cases hy
      exact fun q hq => ⟨(hn q hq).1, (hn q hq).2.1, (hn q hq).2.2.1⟩
    · rw [if_neg e] at hy
      exact d3 j hj y hy
  · have hy : (if i = k then some y0 else kp i) = some y := hy
    have hy' : (if j = k then some y0 else kp j) = some y' := hy'
    by_cases e : i = k
    · rw [if_pos e] at hy
      cases hy
      rw [if_neg (fun e' => hij (e.trans e'.symm))] at hy'
      intro q hq
      exact (hn q hq).2.2.2 j hj (fun e' => hij (e.trans e'.symm)) y' hy'
    · rw [if_neg e] at hy
      by_cases e' : j = k
      · rw [if_pos e'] at hy'
        cases hy'
        exact fun q hq hq' => (hn q hq').2.2.2 i hi e y hy hq
      · rw [if_neg e'] at hy'
        exact hd i j hi hj hij y y' hy hy'
end
