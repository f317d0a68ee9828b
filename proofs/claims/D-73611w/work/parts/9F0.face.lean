set_option maxRecDepth 100000
/-! the component: its state and the twin's; a tape fed -/
/-- a state tells what the twin's public arrays do -/
def sr (S : tw_S) (V : sS) : Prop :=
  (∀ i : Nat, i < 600 → V.1 i = S.2.2 1 i) ∧ (V.2.1.1 = S.2.2 2 0 ∧ V.2.1.2.1 = S.2.2 3 0 ∧ V.2.1.2.2 = S.2.2 4 0) ∧
  ((V.2.2.1.length : Int) = S.2.2 5 0 ∧ (V.2.2.2.1.length : Int) = S.2.2 5 1 ∧ (V.2.2.2.2.length : Int) = S.2.2 5 2) ∧
  (∀ (i : Nat) (e : sA), V.2.2.1[i]? = some e → s_rl (tw_ar S i) e) ∧
  (∀ (i : Nat) (e : sQ), V.2.2.2.1[i]? = some e → qr (S.2.2 7) i e.2) ∧
  ∀ (i : Nat) (e : sH), V.2.2.2.2[i]? = some e → hr (S.2.2 8) i e.2
abbrev sK : Type := Nat → Option (Nat × sX × sS)
/-- the component at f: its state, what it keeps; no place of P is its own -/
def fI (E : pw_E) (P : Nat → Prop) (z h : pw_H) (f s ka : Nat) (x : sX) (V : sS) (kp : sK) : Prop :=
  s_fc E z h f s ka x V ∧ (pw_base E ≤ ka ∧ h ka = some (1005, (List.range 3).map (fun k => va_rf ((kp k).map (fun y => y.1)))) ∧ z ka = none ∧ ¬ P ka ∧ ¬ P f) ∧
  (∀ k : Nat, k < 3 → ∀ y, kp k = some y → s_st E h y.1 y.2.1 y.2.2 ∧ s_fz E z y.2.2 ∧ s_ok y.2.2) ∧
  ((∀ q, s_F s x q → z q = none ∧ ¬ P q) ∧ (∀ (q : Nat) (o : pw_O), z q = some o → ¬ P q) ∧ ∀ k : Nat, k < 3 → ∀ y, kp k = some y → (∀ q, s_F y.1 y.2.1 q → z q = none ∧ ¬ P q ∧ ¬ s_F s x q)) ∧
  ∀ j k : Nat, j < 3 → k < 3 → j ≠ k → ∀ y y', kp j = some y → kp k = some y' → ∀ q, s_F y.1 y.2.1 q → ¬ s_F y'.1 y'.2.1 q
section
variable {E : pw_E} {d : Nat} {w : pw_W} {P : Nat → Prop} {z : pw_H} {f s ka : Nat} {x : sX} {V V' : sS} {kp : sK}
/-- what kinds lie in a state's cells -/
theorem s_st.kind (hw : wf E w) (h : s_st E w.1 s x V) {q : Nat} (hq : s_F s x q) : ∃ o : pw_O, w.1 q = some o ∧ (o.1 = 1 ∨ o.1 = 1001 ∨ o.1 = 18 ∨ o.1 = 1003) ∧ pw_base E ≤ q := by
  obtain ⟨h1, h2, ⟨h3, h4, h5⟩, ⟨k1, k2, k3⟩, ⟨b1, b2⟩, -⟩ := h
  have al : ∀ (l : lX) (ys : List Nat), c_lX E w.1 l ys → l.2.2.1 = 2 → (∃ o : pw_O, w.1 l.1 = some o ∧ o.1 = 18) ∧ pw_base E ≤ l.1 ∧ (∃ o : pw_O, w.1 l.2.1 = some o ∧ o.1 = 1003) ∧ pw_base E ≤ l.2.1 := by
    intro l ys hl h2
    obtain ⟨g1, g2, g3, g4, g5⟩ := hl
    rcases g5 with g5 | ⟨g5, g6, vs, g7, -⟩
    · omega
    · exact ⟨⟨_, g1, rfl⟩, g4, ⟨_, g7, rfl⟩, g6⟩
  obtain ⟨⟨o1, u1, v1⟩, p1, ⟨o2, u2, v2⟩, p2⟩ := al _ _ h3 k1
  obtain ⟨⟨o3, u3, v3⟩, p3, ⟨o4, u4, v4⟩, p4⟩ := al _ _ h4 k2
  obtain ⟨⟨o5, u5, v5⟩, p5, ⟨o6, u6, v6⟩, p6⟩ := al _ _ h5 k3
  rcases hq with rfl | rfl | rfl | rfl | rfl | rfl | rfl | rfl
  · exact ⟨_, h1, Or.inl rfl, b1⟩
  · exact ⟨_, h2, Or.inr (Or.inl rfl), b2⟩
  · exact ⟨_, u1, Or.inr (Or.inr (Or.inl v1)), p1⟩
  · exact ⟨_, u2, Or.inr (Or.inr (Or.inr v2)), p2⟩
  · exact ⟨_, u3, Or.inr (Or.inr (Or.inl v3)), p3⟩
  · exact ⟨_, u4, Or.inr (Or.inr (Or.inr v4)), p4⟩
  · exact ⟨_, u5, Or.inr (Or.inr (Or.inl v5)), p5⟩
  · exact ⟨_, u6, Or.inr (Or.inr (Or.inr v6)), p6⟩
theorem s_st.keepH (hw : wf E w) (h : s_st E w.1 s x V) {h' : pw_H} (k : ∀ (q : Nat) (o : pw_O), s_F s x q → w.1 q = some o → h' q = some o) : s_st E h' s x V := by
  obtain ⟨h1, h2, ⟨h3, h4, h5⟩, ⟨k1, k2, k3⟩, h6⟩ := h
  have al : ∀ (l : lX) (ys : List Nat), c_lX E w.1 l ys → l.2.2.1 = 2 → s_F s x l.1 → s_F s x l.2.1 → c_lX E h' l ys := by
    intro l ys hl h2 f1 f2
    obtain ⟨g1, g2, g3, g4, g5⟩ := hl
    refine ⟨k _ _ f1 g1, g2, g3, g4, ?_⟩
    rcases g5 with g5 | ⟨g5, g6, vs, g7, g8⟩
    · omega
    · exact Or.inr ⟨g5, g6, vs, k _ _ f2 g7, g8⟩
  exact ⟨k _ _ (Or.inl rfl) h1, k _ _ (Or.inr (Or.inl rfl)) h2, ⟨al _ _ h3 k1 (Or.inr (Or.inr (Or.inl rfl))) (Or.inr (Or.inr (Or.inr (Or.inl rfl)))), al _ _ h4 k2 (Or.inr (Or.inr (Or.inr (Or.inr (Or.inl rfl))))) (Or.inr (Or.inr (Or.inr (Or.inr (Or.inr (Or.inl rfl)))))), al _ _ h5 k3 (Or.inr (Or.inr (Or.inr (Or.inr (Or.inr (Or.inr (Or.inl rfl))))))) (Or.inr (Or.inr (Or.inr (Or.inr (Or.inr (Or.inr (Or.inr rfl)))))))⟩, ⟨k1, k2, k3⟩, h6⟩
/-- others' doings leave the component as it is -/
theorem fI.keep (hw : wf E w) (h : fI E P z w.1 f s ka x V kp) {h' : pw_H} (k : ∀ (q : Nat) (o : pw_O), ¬ P q → w.1 q = some o → h' q = some o) : fI E P z h' f s ka x V kp := by
  obtain ⟨⟨h0, hs, hz, hf, ho⟩, ⟨a1, a2, a3, a4, a5⟩, hk, ⟨d1, d2, d3⟩, hd⟩ := h
  exact ⟨⟨k _ _ a5 h0, hs.keepH hw (fun q o hq => k q o (d1 q hq).2), fun q o hq => k q o (d2 q o hq) (hz q o hq), hf, ho⟩, ⟨a1, k _ _ a4 a2, a3, a4, a5⟩, fun j hj y hy => ⟨(hk j hj y hy).1.keepH hw (fun q o hq => k q o (d3 j hj y hy q hq).2.1), (hk j hj y hy).2⟩, ⟨d1, d2, d3⟩, hd⟩
/-- its own doings in its state's cells -/
theorem fI.upd {c : Nat} {w' : pw_W} (hw : wf E w) (h : fI E P z w.1 f s ka x V kp) (k : cx E w w' (s_F s x) c) (hs : s_st E w'.1 s x V') (ho : s_ok V') (hf : s_fz E z V') : fI E P z w'.1 f s ka x V' kp := by
  obtain ⟨⟨h0, hs0, hz, hf0, ho0⟩, ⟨a1, a2, a3, a4, a5⟩, hk, ⟨d1, d2, d3⟩, hd⟩ := h
  have nf : ∀ (q : Nat) (o : pw_O), w.1 q = some o → (o.1 = 0 ∨ o.1 = 1005) → ¬ s_F s x q := by
    intro q o hq h1 h2
    obtain ⟨o', g1, g2, -⟩ := hs0.kind hw h2
    rw [hq] at g1
    cases g1
    omega
  refine ⟨⟨k.keep h0 (nf _ _ h0 (Or.inl rfl)), hs, fun q o hq => k.keep (hz q o hq) (fun e => by rw [(d1 q e).1] at hq; cases hq), hf, ho⟩, ⟨a1, k.keep a2 (nf _ _ a2 (Or.inr rfl)), a3, a4, a5⟩, fun j hj y hy => ⟨(hk j hj y hy).1.keepH hw (fun q o hq h9 => k.keep h9 (d3 j hj y hy q hq).2.2), (hk j hj y hy).2⟩, ⟨d1, d2, d3⟩, hd⟩
/-- a byte put behind the tape -/
def s_put (V : sS) (b : Int) : sS := (fun i => if (i : Int) = V.2.1.1 then b else V.1 i, (V.2.1.1 + 1, V.2.1.2), V.2.2)
def s_puts (V : sS) (B : Nat → Int) : Nat → sS
  | 0 => V
  | n + 1 => s_put (s_puts V B n) (B n)
theorem s_puts_size (V : sS) (B : Nat → Int) : ∀ n : Nat, (s_puts V B n).2.1.1 = V.2.1.1 + n ∧ (s_puts V B n).2.1.2 = V.2.1.2 ∧ (s_puts V B n).2.2 = V.2.2 := by
  intro n
  induction n with
  | zero => exact ⟨by show _ = _ + ((0 : Nat) : Int); simp [s_puts], rfl, rfl⟩
  | succ n ih =>
    refine ⟨?_, ih.2.1, ih.2.2⟩
    show (s_puts V B n).2.1.1 + 1 = _
    rw [ih.1]
    omega
theorem sr.put {S : tw_S} {b : Int} (h : sr S V) (hs : 0 ≤ S.2.2 2 0) : sr (fd_put S b) (s_put V b) := by
  obtain ⟨h1, ⟨h2, h3, h4⟩, h5, h6, h7, h8⟩ := h
  refine ⟨fun i hi => ?_, ⟨?_, h3, h4⟩, h5, h6, h7, h8⟩
  · show (if (i : Int) = V.2.1.1 then b else V.1 i) = (if (1 : Nat) = 2 ∧ i = 0 then (S.2.2 2 0 + 1) else if (1 : Nat) = 1 ∧ i = Int.toNat (S.2.2 2 0) then b else S.2.2 1 i)
    rw [h1 i hi, h2, if_neg (show ¬ ((1 : Nat) = 2 ∧ i = 0) from fun e => absurd e.1 (by decide))]
    by_cases c : (i : Int) = S.2.2 2 0
    · rw [if_pos c, if_pos ⟨rfl, by omega⟩]
    · rw [if_neg c, if_neg (fun e => c (by omega))]
  · show V.2.1.1 + 1 = S.2.2 2 0 + 1
    rw [h2]
def fd_puts (S : tw_S) (B : Nat → Int) : Nat → tw_S
  | 0 => S
  | n + 1 => fd_put (fd_puts S B n) (B n)
theorem sr.puts {S : tw_S} {B : Nat → Int} (h : sr S V) (hs : 0 ≤ S.2.2 2 0) : ∀ n, sr (fd_puts S B n) (s_puts V B n) ∧ 0 ≤ (fd_puts S B n).2.2 2 0 := by
  intro n
  induction n with
  | zero => exact ⟨h, hs⟩
  | succ n ih =>
    refine ⟨ih.1.put ih.2, ?_⟩
    show 0 ≤ (fd_puts S B n).2.2 2 0 + 1
    have := ih.2
    omega
theorem s_ok.put {b : Int} (h : s_ok V) (hs : V.2.1.1 < 600) (hb : iB b = b) : s_ok (s_put V b) := by
  obtain ⟨h1, h2, h3⟩ := h
  refine ⟨fun k => ?_, ?_, h3⟩
  · show iB (if (k : Int) = V.2.1.1 then b else V.1 k) = (if (k : Int) = V.2.1.1 then b else V.1 k)
    split
    · exact hb
    · exact h1 k
  · show 0 ≤ V.2.1.1 + 1 ∧ V.2.1.1 + 1 ≤ 600
    omega
/-- a byte put: the tape's cell, then the size -/
theorem st_put_ok {b : Int32} {K : pw_W → Prop} (hw : wf E w) (h : s_st E w.1 s x V) (ho : s_ok V) (hs : V.2.1.1 < 600) (hb : b.toInt8.toInt32 = b) (H : ∀ w', cx E w w' (s_F s x) 0 → w'.2 = w.2 → s_st E w'.1 s x (s_put V b.toInt) → K w') :
    f_astb E w (some x.1) (iI V.2.1.1) b (fun w21 => ∃ us, w21.1 s = some (1, us) ∧ us[1]? = some (.int (iI V.2.1.1)) ∧ f_put E w21 (some s) 1 1 (.int (iI V.2.1.1 + 1)) K) := by
  obtain ⟨h1, h2, h3, h4, ⟨b1, b2⟩, h5⟩ := id h
  have h20 := ho.2.1
  have e0 : V.2.1.1 = (V.2.1.1.toNat : Nat) := by omega
  have hsx : s ≠ x.1 := by rintro rfl; rw [h1] at h2; cases h2
  refine ⟨x.1, _, rfl, h2, b2, iI_n0' (by omega), ?_, ?_⟩
  · rw [e0, iI_nn (by omega), List.length_map, List.length_range]
    omega
  have c1 : cx E w (pw_up w x.1 (1001, ((List.range 600).map (fun k => Value.int (iI (V.1 k)))).set (iI V.2.1.1).toNatClampNeg (.int b.toInt8.toInt32))) (s_F s x) 0 := cx.up hw _ h2 b2 (Or.inr (Or.inl rfl))
  have g1 : (pw_up w x.1 (1001, ((List.range 600).map (fun k => Value.int (iI (V.1 k)))).set (iI V.2.1.1).toNatClampNeg (.int b.toInt8.toInt32))).1 s = some (1, [va_rf (some x.1), .int (iI V.2.1.1), .int (iI V.2.1.2.1), .int (iI V.2.1.2.2), va_rf (some x.2.1.1), va_rf (some x.2.2.1.1), va_rf (some x.2.2.2.1)]) := by rw [pw_up_ne hsx]; exact h1
  refine ⟨_, g1, rfl, s, _, rfl, g1, b1, ?_⟩
  have c2 := cx.up (F := s_F s x) c1.ok (1, [va_rf (some x.1), .int (iI V.2.1.1 + 1), .int (iI V.2.1.2.1), .int (iI V.2.1.2.2), va_rf (some x.2.1.1), va_rf (some x.2.2.1.1), va_rf (some x.2.2.2.1)]) g1 b1 (Or.inl rfl)
  refine H _ (c1.tr c2) rfl ⟨?_, ?_, ?_, h4, ⟨b1, b2⟩, h5⟩
  · have : iI V.2.1.1 + 1 = iI (V.2.1.1 + 1) := iI_a1 _
    rw [this] at c2 ⊢
    exact pw_up_1 _ _ _
  · rw [pw_up_ne (Ne.symm hsx), pw_up_1, hb]
    congr 2
    rw [e0, iI_nn (by omega)]
    refine List.ext_getElem (by simp) (fun i hi hj => ?_)
    rw [List.getElem_set]
    simp only [List.getElem_map, List.getElem_range]
    show _ = Value.int (iI (if (i : Int) = V.2.1.1 then b.toInt else V.1 i))
    by_cases c : V.2.1.1.toNat = i
    · rw [if_pos c, if_pos (by omega), iI_of]
    · rw [if_neg c, if_neg (by omega)]
  · obtain ⟨h3a, h3b, h3c⟩ := h3
    obtain ⟨k1, k2, k3⟩ := h4
    have kk : ∀ (l : lX) (ys : List Nat), c_lX E w.1 l ys → l.2.2.1 = 2 → c_lX E (pw_up (pw_up w x.1 (1001, ((List.range 600).map (fun k => Value.int (iI (V.1 k)))).set (iI V.2.1.1).toNatClampNeg (.int b.toInt8.toInt32))) s (1, [va_rf (some x.1), .int (iI V.2.1.1 + 1), .int (iI V.2.1.2.1), .int (iI V.2.1.2.2), va_rf (some x.2.1.1), va_rf (some x.2.2.1.1), va_rf (some x.2.2.2.1)])).1 l ys := by
      intro l ys hl hc
      obtain ⟨g1', g2', g3', g4', g5'⟩ := hl
      rcases g5' with g5' | ⟨g5', g6', vs, g7', g8'⟩
      · omega
      have n1 : l.1 ≠ s := by rintro e; rw [e, h1] at g1'; cases g1'
      have n2 : l.1 ≠ x.1 := by rintro e; rw [e, h2] at g1'; cases g1'
      have n3 : l.2.1 ≠ s := by rintro e; rw [e, h1] at g7'; cases g7'
      have n4 : l.2.1 ≠ x.1 := by rintro e; rw [e, h2] at g7'; cases g7'
      exact ⟨by rw [pw_up_ne n1, pw_up_ne n2]; exact g1', g2', g3', g4', Or.inr ⟨g5', g6', vs, by rw [pw_up_ne n3, pw_up_ne n4]; exact g7', g8'⟩⟩
    exact ⟨kk _ _ h3a k1, kk _ _ h3b k2, kk _ _ h3c k3⟩
end
