set_option maxRecDepth 100000
/-! the component: edits that a text tells -/
section
variable {E : pw_E} {d : Nat} {w : pw_W} {b : Nat} {D : dc} {X : Nat → Int} {x : dX}
theorem rd_back_ok {o v r : Nat} {row : List Nat} {Q : Option Nat → pw_W → Prop} {e : Nat} (hd : 6 ≤ e) (ho : w.1 o = some (2001, [va_rf (some b), .int (iI (v : Nat))])) (hk : c_dX E w.1 b D X x) (hv : D.1[v]? = some row) (H : ∀ r' : Nat, c_ints w.1 r' row → Q (some r') w) : f_F E w (some o) ⟨"VersionSearch$Edit", "of", "([I)[I"⟩ (some (.array .int)) e [va_rf (some r)] (c_r Q) := by
  replace hd := pw_d1 hd; obtain ⟨e', rfl, hd⟩ := hd
  replace hd := pw_d1 hd; obtain ⟨e', rfl, hd⟩ := hd
  obtain ⟨k1, k2, k3, k4, ⟨k5, k6⟩, -⟩ := hk
  obtain ⟨r', hr'⟩ := dc_get (l := x.2.2.2.1) (i := v) (by have := (List.getElem?_eq_some_iff.mp hv).1; omega)
  have hri := k6 v r' row hr' hv
  exact lm_F1 ho (e_X4_lambda_back_0 _ _ _ (s_X4_lambda_back_0_0 _ _ _ ⟨b, _, _, rfl, k1, rfl, x.1.1, _, rfl, k2.1, cl_get_ok (x := some r') (by omega) k2 (by rw [List.getElem?_map, hr']; rfl) ⟨Or.inr ⟨r', 1000, _, rfl, hri, c_canI⟩, ⟨_, rfl, H r' hri⟩⟩⟩))
theorem rd_cut_ok {o p many r : Nat} {row : List Nat} {Q : Option Nat → pw_W → Prop} {e : Nat} (hd : 5 ≤ e) (hw : wf E w) (ho : w.1 o = some (2002, [.int (iI (p : Nat)), .int (iI (many : Nat))])) (hr : c_ints w.1 r row) (hl : row.length ≤ 1000) (hp : p + many ≤ row.length) (H : ∀ (u : pw_W) (r' : Nat), cx E w u c_no (row.length + 4) → c_ints u.1 r' (r_cuts row p many) → Q (some r') u) : f_F E w (some o) ⟨"VersionSearch$Edit", "of", "([I)[I"⟩ (some (.array .int)) e [va_rf (some r)] (c_r Q) := by
  replace hd := pw_d1 hd; obtain ⟨e', rfl, hd⟩ := hd
  replace hd := pw_d1 hd; obtain ⟨e', rfl, hd⟩ := hd
  exact lm_F2 ho (e_X4_lambda_row_1 _ _ _ (s_X4_lambda_row_1_0 _ _ _ (cr_cuts_ok (by omega) hw hr hl hp (fun u c n h => ⟨_, rfl, H u _ c h⟩))))
theorem rd_move_ok {o i j r : Nat} {row : List Nat} {Q : Option Nat → pw_W → Prop} {e : Nat} (hd : 6 ≤ e) (hw : wf E w) (ho : w.1 o = some (2003, [.int (iI (i : Nat)), .int (iI (j : Nat))])) (hr : c_ints w.1 r row) (hl : row.length ≤ 1000) (hi : i < row.length) (hj : j < row.length) (hx : ∀ x ∈ row, x ≤ 1000) (H : ∀ (u : pw_W) (r' : Nat), cx E w u c_no (2 * row.length + 9) → c_ints u.1 r' (r_moves row i j) → Q (some r') u) : f_F E w (some o) ⟨"VersionSearch$Edit", "of", "([I)[I"⟩ (some (.array .int)) e [va_rf (some r)] (c_r Q) := by
  replace hd := pw_d1 hd; obtain ⟨e', rfl, hd⟩ := hd
  replace hd := pw_d1 hd; obtain ⟨e', rfl, hd⟩ := hd
  exact lm_F3 ho (e_X4_lambda_row_2 _ _ _ (s_X4_lambda_row_2_0 _ _ _ (cr_moves_ok (by omega) hw hr hl hi hj hx (fun u k c _ h => ⟨_, rfl, H u _ c h⟩))))
end
