set_option maxRecDepth 100000
/-! the component: what is drawn -/
section
variable {E : pw_E} {d : Nat} {w : pw_W} {dr a : Nat}
theorem dr_below_ok {n s : Int} {K : Int32 → pw_W → Prop} (hd : 1 ≤ d) (hw : wf E w) (hb : pw_base E ≤ dr) (hn : 0 < n ∧ n < 1000) (h : w.1 dr = some (17, [va_rf (some a), .int (iI s)])) (H : ∀ u, cx E w u (fun q => q = dr) 0 → u.2 = w.2 → u.1 dr = some (17, [va_rf (some a), .int (iI (d_next s))]) → K (iI (d_val s n)) u) : pw_Cl E m_X18_below d [va_rf (some dr), .int (iI n)] w (c_i K) := by
  replace hd := pw_d1 hd; obtain ⟨e, rfl, hd⟩ := hd
  have en : iI s * 1103515245 + 12345 = iI (d_next s) := by
    unfold d_next
    rw [← iI_add, ← iI_mul]
    rfl
  have c1 : cx E w (pw_up w dr (17, [va_rf (some a), .int (iI s * 1103515245 + 12345)])) (fun q => q = dr) 0 := cx.up hw _ h hb rfl
  refine e_X18_below _ _ (s_X18_below_0 _ _ ⟨dr, _, _, rfl, h, rfl, dr, _, rfl, h, hb, dr, _, _, rfl, pw_up_1 _ _ _, rfl, ?_⟩)
  have e0 : (iI n = 0) = (n = 0) := iI_eq (b := 0) (rI_small (by omega) (by omega)) (rI_small (by omega) (by omega))
  have hh := H _ c1 rfl (by rw [pw_up_1, en])
  refine ⟨by rw [e0]; omega, ⟨_, rfl, ?_⟩⟩
  have ev : iI (d_val s n) = d_hi s - d_hi s / iI n * iI n := by
    unfold d_val
    exact iI_of _
  rw [ev] at hh
  unfold d_hi at hh
  rw [en] at hh ⊢
  exact hh
/-- edits drawn: lambda objects that answer so -/
theorem dr_cut_ok {o p r : Nat} {row : List Nat} {Q : Option Nat → pw_W → Prop} {e : Nat} (hd : 5 ≤ e) (hw : wf E w) (ho : w.1 o = some (2018, [.int (iI (p : Nat))])) (hr : c_ints w.1 r row) (hl : row.length ≤ 1000) (hp : p + 1 ≤ row.length) (H : ∀ (u : pw_W) (r' : Nat), cx E w u c_no (row.length + 4) → c_ints u.1 r' (r_cuts row p 1) → Q (some r') u) : f_F E w (some o) ⟨"VersionSearch$Edit", "of", "([I)[I"⟩ (some (.array .int)) e [va_rf (some r)] (c_r Q) := by
  replace hd := pw_d1 hd; obtain ⟨e', rfl, hd⟩ := hd
  replace hd := pw_d1 hd; obtain ⟨e', rfl, hd⟩ := hd
  exact lm_F18 ho (e_X18_lambda_edit_1 _ _ (s_X18_lambda_edit_1_0 _ _ (cr_cuts_ok (many := 1) (by omega) hw hr hl hp (fun u c n h => ⟨_, rfl, H u _ c h⟩))))
theorem dr_move_ok {o i j r : Nat} {row : List Nat} {Q : Option Nat → pw_W → Prop} {e : Nat} (hd : 6 ≤ e) (hw : wf E w) (ho : w.1 o = some (2019, [.int (iI (i : Nat)), .int (iI (j : Nat))])) (hr : c_ints w.1 r row) (hl : row.length ≤ 1000) (hi : i < row.length) (hj : j < row.length) (hx : ∀ x ∈ row, x ≤ 1000) (H : ∀ (u : pw_W) (r' : Nat), cx E w u c_no (2 * row.length + 9) → c_ints u.1 r' (r_moves row i j) → Q (some r') u) : f_F E w (some o) ⟨"VersionSearch$Edit", "of", "([I)[I"⟩ (some (.array .int)) e [va_rf (some r)] (c_r Q) := by
  replace hd := pw_d1 hd; obtain ⟨e', rfl, hd⟩ := hd
  replace hd := pw_d1 hd; obtain ⟨e', rfl, hd⟩ := hd
  exact lm_F19 ho (e_X18_lambda_edit_2 _ _ _ (s_X18_lambda_edit_2_0 _ _ _ (cr_moves_ok (by omega) hw hr hl hi hj hx (fun u k c _ h => ⟨_, rfl, H u _ c h⟩))))
theorem dr_put_ok {o place first many r : Nat} {row : List Nat} {Q : Option Nat → pw_W → Prop} {e : Nat} (hd : 5 ≤ e) (hw : wf E w) (ho : w.1 o = some (2000, [.int (iI (place : Nat)), .int (iI (first : Nat)), .int (iI (many : Nat))])) (hr : c_ints w.1 r row) (hl : row.length ≤ 1000) (hp : place ≤ row.length) (hf : first ≤ 1000) (hm : many ≤ 1000) (H : ∀ (u : pw_W) (r' : Nat), cx E w u c_no (row.length + many + 4) → c_ints u.1 r' (r_puts row place first many) → Q (some r') u) : f_F E w (some o) ⟨"VersionSearch$Edit", "of", "([I)[I"⟩ (some (.array .int)) e [va_rf (some r)] (c_r Q) := by
  replace hd := pw_d1 hd; obtain ⟨e', rfl, hd⟩ := hd
  replace hd := pw_d1 hd; obtain ⟨e', rfl, hd⟩ := hd
  exact lm_F0 ho (e_X7_lambda_told_0 _ _ _ _ (s_X7_lambda_told_0_0 _ _ _ _ (cr_puts_ok (by omega) hw hr hl hp hf hm (fun u c n h => ⟨_, rfl, H u _ c h⟩))))
end
section
variable {E : pw_E} {d : Nat} {w : pw_W} {b : Nat} {D : dc} {X : Nat → Int} {x : dX}
theorem dr_back_ok {o v r : Nat} {row : List Nat} {Q : Option Nat → pw_W → Prop} {e : Nat} (hd : 6 ≤ e) (ho : w.1 o = some (2017, [va_rf (some b), .int (iI (v : Nat))])) (hk : c_dX E w.1 b D X x) (hv : D.1[v]? = some row) (H : ∀ r' : Nat, c_ints w.1 r' row → Q (some r') w) : f_F E w (some o) ⟨"VersionSearch$Edit", "of", "([I)[I"⟩ (some (.array .int)) e [va_rf (some r)] (c_r Q) := by
  replace hd := pw_d1 hd; obtain ⟨e', rfl, hd⟩ := hd
  replace hd := pw_d1 hd; obtain ⟨e', rfl, hd⟩ := hd
  obtain ⟨k1, k2, k3, k4, ⟨k5, k6⟩, -⟩ := hk
  obtain ⟨r', hr'⟩ := dc_get (l := x.2.2.2.1) (i := v) (by have := (List.getElem?_eq_some_iff.mp hv).1; omega)
  have hri := k6 v r' row hr' hv
  exact lm_F17 ho (e_X18_lambda_edit_0 _ _ _ (s_X18_lambda_edit_0_0 _ _ _ ⟨b, _, _, rfl, k1, rfl, x.1.1, _, rfl, k2.1, cl_get_ok (x := some r') (by omega) k2 (by rw [List.getElem?_map, hr']; rfl) ⟨Or.inr ⟨r', 1000, _, rfl, hri, c_canI⟩, ⟨_, rfl, H r' hri⟩⟩⟩))
end
