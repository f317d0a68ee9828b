set_option maxRecDepth 100000
/-! the component: a number read -/
section
variable {E : pw_E} {d : Nat} {w : pw_W} {rd xt k : Nat} {T : Nat → Int} {L : Int} {r : rS}
theorem k_pc_at (hw : wf E w) {j : Nat} (hj : j < 5) : ∃ x : Nat, E.2.2.2.2 (12 + j) = va_rf (some x) := by
  obtain ⟨-, -, -, -, ⟨ps, p1, -, p2⟩, -⟩ := hw.S
  obtain ⟨x, hx⟩ := dc_get (l := ps) (i := j) (by omega)
  exact ⟨x, by rw [p2 j hj, hx]⟩
/-- a reader's field put -/
theorem rd_up (hw : wf E w) (hb : pw_base E ≤ rd) (h : w.1 rd = some (rd_ob k xt L r)) (hk : k = 3 ∨ k = 8 ∨ k = 9) (ht : c_tp w.1 xt T) (r' : rS) : cx E w (pw_up w rd (rd_ob k xt L r')) (fun q => q = rd) 0 ∧ (pw_up w rd (rd_ob k xt L r')).1 rd = some (rd_ob k xt L r') ∧ c_tp (pw_up w rd (rd_ob k xt L r')).1 xt T := by
  have c := cx.up (F := fun q => q = rd) hw (rd_ob k xt L r') h hb rfl
  refine ⟨c, pw_up_1 _ _ _, ?_⟩
  unfold c_tp at ht ⊢
  have ne : xt ≠ rd := by
    rintro e
    rw [e, h] at ht
    have : k = 1001 := by cases ht
    omega
  rw [pw_up_ne ne]
  exact ht
theorem rd_dig_end {p q : Nat} {nm : Int} {pc0 : Option Nat} {rest : Option Nat × Option Nat × Int × Option Nat} {K : pw_W → Prop} (hd : 3 ≤ d) (hk : k = 3 ∨ k = 8 ∨ k = 9) (hL : 0 ≤ L ∧ L ≤ 600) (hb : pw_base E ≤ rd) (hqp : q ≤ p) (hp6 : p ≤ 600) (hw : wf E w) (h : w.1 rd = some (rd_ob k xt L (((p : Nat) : Int), ((q : Nat) : Int), nm, pc0, rest))) (ht : c_tp w.1 xt T) (hc : ¬ (48 ≤ c_at T L p ∧ c_at T L p ≤ 57))
    (H : ∀ (w' : pw_W) (pc : Option Nat), cx E w w' (fun q => q = rd) 0 → w'.2 = w.2 → w'.1 rd = some (rd_ob k xt L (((p : Nat) : Int), ((q : Nat) : Int), nm, pc, rest)) → c_tp w'.1 xt T → k_pc E (if p - q ≤ 2 then 3 else 1) pc → K w') : pw_Wp E m_X3_step (d + 1) 168 [some (va_rf (some rd)), none, none] [] w (c_v K) := by
  have cr := c_at_r T L p
  obtain ⟨x15, h15⟩ := k_pc_at hw (j := 3) (by omega)
  obtain ⟨x14, h14⟩ := k_pc_at hw (j := 2) (by omega)
  refine s_X3_step_K_168 hk _ ⟨rd, _, _, rfl, h, rfl, rd, _, rfl, h, ?_⟩
  refine rd_at_ok (by omega) hk h ht hL (by omega) (rd_isDigit_ok (by omega) (rI_small (by omega) (by omega)) ?_)
  rw [decide_eq_false hc]
  refine ifT (by decide) ⟨rd, _, _, rfl, h, rfl, rd, _, _, rfl, h, rfl, ?_⟩
  have es : iI (p : Nat) - iI (q : Nat) = iI ((p : Int) - q) := iI_sub _ _
  have l2 : (iI (p : Nat) - iI (q : Nat) ≤ 2) = ((p : Int) - q ≤ 2) := by rw [es]; exact iI_le (b := 2) (rI_small (by omega) (by omega)) (rI_small (by omega) (by omega))
  have put := fun (pc : Nat) => rd_up hw hb h hk ht (((p : Nat) : Int), ((q : Nat) : Int), nm, some pc, rest)
  by_cases c2 : (p : Int) - q ≤ 2
  · refine ifT (by show iI (p : Nat) - iI (q : Nat) ≤ 2; rw [l2]; exact c2) ⟨some x15, h15, rd, _, rfl, h, hb, ⟨rfl, ?_⟩⟩
    obtain ⟨u1, u2, u3⟩ := put x15
    refine H _ (some x15) u1 rfl u2 u3 ?_
    rw [if_pos (by omega)]; exact h15
  · refine ifF (by show ¬ iI (p : Nat) - iI (q : Nat) ≤ 2; rw [l2]; exact c2) ⟨some x14, h14, rd, _, rfl, h, hb, ⟨rfl, ?_⟩⟩
    obtain ⟨u1, u2, u3⟩ := put x14
    refine H _ (some x14) u1 rfl u2 u3 ?_
    rw [if_neg (by omega)]; exact h14
theorem rd_dig_ok {q : Nat} {pc0 : Option Nat} {rest : Option Nat × Option Nat × Int × Option Nat} {K : pw_W → Prop} (hd : 3 ≤ d) (hk : k = 3 ∨ k = 8 ∨ k = 9) (hL : 0 ≤ L ∧ L ≤ 600) (hb : pw_base E ≤ rd) : ∀ (f p : Nat) (w : pw_W) (nm : Int), L.toNat - p = f → q ≤ p → p ≤ 600 → wf E w → w.1 rd = some (rd_ob k xt L (((p : Nat) : Int), ((q : Nat) : Int), nm, pc0, rest)) → c_tp w.1 xt T → (0 ≤ nm ∧ nm ≤ 99) ∧ (p - q = 0 → nm = 0) ∧ (p - q = 1 → nm ≤ 9) →
    (∀ (w' : pw_W) (pc : Option Nat), cx E w w' (fun q => q = rd) 0 → w'.2 = w.2 → w'.1 rd = some (rd_ob k xt L (((p + (k_run T L 48 57 p).length : Nat) : Int), ((q : Nat) : Int), k_valF (p - q) nm (k_run T L 48 57 p), pc, rest)) → c_tp w'.1 xt T → k_pc E (if p + (k_run T L 48 57 p).length - q ≤ 2 then 3 else 1) pc → K w') → pw_Wp E m_X3_step (d + 1) 168 [some (va_rf (some rd)), none, none] [] w (c_v K) := by
  intro f
  induction f with
  | zero =>
    intro p w nm hf hqp hp6 hw h ht hv H
    have hc : c_at T L p = -1 := by unfold c_at; rw [if_pos (by omega)]
    rw [k_run_n (by omega)] at H
    exact rd_dig_end hd hk hL hb hqp hp6 hw h ht (by omega) H
  | succ f ih =>
    intro p w nm hf hqp hp6 hw h ht hv H
    have cr := c_at_r T L p
    by_cases hc : 48 ≤ c_at T L p ∧ c_at T L p ≤ 57
    · rw [k_run_c (by omega) hc] at H
      refine s_X3_step_K_168 hk _ ⟨rd, _, _, rfl, h, rfl, rd, _, rfl, h, ?_⟩
      refine rd_at_ok (by omega) hk h ht hL (by omega) (rd_isDigit_ok (by omega) (rI_small (by omega) (by omega)) ?_)
      rw [decide_eq_true hc]
      refine ifF (by decide) ⟨rd, _, _, rfl, h, rfl, rd, _, _, rfl, h, rfl, ?_⟩
      have es : iI (p : Nat) - iI (q : Nat) = iI ((p : Int) - q) := iI_sub _ _
      have l2 : ((2 : Int32) ≤ iI (p : Nat) - iI (q : Nat)) = (2 ≤ (p : Int) - q) := by rw [es]; exact iI_le (a := 2) (rI_small (by omega) (by omega)) (rI_small (by omega) (by omega))
      have e1 : iI (p : Nat) + 1 = iI ((p + 1 : Nat) : Int) := by rw [iI_a1]; rfl
      have elen : ∀ n : Nat, p + (n + 1) = p + 1 + n := fun n => by omega
      have nx : ∀ (v : pw_W) (nm' : Int), cx E w v (fun q => q = rd) 0 → v.2 = w.2 → v.1 rd = some (rd_ob k xt L (((p + 1 : Nat) : Int), ((q : Nat) : Int), nm', pc0, rest)) → c_tp v.1 xt T → nm' = (if 2 ≤ p - q then nm else 10 * nm + c_at T L p - 48) → pw_Wp E m_X3_step (d + 1) 168 [some (va_rf (some rd)), none, none] [] v (c_v K) := by
        intro v nm' cv nv hv1 tv env
        refine ih (p + 1) v nm' (by omega) (by omega) (by omega) cv.ok hv1 tv ?_ (fun w' pc c' n' h' t' k' => H w' pc ((cv.tr c').le (Nat.le_refl _)) (n'.trans nv) ?_ t' ?_)
        · obtain ⟨v1, v2, v3⟩ := hv
          by_cases c9 : 2 ≤ p - q
          · rw [if_pos c9] at env
            exact ⟨by omega, fun e => by omega, fun e => by omega⟩
          · rw [if_neg c9] at env
            by_cases c8 : p - q = 0
            · have := v2 c8
              exact ⟨by omega, fun e => by omega, fun e => by omega⟩
            · have := v3 (by omega)
              exact ⟨by omega, fun e => by omega, fun e => by omega⟩
        · rw [h', env]
          have ek : k_valF (p - q) nm (c_at T L p :: k_run T L 48 57 (p + 1)) = k_valF (p + 1 - q) (if 2 ≤ p - q then nm else 10 * nm + c_at T L p - 48) (k_run T L 48 57 (p + 1)) := by
            show k_valF (p - q + 1) _ _ = _
            rw [show p - q + 1 = p + 1 - q by omega]
          rw [ek, List.length_cons, elen (k_run T L 48 57 (p + 1)).length]
        · rw [List.length_cons, elen (k_run T L 48 57 (p + 1)).length]
          exact k'
      by_cases c2 : 2 ≤ (p : Int) - q
      · refine ifT (by show (2 : Int32) ≤ iI (p : Nat) - iI (q : Nat); rw [l2]; exact c2) ⟨rd, _, _, rfl, h, rfl, rd, _, rfl, h, hb, ?_⟩
        obtain ⟨u1, u2, u3⟩ := rd_up hw hb h hk ht (((p + 1 : Nat) : Int), ((q : Nat) : Int), nm, pc0, rest)
        show pw_Wp E m_X3_step (d + 1) 168 [some (va_rf (some rd)), none, none] [] (pw_up w rd (k, [va_rf (some xt), .int (iI L), .int (iI (p : Nat) + 1), .int (iI (q : Nat)), .int (iI nm), va_rf pc0, va_rf rest.1, va_rf rest.2.1, .int (iI rest.2.2.1), va_rf rest.2.2.2])) (c_v K)
        rw [e1]
        exact nx _ nm u1 rfl u2 u3 (by rw [if_pos (by omega)])
      · refine ifF (by show ¬ (2 : Int32) ≤ iI (p : Nat) - iI (q : Nat); rw [l2]; exact c2) ⟨rd, _, _, rfl, h, rfl, rd, _, _, rfl, h, rfl, rd, _, rfl, h, ?_⟩
        refine rd_at_ok (by omega) hk h ht hL (by omega) ⟨rd, _, rfl, h, hb, ?_⟩
        have en : 10 * iI nm + iI (c_at T L p) - 48 = iI (10 * nm + c_at T L p - 48) := by
          have m1 : (10 : Int32) * iI nm = iI (10 * nm) := iI_mul 10 _
          rw [m1, show iI (10 * nm) + iI (c_at T L p) = iI (10 * nm + c_at T L p) from iI_add _ _]
          exact iI_sub _ 48
        obtain ⟨u1, u2, u3⟩ := rd_up hw hb h hk ht (((p : Nat) : Int), ((q : Nat) : Int), 10 * nm + c_at T L p - 48, pc0, rest)
        have n0 : (pw_up w rd (rd_ob k xt L (((p : Nat) : Int), ((q : Nat) : Int), 10 * nm + c_at T L p - 48, pc0, rest))).2 = w.2 := rfl
        have step2 : ∀ v : pw_W, v = pw_up w rd (rd_ob k xt L (((p : Nat) : Int), ((q : Nat) : Int), 10 * nm + c_at T L p - 48, pc0, rest)) → f_geti v (some rd) k 2 (fun x67 => f_put E v (some rd) k 2 (.int (x67 + 1)) (fun w74 => pw_Wp E m_X3_step (d + 1) 168 [some (va_rf (some rd)), none, none] [] w74 (c_v K))) := by
          intro v ev
          rw [← ev] at u1 u2 u3 n0
          refine ⟨rd, _, _, rfl, u2, rfl, rd, _, rfl, u2, hb, ?_⟩
          obtain ⟨v1, v2, v3⟩ := rd_up u1.ok hb u2 hk u3 (((p + 1 : Nat) : Int), ((q : Nat) : Int), 10 * nm + c_at T L p - 48, pc0, rest)
          show pw_Wp E m_X3_step (d + 1) 168 [some (va_rf (some rd)), none, none] [] (pw_up v rd (k, [va_rf (some xt), .int (iI L), .int (iI (p : Nat) + 1), .int (iI (q : Nat)), .int (iI (10 * nm + c_at T L p - 48)), va_rf pc0, va_rf rest.1, va_rf rest.2.1, .int (iI rest.2.2.1), va_rf rest.2.2.2])) (c_v K)
          rw [e1]
          exact nx _ _ ((u1.tr v1).le (Nat.le_refl _)) n0 v2 v3 (by rw [if_neg (by omega)])
        exact step2 _ (by rw [rd_ob, ← en]; rfl)
    · rw [k_run_n hc] at H
      exact rd_dig_end hd hk hL hb hqp hp6 hw h ht hc H
end
