set_option maxRecDepth 100000
/-! the component: a new archive -/
section
variable {E : pw_E} {d : Nat} {w : pw_W}
theorem ca_new_ok {a0 : Nat} {x0 x1 : Value} {K : pw_W → Prop} (hd : 5 ≤ d) (hw : wf E w) (ha : w.1 a0 = some (4, [x0, x1])) (hb : pw_base E ≤ a0) (H : ∀ u : pw_W, cx E w u (fun q => q = a0) 15 → u.2.1 = w.2.1 + 2 → u.1 a0 = some (4, [va_rf (some w.2.1), x1]) → c_al E u.1 w.2.1 0 (w.2.1 + 1) 4 [] → K u) : pw_Cl E m_X5_init d [va_rf (some a0)] w (c_v K) := by
  replace hd := pw_d1 hd; obtain ⟨e, rfl, hd⟩ := hd
  have hlt := hw.lt ha
  have hbw := hw.b
  have c1 : cx E w (pw_new w (18, [.int 0, va_rf none, .int 0]) 3) c_no 7 := cx.new hw _ 3
  refine e_X5_init _ (s_X5_init_0 _ ?_)
  show pw_Cl E m_J2_init e [va_rf (some w.2.1), .int (iI ((4 : Nat) : Int))] (pw_new w (18, [.int 0, va_rf none, .int 0]) 3) _
  refine cl_init_ok (by omega) c1.ok (pw_new_1 _ _ _) hbw (by decide) (fun w2 c2 n2 l2 => ?_)
  have n2 : w2.2.1 = w.2.1 + 2 := n2
  have l2 : c_al E w2.1 w.2.1 0 (w.2.1 + 1) 4 [] := l2
  have c12 : cx E w w2 c_no 15 := (cx.tn hw c1 c2 (fun q z => Or.inr (by have z : q = w.2.1 := z; omega))).le (by omega)
  have ha2 := c12.at ha
  have c3 : cx E w2 (pw_up w2 a0 (4, [va_rf (some w.2.1), x1])) (fun q => q = a0) 0 := cx.up c12.ok _ ha2 hb rfl
  exact ⟨a0, _, rfl, ha2, hb, ⟨rfl, H _ ((c12.no.tr c3).le (by omega)) n2 (pw_up_1 _ _ _) (l2.keep c3 (by omega) (fun _ => by omega))⟩⟩
end
