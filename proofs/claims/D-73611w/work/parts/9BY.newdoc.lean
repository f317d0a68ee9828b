set_option maxRecDepth 100000
/-! the component: a new document -/
section
variable {E : pw_E} {d : Nat} {w : pw_W}
theorem cd_new_ok {a0 : Nat} {x0 x1 x2 : Value} {K : pw_W → Prop} (hd : 6 ≤ d) (hw : wf E w) (ha : w.1 a0 = some (6, [x0, x1, x2])) (hb : pw_base E ≤ a0) (H : ∀ (u : pw_W) (x : dX), cx E w u (fun q => q = a0) 60 → (∀ X, c_dX E u.1 a0 ([], [], []) X x) → (∀ q, d_F x q → w.2.1 ≤ q) → x.2.1.2.2.1 = 0 → x.1.2.2.1 = 10 ∧ x.2.2.1.2.2.1 = 10 → K u) : pw_Cl E m_X7_init d [va_rf (some a0)] w (c_v K) := by
  replace hd := pw_d1 hd; obtain ⟨e, rfl, hd⟩ := hd
  have hlt := hw.lt ha
  have hbw := hw.b
  have c1 : cx E w (pw_new w (18, [.int 0, va_rf none, .int 0]) 3) c_no 7 := cx.new hw _ 3
  refine e_X7_init _ (s_X7_init_0 _ ?_)
  show pw_Cl E m_J2_init e [va_rf (some w.2.1), .int (iI ((10 : Nat) : Int))] (pw_new w (18, [.int 0, va_rf none, .int 0]) 3) _
  refine cl_init_ok (by omega) c1.ok (pw_new_1 _ _ _) hbw (by decide) (fun w2 c2 n2 l2 => ?_)
  have n2 : w2.2.1 = w.2.1 + 2 := n2
  have l2 : c_al E w2.1 w.2.1 0 (w.2.1 + 1) 10 [] := l2
  have c12 : cx E w w2 c_no 21 := (cx.tn hw c1 c2 (fun q z => Or.inr (by have z : q = w.2.1 := z; omega))).le (by omega)
  have ha2 := c12.at ha
  have c3 : cx E w2 (pw_up w2 a0 (6, [va_rf (some w.2.1), x1, x2])) (fun q => q = a0) 0 := cx.up c12.ok _ ha2 hb rfl
  refine ⟨a0, _, rfl, ha2, hb, ?_⟩
  show pw_Cl E m_J2_init_2 e [va_rf (some w2.2.1)] (pw_new (pw_up w2 a0 (6, [va_rf (some w.2.1), x1, x2])) (18, [.int 0, va_rf none, .int 0]) 3) _
  have ha3 : (pw_up w2 a0 (6, [va_rf (some w.2.1), x1, x2])).1 a0 = some (6, [va_rf (some w.2.1), x1, x2]) := pw_up_1 _ _ _
  have l3 := l2.keep c3 (by omega) (fun _ => by omega)
  have n3 : (pw_up w2 a0 (6, [va_rf (some w.2.1), x1, x2])).2.1 = w.2.1 + 2 := n2
  have c13 : cx E w (pw_up w2 a0 (6, [va_rf (some w.2.1), x1, x2])) (fun q => q = a0) 21 := (c12.no.tr c3).le (by omega)
  show pw_Cl E m_J2_init_2 e [va_rf (some w2.2.1)] (pw_new (pw_up w2 a0 (6, [va_rf (some w.2.1), x1, x2])) (18, [.int 0, va_rf none, .int 0]) 3) (c_v fun w8 => f_put E w8 (some a0) 6 1 (va_rf (some w2.2.1)) fun w12 => pw_Cl E m_J2_init e [va_rf (some w12.2.1), .int (iI ((10 : Nat) : Int))] (pw_new w12 (18, [.int 0, va_rf none, .int 0]) 3) (c_v fun w14 => f_put E w14 (some a0) 6 2 (va_rf (some w12.2.1)) fun w18 => c_v K (.inl none) w18))
  rw [n2]
  generalize pw_up w2 a0 (6, [va_rf (some w.2.1), x1, x2]) = w3 at c3 ha3 l3 n3 c13 ⊢
  clear c3 l2 ha2 c12 c2 c1 n2
  have c4 : cx E w3 (pw_new w3 (18, [.int 0, va_rf none, .int 0]) 3) c_no 7 := cx.new c13.ok _ 3
  have t4 : (pw_new w3 (18, [.int 0, va_rf none, .int 0]) 3).1 (w.2.1 + 2) = some (18, [.int 0, va_rf none, .int 0]) := by rw [← n3]; exact pw_new_1 _ _ _
  refine cl_init0_ok (by omega) c4.ok t4 (by omega) (fun w5 bt c5 n5 hbt l5 => ?_)
  have n5' : w5.2.1 = w.2.1 + 3 := by rw [n5]; show w3.2.1 + 1 = _; omega
  have c45 : cx E w3 w5 c_no 7 := (cx.tn c13.ok c4 c5 (fun q z => Or.inr (by have z : q = w.2.1 + 2 := z; omega))).le (by omega)
  have ha5 := c45.at ha3
  have m5 := l3.mono c45.sub1
  have c6 : cx E w5 (pw_up w5 a0 (6, [va_rf (some w.2.1), va_rf (some (w.2.1 + 2)), x2])) (fun q => q = a0) 0 := cx.up c45.ok _ ha5 hb rfl
  refine ⟨a0, _, rfl, ha5, hb, ?_⟩
  show pw_Cl E m_J2_init e [va_rf (some w5.2.1), .int (iI ((10 : Nat) : Int))] (pw_new (pw_up w5 a0 (6, [va_rf (some w.2.1), va_rf (some (w.2.1 + 2)), x2])) (18, [.int 0, va_rf none, .int 0]) 3) (c_v fun w14 => f_put E w14 (some a0) 6 2 (va_rf (some w5.2.1)) fun w18 => c_v K (.inl none) w18)
  have ha6 : (pw_up w5 a0 (6, [va_rf (some w.2.1), va_rf (some (w.2.1 + 2)), x2])).1 a0 = some (6, [va_rf (some w.2.1), va_rf (some (w.2.1 + 2)), x2]) := pw_up_1 _ _ _
  have m6 := m5.keep c6 (by omega) (fun _ => by omega)
  have l6 := l5.keep c6 (by omega) (fun h => by omega)
  have n6 : (pw_up w5 a0 (6, [va_rf (some w.2.1), va_rf (some (w.2.1 + 2)), x2])).2.1 = w.2.1 + 3 := n5'
  have c16 : cx E w (pw_up w5 a0 (6, [va_rf (some w.2.1), va_rf (some (w.2.1 + 2)), x2])) (fun q => q = a0) 28 := ((c13.tr c45.no).tr c6).le (by omega)
  rw [n5']
  generalize pw_up w5 a0 (6, [va_rf (some w.2.1), va_rf (some (w.2.1 + 2)), x2]) = w6 at ha6 m6 l6 n6 c16 ⊢
  have c7 : cx E w6 (pw_new w6 (18, [.int 0, va_rf none, .int 0]) 3) c_no 7 := cx.new c16.ok _ 3
  have t7 : (pw_new w6 (18, [.int 0, va_rf none, .int 0]) 3).1 (w.2.1 + 3) = some (18, [.int 0, va_rf none, .int 0]) := by rw [← n6]; exact pw_new_1 _ _ _
  refine cl_init_ok (by omega) c7.ok t7 (by omega) (by decide) (fun w8 c8 n8 l8 => ?_)
  have n8 : w8.2.1 = w.2.1 + 5 := by rw [n8]; show w6.2.1 + 1 + 1 = _; omega
  have l8 : c_al E w8.1 (w.2.1 + 3) 0 (w.2.1 + 4) 10 [] := by
    have e : (pw_new w6 (18, [.int 0, va_rf none, .int 0]) 3).2.1 = w.2.1 + 4 := by show w6.2.1 + 1 = _; omega
    rw [e] at l8
    exact l8
  have c78 : cx E w6 w8 c_no 21 := (cx.tn c16.ok c7 c8 (fun q z => Or.inr (by have z : q = w.2.1 + 3 := z; omega))).le (by omega)
  have ha8 := c78.at ha6
  have m8 := m6.mono c78.sub1
  have l8' := l6.mono c78.sub1
  have c9 : cx E w8 (pw_up w8 a0 (6, [va_rf (some w.2.1), va_rf (some (w.2.1 + 2)), va_rf (some (w.2.1 + 3))])) (fun q => q = a0) 0 := cx.up c78.ok _ ha8 hb rfl
  refine ⟨a0, _, rfl, ha8, hb, ⟨rfl, ?_⟩⟩
  refine H _ ((w.2.1, w.2.1 + 1, 10, 0), (w.2.1 + 2, bt, 0, 0), (w.2.1 + 3, w.2.1 + 4, 10, 0), [], [], []) (((c16.tr c78.no).tr c9).le (by omega)) (fun X => ⟨pw_up_1 _ _ _, m8.keep c9 (by omega) (fun _ => by omega), l8'.keep c9 (by omega) (fun h => by omega), l8.keep c9 (by omega) (fun _ => by omega), ⟨rfl, fun v r row h => by simp at h⟩, ⟨rfl, fun j t s h => by simp at h⟩, ⟨rfl, fun i b y h => by simp at h⟩, ⟨hb, List.nodup_nil, fun t h => (by cases h), ?_, ?_, ?_, ?_, ?_, ?_⟩, (by decide : 2 * 10 ≤ 3 * 0 + 20), (by decide : 2 * 0 ≤ 3 * 0 + 20), (by decide : 2 * 10 ≤ 3 * 0 + 20)⟩) (fun q h => ?_) rfl ⟨rfl, rfl⟩
  · show w.2.1 ≠ w.2.1 + 2; omega
  · show w.2.1 ≠ w.2.1 + 3; omega
  · show w.2.1 + 2 ≠ w.2.1 + 3; omega
  · show w.2.1 + 1 ≠ bt; omega
  · show w.2.1 + 1 ≠ w.2.1 + 4; omega
  · show bt ≠ w.2.1 + 4; omega
  · rcases h with z | ⟨z, zc⟩ | z | ⟨z, zc⟩ | z | ⟨z, zc⟩ | z
    · have z : q = w.2.1 := z; omega
    · have z : q = w.2.1 + 1 := z; omega
    · have z : q = w.2.1 + 2 := z; omega
    · have zc : 0 < 0 := zc; omega
    · have z : q = w.2.1 + 3 := z; omega
    · have z : q = w.2.1 + 4 := z; omega
    · cases z
end
