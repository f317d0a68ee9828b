set_option maxRecDepth 100000
/-! the component: a StringBuilder of few letters -/
/-- a builder with room 8, holding few letters -/
def c_sb (E : pw_E) (h : pw_H) (a b : Nat) (s : List Int) : Prop := ∃ (x2 : Value), h a = some (20, [va_rf (some b), .int 0, x2, .int (iI s.length)]) ∧ h b = some (1001, (List.range 8).map (fun i => Value.int (iI (s.getD i 0)))) ∧ s.length ≤ 8 ∧ (∀ c ∈ s, 97 ≤ c ∧ c ≤ 122) ∧ pw_base E ≤ a ∧ pw_base E ≤ b
section
variable {E : pw_E} {d : Nat} {w : pw_W} {a b : Nat} {s : List Int}
theorem sb_init_ok {x2 : Value} {K : pw_W → Prop} (hd : 3 ≤ d) (hw : wf E w) (ha : w.1 a = some (20, [va_rf none, .int 0, x2, .int 0])) (hb : pw_base E ≤ a) (H : ∀ w', cx E w w' (fun q => q = a) 12 → w'.2.1 = w.2.1 + 1 → (∀ q, q ≠ a → q ≠ w.2.1 → w'.1 q = w.1 q) → c_sb E w'.1 a w.2.1 [] → K w') : pw_Cl E m_J5_init d [va_rf (some a), .int 8] w (c_v K) := by
  replace hd := pw_d1 hd; obtain ⟨e, rfl, hd⟩ := hd
  replace hd := pw_d1 hd; obtain ⟨e, rfl, hd⟩ := hd
  have hlt := hw.lt ha
  have hbb := hw.b
  obtain ⟨-, ⟨s2, -⟩, -⟩ := hw.S
  refine e_J5_init _ _ (s_J5_init_0 _ _ (e_J4_init _ _ (s_J4_init_0 _ _ ⟨1, s2, ifF (by decide) ⟨by decide, by decide, ?_⟩⟩)))
  have eb : ((1000 + 1, List.replicate (Int32.toNatClampNeg 8) (Value.int 0)) : pw_O) = (1001, (List.range 8).map (fun i => Value.int (iI (([] : List Int).getD i 0)))) := rfl
  rw [eb]
  have c1 : cx E w (pw_new w (1001, (List.range 8).map (fun i => Value.int (iI (([] : List Int).getD i 0)))) (Int32.toNatClampNeg 8)) c_no 12 := cx.new hw _ 8
  have b1 : (pw_new w (1001, (List.range 8).map (fun i => Value.int (iI (([] : List Int).getD i 0)))) (Int32.toNatClampNeg 8)).1 w.2.1 = some (1001, (List.range 8).map (fun i => Value.int (iI (([] : List Int).getD i 0)))) := pw_new_1 _ _ _
  have n1 : (pw_new w (1001, (List.range 8).map (fun i => Value.int (iI (([] : List Int).getD i 0)))) (Int32.toNatClampNeg 8)).2.1 = w.2.1 + 1 := rfl
  have o1 : ∀ q, q ≠ w.2.1 → (pw_new w (1001, (List.range 8).map (fun i => Value.int (iI (([] : List Int).getD i 0)))) (Int32.toNatClampNeg 8)).1 q = w.1 q := fun q hq => pw_new_ne hq
  generalize pw_new w (1001, (List.range 8).map (fun i => Value.int (iI (([] : List Int).getD i 0)))) (Int32.toNatClampNeg 8) = w1 at c1 b1 n1 o1 ⊢
  have c2 := cx.up (F := fun q => q = a) c1.ok (20, [va_rf (some w.2.1), .int 0, x2, .int 0]) (c1.at ha) hb rfl
  have c3 := cx.up (F := fun q => q = a) c2.ok (20, [va_rf (some w.2.1), .int 0, x2, .int 0]) (pw_up_1 _ _ _) hb rfl
  refine ⟨a, _, rfl, c1.at ha, hb, a, _, rfl, pw_up_1 _ _ _, hb, ⟨rfl, rfl, ?_⟩⟩
  refine H _ ((c1.no.tr (c2.tr c3)).le (by decide)) n1 (fun q h1 h2 => by rw [pw_up_ne h1, pw_up_ne h1, o1 q h2]) ⟨x2, pw_up_1 _ _ _, ?_, by decide, (fun c hc => by cases hc), hb, hbb⟩
  rw [pw_up_ne (by omega), pw_up_ne (by omega)]
  exact b1
theorem sb_length_ok {K : Int32 → pw_W → Prop} (hd : 2 ≤ d) (h : c_sb E w.1 a b s) (H : K (iI s.length) w) : pw_Cl E m_J5_length d [va_rf (some a)] w (c_i K) := by
  obtain ⟨x2, h1, h2, h3, h4, h5, h6⟩ := h
  replace hd := pw_d1 hd; obtain ⟨e, rfl, hd⟩ := hd
  replace hd := pw_d1 hd; obtain ⟨e, rfl, hd⟩ := hd
  exact e_J5_length _ (s_J5_length_0 _ ⟨a, _, rfl, h1, e_J4_length _ (s_J4_length_0 _ ⟨a, _, _, rfl, h1, rfl, _, rfl, ⟨_, rfl, H⟩⟩)⟩)
theorem sb_append_ok {c : Int} {K : Option Nat → pw_W → Prop} (hd : 5 ≤ d) (hw : wf E w) (h : c_sb E w.1 a b s) (hs : s.length < 8) (hc : 97 ≤ c ∧ c ≤ 122) (H : ∀ w', cx E w w' (fun q => q = a ∨ q = b) 0 → w'.2 = w.2 → c_sb E w'.1 a b (s ++ [c]) → K (some a) w') : pw_Cl E m_J5_append d [va_rf (some a), .int (iI c)] w (c_r K) := by
  obtain ⟨x2, h1, h2, h3, h4, h5, h6⟩ := h
  obtain ⟨-, ⟨s2, -⟩, -⟩ := hw.S
  replace hd := pw_d1 hd; obtain ⟨e, rfl, hd⟩ := hd
  replace hd := pw_d1 hd; obtain ⟨e, rfl, hd⟩ := hd
  replace hd := pw_d1 hd; obtain ⟨e, rfl, hd⟩ := hd
  have ab : a ≠ b := by rintro rfl; rw [h1] at h2; cases h2
  refine e_J5_append _ _ (s_J5_append_0 _ _ ⟨a, _, rfl, h1, e_J4_append _ _ (s_J4_append_0 _ _ ⟨a, _, _, rfl, h1, rfl, a, _, rfl, h1, ?_⟩)⟩)
  refine e_J4_ensureCapacityInternal _ _ (s_J4_ensureCapacityInternal_0 _ _ ⟨a, _, _, rfl, h1, rfl, b, 1, _, _, rfl, h2, rfl, a, _, _, rfl, h1, rfl, ?_⟩)
  have e8 : (Int32.ofNat ((List.range 8).map (fun i => Value.int (iI (s.getD i 0)))).length >>> ((0 : Int32) &&& 31)) = iI 8 := by rw [List.length_map, List.length_range]; decide
  have ea : iI (s.length : Nat) + 1 - iI 8 = iI ((s.length : Nat) + 1 - 8) := by
    rw [show iI (s.length : Nat) + 1 = iI ((s.length : Nat) + 1) from iI_add _ 1]
    exact iI_sub _ 8
  have l0 : (iI ((s.length : Nat) + 1 - 8) ≤ 0) = ((s.length : Int) + 1 - 8 ≤ 0) := iI_le (b := 0) (rI_small (by omega) (by omega)) (rI_small (by omega) (by omega))
  refine ifT (by show iI (s.length : Nat) + 1 - (Int32.ofNat ((List.range 8).map (fun i => Value.int (iI (s.getD i 0)))).length >>> ((0 : Int32) &&& 31)) ≤ 0; rw [e8, ea, l0]; omega) ⟨rfl, a, _, rfl, h1, e_J4_isLatin1 _ (s_J4_isLatin1_0 _ ⟨1, s2, ifF (by decide) ⟨a, _, _, rfl, h1, rfl, ifT rfl ⟨true, rfl, ?_⟩⟩⟩)⟩
  have l255 : ((255 : Int32) < iI c) = (255 < c) := iI_lt (a := 255) (rI_small (by omega) (by omega)) (rI_small (by omega) (by omega))
  refine ifF (by decide) (e_J11_canEncode _ (s_J11_canEncode_0 _ (ifF (by rw [l255]; omega) ⟨true, rfl, ifF (by decide) ⟨a, _, _, rfl, h1, rfl, a, _, _, rfl, h1, rfl, a, _, rfl, h1, h5, ?_⟩⟩)))
  have ec : (iI c).toInt8.toInt32.toInt8.toInt32 = iI c := by
    rw [b8_b8]
    have : ∀ x : Fin 26, (iI (97 + ((x : Nat) : Int))).toInt8.toInt32 = iI (97 + ((x : Nat) : Int)) := by decide
    have := this ⟨(c - 97).toNat, by omega⟩
    have : (iI (97 + (((c - 97).toNat : Nat) : Int))).toInt8.toInt32 = iI (97 + (((c - 97).toNat : Nat) : Int)) := this
    rw [show 97 + (((c - 97).toNat : Nat) : Int) = c by omega] at this
    exact this
  have c1 := cx.up (F := fun q => q = a ∨ q = b) hw (20, [va_rf (some b), .int 0, x2, .int (iI s.length + 1)]) h1 h5 (Or.inl rfl)
  have b1 : (pw_up w a (20, [va_rf (some b), .int 0, x2, .int (iI s.length + 1)])).1 b = some (1001, (List.range 8).map (fun i => Value.int (iI (s.getD i 0)))) := by rw [pw_up_ne (Ne.symm ab)]; exact h2
  refine ⟨b, _, rfl, b1, h6, iI_n0' (by omega), by rw [iI_nn (by omega), List.length_map, List.length_range]; exact hs, ⟨_, rfl, ⟨_, rfl, ?_⟩⟩⟩
  have c2 := cx.up (F := fun q => q = a ∨ q = b) c1.ok (1001, ((List.range 8).map (fun i => Value.int (iI (s.getD i 0)))).set (iI (s.length : Nat)).toNatClampNeg (.int (iI c).toInt8.toInt32.toInt8.toInt32)) b1 h6 (Or.inr rfl)
  refine H _ (c1.tr c2) rfl ⟨x2, ?_, ?_, ?_, ?_, h5, h6⟩
  · rw [pw_up_ne ab, pw_up_1]
    congr 2
    rw [List.length_append]
    rw [show iI (s.length : Nat) + 1 = iI ((s.length : Nat) + 1) from iI_add _ 1]
    rfl
  · rw [pw_up_1, ec, iI_nn (by omega)]
    congr 2
    refine List.ext_getElem (by simp) (fun i hi hj => ?_)
    rw [List.getElem_set]
    simp only [List.getElem_map, List.getElem_range]
    by_cases z : s.length = i
    · subst z
      rw [if_pos rfl, List.getD_eq_getElem?_getD, List.getElem?_append_right (Nat.le_refl _), Nat.sub_self]
      rfl
    · rw [if_neg z, List.getD_eq_getElem?_getD, List.getD_eq_getElem?_getD]
      rcases Nat.lt_or_ge i s.length with q | q
      · rw [List.getElem?_append_left q]
      · rw [List.getElem?_append_right q, List.getElem?_eq_none_iff.mpr q, List.getElem?_eq_none_iff.mpr (by simp; omega)]
  · rw [List.length_append]; show s.length + 1 ≤ 8; omega
  · intro c' hc'
    rcases List.mem_append.mp hc' with q | q
    · exact h4 c' q
    · have q := List.mem_singleton.mp q
      rw [q]; exact hc
end
