set_option maxRecDepth 100000
/-! the component: a StringBuilder's string -/
section
variable {E : pw_E} {d : Nat} {w : pw_W} {a b : Nat} {s : List Int}
theorem sb_toString_ok {K : Option Nat → pw_W → Prop} (hd : 8 ≤ d) (hw : wf E w) (h : c_sb E w.1 a b s) (hs : s.length ≤ 7) (H : ∀ w', cx E w w' c_no 20 → c_str w'.1 w.2.1 s → K (some w.2.1) w') : pw_Cl E m_J5_toString d [va_rf (some a)] w (c_r K) := by
  obtain ⟨x2, h1, h2, h3, h4, h5, h6⟩ := id h
  replace hd := pw_d1 hd; obtain ⟨e, rfl, hd⟩ := hd
  replace hd := pw_d1 hd; obtain ⟨e, rfl, hd⟩ := hd
  replace hd := pw_d1 hd; obtain ⟨e, rfl, hd⟩ := hd
  replace hd := pw_d1 hd; obtain ⟨e, rfl, hd⟩ := hd
  replace hd := pw_d1 hd; obtain ⟨e, rfl, hd⟩ := hd
  have hbb := hw.b
  have al := hw.lt h1
  have bl := hw.lt h2
  refine e_J5_toString _ (s_J5_toString_0 _ ?_)
  have c1 : cx E w (pw_new w (21, [va_rf none, .int 0, .int 0, .int 0]) 4) c_no 8 := cx.new hw _ 4
  have a1 : (pw_new w (21, [va_rf none, .int 0, .int 0, .int 0]) 4).1 w.2.1 = some (21, [va_rf none, .int 0, .int 0, .int 0]) := pw_new_1 _ _ _
  have n1 : (pw_new w (21, [va_rf none, .int 0, .int 0, .int 0]) 4).2.1 = w.2.1 + 1 := rfl
  show pw_Cl E m_J6_init _ [va_rf (some w.2.1), va_rf (some a)] (pw_new w (21, [va_rf none, .int 0, .int 0, .int 0]) 4) _
  generalize pw_new w (21, [va_rf none, .int 0, .int 0, .int 0]) 4 = w1 at c1 a1 n1 ⊢
  have h11 := c1.at h1
  have h21 := c1.at h2
  have hsb : c_sb E w1.1 a b s := ⟨x2, h11, h21, h3, h4, h5, h6⟩
  obtain ⟨-, ⟨s2, -⟩, -⟩ := c1.ok.S
  refine e_J6_init _ _ (s_J6_init_0 _ _ (e_J6_init_2 _ _ _ (s_J6_init_2_0 _ _ _ ⟨a, _, rfl, h11, e_J4_getValue _ (s_J4_getValue_0 _ ⟨a, _, _, rfl, h11, rfl, _, rfl, ⟨a, _, rfl, h11, sb_length_ok (by omega) hsb ⟨a, _, rfl, h11, e_J4_isLatin1 _ (s_J4_isLatin1_0 _ ⟨1, s2, ifF (by decide) ⟨a, _, _, rfl, h11, rfl, ifT rfl ⟨true, rfl, ifF (by decide) ⟨w.2.1, _, rfl, a1, hbb, ?_⟩⟩⟩⟩)⟩⟩⟩)⟩)))
  have c2 := cx.up (F := fun q => q = w.2.1) c1.ok (21, [va_rf none, .int 0, .int 0, .int 0]) a1 hbb rfl
  have a2 : (pw_up w1 w.2.1 (21, [va_rf none, .int 0, .int 0, .int 0])).1 w.2.1 = some (21, [va_rf none, .int 0, .int 0, .int 0]) := pw_up_1 _ _ _
  have n2 : (pw_up w1 w.2.1 (21, [va_rf none, .int 0, .int 0, .int 0])).2.1 = w.2.1 + 1 := n1
  have h22 := c2.keep h21 (by omega)
  show pw_Cl E m_J10_copyOfRange _ [va_rf (some b), .int 0, .int (iI (s.length : Nat))] (pw_up w1 w.2.1 (21, [va_rf none, .int 0, .int 0, .int 0])) _
  generalize pw_up w1 w.2.1 (21, [va_rf none, .int 0, .int 0, .int 0]) = v at c2 a2 n2 h22 ⊢
  have lenR : ((List.range 8).map (fun i => Value.int (iI (s.getD i 0)))).length = 8 := by rw [List.length_map, List.length_range]
  have ne8 : ¬ iI (s.length : Nat) = Int32.ofNat ((List.range 8).map (fun i => Value.int (iI (s.getD i 0)))).length := by
    rw [lenR, show Int32.ofNat 8 = iI ((8 : Nat) : Int) by decide, iI_eqn (by omega) (by omega)]
    omega
  have e0 : iI (s.length : Nat) - 0 = iI (s.length : Nat) := by
    have := iI_sub (s.length : Nat) 0
    rw [Int.sub_zero] at this
    exact this
  have l0 : ((0 : Int32) ≤ iI (s.length : Nat)) = ((0 : Int) ≤ (s.length : Nat)) := iI_le (a := 0) (rI_small (by omega) (by omega)) (rI_small (by omega) (by omega))
  refine e_J10_copyOfRange _ _ _ (s_J10_copyOfRange_0 _ _ _ (ifT rfl ⟨b, 1, _, _, rfl, h22, rfl, ifF ne8 (e_J10_copyOfRangeByte _ _ _ (s_J10_copyOfRangeByte_0 _ _ _ ?_))⟩))
  obtain ⟨e', rfl, -⟩ := pw_d1 (show 0 + 1 ≤ e by omega)
  refine e_J10_checkLength _ _ (s_J10_checkLength_0 _ _ (ifT (by rw [l0]; omega) ⟨rfl, ?_⟩))
  rw [e0]
  refine ⟨iI_n0' (by omega), by rw [iI_nn (by omega)]; omega, ?_⟩
  rw [iI_nn (by omega)]
  have c3 : cx E v (pw_new v (1000 + 1, List.replicate s.length (.int 0)) s.length) c_no (s.length + 4) := cx.new c2.ok _ _
  have a3 : (pw_new v (1000 + 1, List.replicate s.length (.int 0)) s.length).1 v.2.1 = some (1000 + 1, List.replicate s.length (.int 0)) := pw_new_1 _ _ _
  have h23 := c3.at h22
  have a23 := c3.at a2
  generalize pw_new v (1000 + 1, List.replicate s.length (.int 0)) s.length = v3 at c3 a3 h23 a23 ⊢
  refine ⟨b, 1, _, _, rfl, h23, rfl, ?_⟩
  have e8 : Int32.ofNat ((List.range 8).map (fun i => Value.int (iI (s.getD i 0)))).length - 0 = iI ((8 : Nat) : Int) := by rw [lenR]; decide
  dsimp only
  rw [e8]
  have l8 : (iI (s.length : Nat) < iI ((8 : Nat) : Int)) = ((s.length : Int) < ((8 : Nat) : Int)) := iI_lt (rI_small (by omega) (by omega)) (rI_small (by omega) (by omega))
  rw [if_pos (by rw [l8]; omega)]
  have z0 : Int32.toNatClampNeg 0 = 0 := by decide
  refine ⟨b, v.2.1, 1, 1, _, _, _, _, rfl, rfl, rfl, rfl, by decide, (fun e => by cases e), h23, a3, by omega, by decide, by decide, iI_n0' (by omega), ?_, ?_, ?_, ?_⟩
  · rw [z0, iI_nn (by omega), lenR]; omega
  · rw [z0, iI_nn (by omega), List.length_replicate]; omega
  · intro i hi y hy
    rw [iI_nn (by omega)] at hi
    rw [z0, Nat.zero_add, List.getElem?_map, List.getElem?_range (by omega)] at hy
    have hy : some (Value.int (iI (s.getD i 0))) = some y := hy
    cases hy
    refine ⟨?_, fun b hb => by cases hb⟩
    obtain ⟨c, hc⟩ := dc_get (l := s) (i := i) hi
    rw [dc_getD hc]
    have hr := h4 c (List.mem_of_getElem? hc)
    have g1 : ((-128 : Int32) ≤ iI c) = (-128 ≤ c) := by rw [show (-128 : Int32) = iI (-128) by decide]; exact iI_le (rI_small (by omega) (by omega)) (rI_small (by omega) (by omega))
    have g2 : (iI c ≤ (127 : Int32)) = (c ≤ 127) := iI_le (b := 127) (rI_small (by omega) (by omega)) (rI_small (by omega) (by omega))
    show (decide ((-128 : Int32) ≤ iI c) && decide (iI c ≤ (127 : Int32))) = true
    rw [Bool.and_eq_true, decide_eq_true_eq, decide_eq_true_eq, g1, g2]
    omega
  have ecp : pw_cpy ((List.range 8).map (fun i => Value.int (iI (s.getD i 0)))) (List.replicate s.length (.int 0)) (Int32.toNatClampNeg 0) (Int32.toNatClampNeg 0) (iI (s.length : Nat)).toNatClampNeg = s.map (fun c => Value.int (iI c)) := by
    rw [z0, iI_nn (by omega)]
    unfold pw_cpy
    rw [List.take_zero, List.drop_zero, List.nil_append, Nat.zero_add, List.drop_eq_nil_of_le (by rw [List.length_replicate]; omega), List.append_nil]
    refine List.ext_getElem (by simp; omega) (fun i hi hj => ?_)
    have hi' : i < s.length := by simpa using hj
    simp only [List.getElem_take, List.getElem_map, List.getElem_range]
    rw [List.getD_eq_getElem?_getD, List.getElem?_eq_getElem hi']
    rfl
  rw [ecp]
  have c4 := cx.up (F := fun q => q = v.2.1) c3.ok (1000 + 1, s.map (fun c => Value.int (iI c))) a3 (by omega) rfl
  have a4 : (pw_up v3 v.2.1 (1000 + 1, s.map (fun c => Value.int (iI c)))).1 w.2.1 = some (21, [va_rf none, .int 0, .int 0, .int 0]) := c4.keep a23 (by omega)
  have b4 : (pw_up v3 v.2.1 (1000 + 1, s.map (fun c => Value.int (iI c)))).1 v.2.1 = some (1000 + 1, s.map (fun c => Value.int (iI c))) := pw_up_1 _ _ _
  generalize pw_up v3 v.2.1 (1000 + 1, s.map (fun c => Value.int (iI c))) = v4 at c4 a4 b4 ⊢
  have c5 := cx.up (F := fun q => q = w.2.1) c4.ok (21, [va_rf (some v.2.1), .int 0, .int 0, .int 0]) a4 hbb rfl
  refine ⟨_, rfl, _, rfl, ⟨w.2.1, _, rfl, a4, hbb, ⟨rfl, rfl, _, rfl, ?_⟩⟩⟩
  have cc : cx E w (pw_up v4 w.2.1 (21, [va_rf (some v.2.1), .int 0, .int 0, .int 0])) c_no 20 := by
    have y1 := cx.tn hw c1 c2 (fun q hq => Or.inr (by have hq : q = w.2.1 := hq; omega))
    have y2 := y1.tr c3
    have y3 := cx.tn hw y2 c4 (fun q hq => Or.inr (by have hq : q = v.2.1 := hq; omega))
    have y4 := cx.tn hw y3 c5 (fun q hq => Or.inr (by have hq : q = w.2.1 := hq; omega))
    exact y4.le (by omega)
  exact H _ cc ⟨v.2.1, .int 0, .int 0, pw_up_1 _ _ _, by rw [pw_up_ne (by omega)]; exact b4, by omega, h4⟩
end
