set_option maxRecDepth 100000
/-! the component: strings, boxes -/
/-- how strings compare -/
def s_cmp : List Int → List Int → Int
  | [], t => - (t.length : Int)
  | s, [] => (s.length : Int)
  | c :: s, e :: t => if c = e then s_cmp s t else c - e
def s_code (s : List Int) : Int := s.foldl (fun v c => 27 * v + c - 97 + 1) 0
theorem ch_1 : ∀ k : Fin 26, (((iI (97 + (k : Nat)) &&& 255).toUInt32 % 65536).toInt32) = iI (97 + (k : Nat)) := by decide +kernel
theorem ch_2 : ∀ k : Fin 26, (iI (97 + (k : Nat))).toUInt32.toUInt16.toUInt32.toInt32 = iI (97 + (k : Nat)) := by decide +kernel
theorem ch_a {c : Int} (h : 97 ≤ c ∧ c ≤ 122) : (((iI c &&& 255).toUInt32 % 65536).toInt32) = iI c := by
  have := ch_1 ⟨(c - 97).toNat, by omega⟩
  have e : (97 : Int) + (((⟨(c - 97).toNat, by omega⟩ : Fin 26) : Nat) : Int) = c := by show (97 : Int) + ((c - 97).toNat : Nat) = c; omega
  rw [e] at this
  exact this
theorem ch_b {c : Int} (h : 97 ≤ c ∧ c ≤ 122) : narrow .char (.int (iI c)) = .int (iI c) := by
  have := ch_2 ⟨(c - 97).toNat, by omega⟩
  have e : (97 : Int) + (((⟨(c - 97).toNat, by omega⟩ : Fin 26) : Nat) : Int) = c := by show (97 : Int) + ((c - 97).toNat : Nat) = c; omega
  rw [e] at this
  exact congrArg Value.int this
theorem iI_sh0 (x : Int32) : x >>> ((0 : Int32) &&& 31) = x := by
  rw [show ((0 : Int32) &&& 31) = 0 from by decide]
  exact Int32.shiftRight_zero
theorem c_canS : pw_can 21 "java/lang/String" := Or.inl ⟨_, rfl, by decide, Or.inl rfl⟩
/-- a string's array -/
theorem c_str.at {h : pw_H} {a : Nat} {s : List Int} (k : c_str h a s) : ∃ (b : Nat) (v2 v3 : Value), h a = some (21, [va_rf (some b), .int 0, v2, v3]) ∧ h b = some (1001, s.map (fun c => Value.int (iI c))) ∧ s.length ≤ 1000 ∧ (∀ c ∈ s, 97 ≤ c ∧ c ≤ 122) ∧ ∀ (i : Nat) (c : Int), s[i]? = some c → (s.map (fun c => Value.int (iI c)))[(iI i).toNatClampNeg]? = some (.int (iI c)) := by
  obtain ⟨b, v2, v3, h1, h2, h3, h4⟩ := k
  refine ⟨b, v2, v3, h1, h2, h3, h4, fun i c hc => ?_⟩
  have := (List.getElem?_eq_some_iff.mp hc).1
  rw [iI_nn (by omega), List.getElem?_map, hc]
  rfl
theorem c_str.inj {h : pw_H} {a : Nat} {s t : List Int} (k : c_str h a s) (k' : c_str h a t) : s = t := by
  obtain ⟨b, v2, v3, h1, h2, h3, h4⟩ := k
  obtain ⟨b', v2', v3', k1, k2, k3, k4⟩ := k'
  rw [h1] at k1
  have e1 : va_rf (some b) = va_rf (some b') := by
    have := Option.some.inj k1
    have := (Prod.mk.inj this).2
    exact (List.cons.inj this).1
  have e2 : b = b' := by cases e1; rfl
  subst e2
  rw [h2] at k2
  have e3 := (Prod.mk.inj (Option.some.inj k2)).2
  apply List.ext_getElem?
  intro i
  have e4 : (s.map (fun c => Value.int (iI c)))[i]? = (t.map (fun c => Value.int (iI c)))[i]? := by rw [e3]
  rw [List.getElem?_map, List.getElem?_map] at e4
  cases hs : s[i]? with
  | none =>
    cases ht : t[i]? with
    | none => rfl
    | some y => rw [hs, ht] at e4; cases e4
  | some x =>
    cases ht : t[i]? with
    | none => rw [hs, ht] at e4; cases e4
    | some y =>
      rw [hs, ht] at e4
      have e5 : iI x = iI y := by
        have := Option.some.inj e4
        exact Value.int.inj this
      have := h4 x (List.mem_of_getElem? hs)
      have := k4 y (List.mem_of_getElem? ht)
      rw [iI_eq (rI_small (by omega) (by omega)) (rI_small (by omega) (by omega))] at e5
      rw [e5]
section
variable {E : pw_E} {d : Nat} {w : pw_W}
theorem cs_coder_ok {a : Nat} {s : List Int} {K : Int32 → pw_W → Prop} (hd : 1 ≤ d) (hw : wf E w) (h : c_str w.1 a s) (H : K 0 w) : pw_Cl E m_J6_coder d [va_rf (some a)] w (c_i K) := by
  replace hd := pw_d1 hd; obtain ⟨e, rfl, hd⟩ := hd
  obtain ⟨b, v2, v3, h1, -⟩ := h
  exact e_J6_coder _ (s_J6_coder_0 _ ⟨1, hw.S.2.1.1, ifF (by decide) ⟨a, _, _, rfl, h1, rfl, rfl, _, rfl, H⟩⟩)
theorem cs_isLatin1_ok {a : Nat} {s : List Int} {K : Bool → pw_W → Prop} (hd : 1 ≤ d) (hw : wf E w) (h : c_str w.1 a s) (H : K true w) : pw_Cl E m_J6_isLatin1 d [va_rf (some a)] w (c_z K) := by
  replace hd := pw_d1 hd; obtain ⟨e, rfl, hd⟩ := hd
  obtain ⟨b, v2, v3, h1, -⟩ := h
  exact e_J6_isLatin1 _ (s_J6_isLatin1_0 _ ⟨1, hw.S.2.1.1, ifF (by decide) ⟨a, _, _, rfl, h1, rfl, ifT rfl ⟨true, rfl, H⟩⟩⟩)
theorem cs_length_ok {a : Nat} {s : List Int} {K : Int32 → pw_W → Prop} (hd : 2 ≤ d) (hw : wf E w) (h : c_str w.1 a s) (H : K (iI s.length) w) : pw_Cl E m_J6_length d [va_rf (some a)] w (c_i K) := by
  replace hd := pw_d1 hd; obtain ⟨e, rfl, hd⟩ := hd
  obtain ⟨b, v2, v3, h1, h2, -⟩ := h.at
  refine e_J6_length _ (s_J6_length_0 _ ⟨a, _, _, rfl, h1, rfl, b, 1, _, _, rfl, h2, rfl, a, _, rfl, h1, cs_coder_ok hd hw h ⟨_, rfl, ?_⟩⟩)
  rw [iI_sh0, List.length_map]
  exact H
theorem cs_charAt_ok {a i : Nat} {c : Int} {s : List Int} {K : Int32 → pw_W → Prop} (hd : 4 ≤ d) (hw : wf E w) (h : c_str w.1 a s) (hc : s[i]? = some c) (H : K (iI c) w) : pw_Cl E m_J6_charAt d [va_rf (some a), .int (iI i)] w (c_i K) := by
  replace hd := pw_d1 hd; obtain ⟨e, rfl, hd⟩ := hd
  obtain ⟨b, v2, v3, h1, h2, h3, h4, h5⟩ := h.at
  have hi := (List.getElem?_eq_some_iff.mp hc).1
  have hcr := h4 c (List.mem_of_getElem? hc)
  refine e_J6_charAt _ _ (s_J6_charAt_0 _ _ ⟨a, _, rfl, h1, cs_isLatin1_ok (by omega) hw h (ifF (by decide) ⟨a, _, _, rfl, h1, rfl, ?_⟩)⟩)
  replace hd := pw_d1 hd; obtain ⟨e, rfl, hd⟩ := hd
  refine e_J11_charAt _ _ (s_J11_charAt_0 _ _ ⟨b, 1, _, _, rfl, h2, rfl, ?_⟩)
  replace hd := pw_d1 hd; obtain ⟨e, rfl, hd⟩ := hd
  obtain ⟨x, hx⟩ := hw.S.2.1.2.1
  rw [iI_ofNat, List.length_map]
  refine e_J6_checkIndex _ _ (s_J6_checkIndex_0 _ _ ⟨x, hx, ?_⟩)
  replace hd := pw_d1 hd; obtain ⟨e, rfl, hd⟩ := hd
  refine e_J12_checkIndex _ _ _ (s_J12_checkIndex_0 _ _ _ (ifF (iI_n0 (by omega)) (ifT (by rw [iI_ltn (by omega) (by omega)]; exact hi) ⟨_, rfl, rfl, b, _, _, rfl, h2, iI_n0 (by omega), h5 i c hc, ?_⟩)))
  show _ ∧ _
  rw [ch_a hcr]
  exact ⟨ch_b hcr, _, rfl, ch_b hcr, _, rfl, H⟩
theorem cs_code_ok {a : Nat} {s : List Int} {K : Int32 → pw_W → Prop} (hd : 5 ≤ d) (hw : wf E w) (h : c_str w.1 a s) (H : K (iI (s_code s)) w) : pw_Cl E m_X0_code d [va_rf (some a)] w (c_i K) := by
  replace hd := pw_d1 hd; obtain ⟨e, rfl, hd⟩ := hd
  obtain ⟨b, v2, v3, h1, h2, h3, h4, h5⟩ := h.at
  refine e_X0_code _ (s_X0_code_0 _ ?_)
  have key : ∀ (f k : Nat), k + f = s.length → pw_Wp E m_X0_code (e + 1) 4 [some (va_rf (some a)), some (.int (iI (s_code (s.take k)))), some (.int (iI k))] [] w (c_i K) := by
    intro f
    induction f with
    | zero =>
      intro k hk
      refine s_X0_code_4 _ _ _ ⟨a, _, rfl, h1, cs_length_ok (by omega) hw h (ifT (by rw [iI_len (by omega) (by omega)]; omega) ⟨_, rfl, ?_⟩)⟩
      rw [List.take_of_length_le (by omega)]
      exact H
    | succ f ih =>
      intro k hk
      have hx : s[k]? = some s[k] := List.getElem?_eq_getElem (by omega)
      refine s_X0_code_4 _ _ _ ⟨a, _, rfl, h1, cs_length_ok (by omega) hw h (ifF (by rw [iI_len (by omega) (by omega)]; omega) ⟨a, _, rfl, h1, cs_charAt_ok (by omega) hw h hx ?_⟩)⟩
      have e1 : s_code (s.take (k + 1)) = 27 * s_code (s.take k) + s[k] - 97 + 1 := by
        unfold s_code
        rw [List.take_succ, hx, List.foldl_append]
        rfl
      have := ih (k + 1) (by omega)
      rw [e1] at this
      rw [iI_ad1]
      have e2 : (((27 : Int32) * iI (s_code (s.take k))) + iI s[k] - 97) + 1 = iI (27 * s_code (s.take k) + s[k] - 97 + 1) := by
        rw [← iI_add, ← iI_sub, ← iI_add, ← iI_mul]; rfl
      rw [e2]
      exact this
  have := key s.length 0 (by omega)
  exact this
theorem cs_equals_ok {a a' : Nat} {s t : List Int} {K : Bool → pw_W → Prop} (hd : 2 ≤ d) (hw : wf E w) (h : c_str w.1 a s) (h' : c_str w.1 a' t) (H : K (decide (s = t)) w) : pw_Cl E m_J6_equals d [va_rf (some a), va_rf (some a')] w (c_z K) := by
  replace hd := pw_d1 hd; obtain ⟨e, rfl, hd⟩ := hd
  refine e_J6_equals _ _ (s_J6_equals_0 _ _ ?_)
  by_cases q : a = a'
  · subst q
    rw [decide_eq_true (h.inj h')] at H
    exact ifT rfl ⟨true, rfl, H⟩
  obtain ⟨b, v2, v3, h1, h2, h3, h4, h5⟩ := h.at
  obtain ⟨b', v2', v3', k1, k2, k3, k4, k5⟩ := h'.at
  refine ifF (fun z => q (Option.some.inj z)) (Or.inr ⟨⟨a', 21, _, _, rfl, k1, rfl, rfl⟩, Or.inr ⟨a', 21, _, rfl, k1, c_canS⟩, 1, hw.S.2.1.1, ifF (by decide) ⟨a, _, _, rfl, h1, rfl, a', _, _, rfl, k1, rfl, ifT rfl ⟨a, _, _, rfl, h1, rfl, a', _, _, rfl, k1, rfl, ?_⟩⟩⟩)
  replace hd := pw_d1 hd; obtain ⟨e, rfl, hd⟩ := hd
  have hb : ∀ r : Bool, r = decide (s = t) → c_z (fun b14 w13 => (if bI b14 = 0 then c_z K (.inl (some (.int 0))) w13 else c_z K (.inl (some (.int 1))) w13)) (.inl (some (.int (bI r)))) w := by
    intro r hr
    subst hr
    refine ⟨_, rfl, ?_⟩
    by_cases z : s = t
    · rw [decide_eq_true z] at H ⊢
      exact ifF (by decide) ⟨true, rfl, H⟩
    · rw [decide_eq_false z] at H ⊢
      exact ifT (by decide) ⟨false, rfl, H⟩
  refine e_J11_equals _ _ (s_J11_equals_0 _ _ ⟨b, 1, _, _, rfl, h2, rfl, b', 1, _, _, rfl, k2, rfl, ?_⟩)
  rw [iI_ofNat, iI_ofNat, List.length_map, List.length_map]
  by_cases z : s.length = t.length
  · refine ifT (by rw [z]) ?_
    have key : ∀ (f k : Nat), k + f = s.length → (∀ i, i < k → s[i]? = t[i]?) → pw_Wp E m_J11_equals (e + 1) 9 [some (va_rf (some b)), some (va_rf (some b')), some (.int (iI k))] [] w (c_z (fun b14 w13 => (if bI b14 = 0 then c_z K (.inl (some (.int 0))) w13 else c_z K (.inl (some (.int 1))) w13))) := by
      intro f
      induction f with
      | zero =>
        intro k hk hs
        refine s_J11_equals_9 _ _ _ ⟨b, 1, _, _, rfl, h2, rfl, ?_⟩
        rw [iI_ofNat, List.length_map]
        refine ifT (by rw [iI_len (by omega) (by omega)]; omega) (hb true ?_)
        refine (decide_eq_true (List.ext_getElem? (fun i => ?_))).symm
        by_cases y : i < k
        · exact hs i y
        · rw [List.getElem?_eq_none (by omega), List.getElem?_eq_none (by omega)]
      | succ f ih =>
        intro k hk hs
        have x1 : s[k]? = some s[k] := List.getElem?_eq_getElem (by omega)
        have x2 : t[k]? = some t[k] := List.getElem?_eq_getElem (by omega)
        refine s_J11_equals_9 _ _ _ ⟨b, 1, _, _, rfl, h2, rfl, ?_⟩
        rw [iI_ofNat, List.length_map]
        refine ifF (by rw [iI_len (by omega) (by omega)]; omega) ⟨b, _, _, rfl, h2, iI_n0 (by omega), h5 k _ x1, b', _, _, rfl, k2, iI_n0 (by omega), k5 k _ x2, ?_⟩
        have r1 := h4 _ (List.mem_of_getElem? x1)
        have r2 := k4 _ (List.mem_of_getElem? x2)
        have e0 : (iI s[k] = iI t[k]) = (s[k] = t[k]) := iI_eq (rI_small (by omega) (by omega)) (rI_small (by omega) (by omega))
        by_cases y : s[k] = t[k]
        · refine ifT (by rw [e0]; exact y) ?_
          rw [iI_ad1]
          refine ih (k + 1) (by omega) (fun i hi => ?_)
          by_cases u : i = k
          · subst u
            rw [x1, x2, y]
          · exact hs i (by omega)
        · refine ifF (by rw [e0]; exact y) (hb false (decide_eq_false (fun u => y ?_)).symm)
          subst u
          rfl
    have := key s.length 0 (by omega) (fun i hi => by omega)
    exact this
  · exact ifF (by rw [iI_eqn (by omega) (by omega)]; exact z) (hb false (decide_eq_false (fun u => z (by rw [u]))).symm)
theorem s_cmp_nil (s : List Int) : s_cmp s [] = s.length := by
  cases s <;> simp [s_cmp]
theorem cs_getChar_ok {b i : Nat} {c : Int} {s : List Int} {K : Int32 → pw_W → Prop} (hd : 1 ≤ d) (h2 : w.1 b = some (1001, s.map (fun c => Value.int (iI c)))) (hr : 97 ≤ c ∧ c ≤ 122) (hl : s.length ≤ 1000) (hc : s[i]? = some c) (H : K (iI c) w) : pw_Cl E m_J11_getChar d [va_rf (some b), .int (iI i)] w (c_i K) := by
  replace hd := pw_d1 hd; obtain ⟨e, rfl, hd⟩ := hd
  have hi := (List.getElem?_eq_some_iff.mp hc).1
  refine e_J11_getChar _ _ (s_J11_getChar_0 _ _ ⟨b, _, iI c, rfl, h2, iI_n0 (by omega), ?_, ?_⟩)
  · rw [iI_nn (by omega), List.getElem?_map, hc]
    rfl
  · show _ ∧ _
    rw [ch_a hr]
    exact ⟨ch_b hr, _, rfl, H⟩
theorem cs_compareTo_ok {a a' : Nat} {s t : List Int} {K : Int32 → pw_W → Prop} (hd : 5 ≤ d) (hw : wf E w) (h : c_str w.1 a s) (h' : c_str w.1 a' t) (hs : s.length ≤ 7) (H : K (iI (s_cmp s t)) w) : pw_Cl E m_J6_compareTo d [va_rf (some a), va_rf (some a')] w (c_i K) := by
  replace hd := pw_d1 hd; obtain ⟨e, rfl, hd⟩ := hd
  obtain ⟨b, v2, v3, h1, h2, h3, h4, h5⟩ := h.at
  obtain ⟨b', v2', v3', k1, k2, k3, k4, k5⟩ := h'.at
  refine e_J6_compareTo _ _ (s_J6_compareTo_0 _ _ ⟨Or.inr ⟨a', 21, _, rfl, k1, c_canS⟩, a, _, rfl, h1, ?_⟩)
  replace hd := pw_d1 hd; obtain ⟨e, rfl, hd⟩ := hd
  refine e_J6_compareTo_2 _ _ (s_J6_compareTo_2_0 _ _ ⟨a, _, _, rfl, h1, rfl, a', _, _, rfl, k1, rfl, a, _, rfl, h1, cs_coder_ok (by omega) hw h ⟨a', _, rfl, k1, cs_coder_ok (by omega) hw h' (ifT rfl (ifT rfl ?_))⟩⟩)
  replace hd := pw_d1 hd; obtain ⟨e, rfl, hd⟩ := hd
  refine e_J11_compareTo _ _ (s_J11_compareTo_0 _ _ ⟨b, 1, _, _, rfl, h2, rfl, b', 1, _, _, rfl, k2, rfl, ?_⟩)
  rw [iI_ofNat, iI_ofNat, List.length_map, List.length_map]
  replace hd := pw_d1 hd; obtain ⟨e, rfl, hd⟩ := hd
  refine e_J11_compareTo_2 _ _ _ _ (s_J11_compareTo_2_0 _ _ _ _ ?_)
  rw [iI_min (by omega) (by omega)]
  replace hd := pw_d1 hd; obtain ⟨e, rfl, hd⟩ := hd
  refine e_J8_mismatch _ _ _ (s_J8_mismatch_0 _ _ _ (ifT ?_ ?_))
  · have e0 : (iI ((min t.length s.length : Nat) : Int) ≤ 7) = (min t.length s.length ≤ 7) := iI_len (b := 7) (by omega) (by omega)
    rw [e0]
    omega
  have key : ∀ (f k : Nat) (Q : Int32 → pw_W → Prop), k + f = min t.length s.length → s_cmp s t = s_cmp (s.drop k) (t.drop k) → (∀ m : Nat, m < s.length → m < t.length → s_cmp s t = s[m]! - t[m]! → Q (iI m) w) → (s_cmp s t = (s.length : Int) - t.length → Q (-1) w) → pw_Wp E m_J8_mismatch (e + 1) 49 [some (va_rf (some b)), some (va_rf (some b')), some (.int (iI ((min t.length s.length : Nat) : Int))), some (.int (iI k))] [] w (c_i Q) := by
    intro f
    induction f with
    | zero =>
      intro k Q hk hc _ q2
      refine s_J8_mismatch_49 _ _ _ _ (ifT (by rw [iI_len (by omega) (by omega)]; omega) ⟨_, rfl, q2 ?_⟩)
      rw [hc]
      rcases Nat.le_total s.length t.length with u | u
      · rw [show s.drop k = [] from List.drop_eq_nil_of_le (by omega)]
        simp [s_cmp]
        omega
      · rw [show t.drop k = [] from List.drop_eq_nil_of_le (by omega), s_cmp_nil]
        simp
        omega
    | succ f ih =>
      intro k Q hk hc q1 q2
      have x1 : s[k]? = some s[k] := List.getElem?_eq_getElem (by omega)
      have x2 : t[k]? = some t[k] := List.getElem?_eq_getElem (by omega)
      have r1 := h4 _ (List.mem_of_getElem? x1)
      have r2 := k4 _ (List.mem_of_getElem? x2)
      have e0 : (iI s[k] = iI t[k]) = (s[k] = t[k]) := iI_eq (rI_small (by omega) (by omega)) (rI_small (by omega) (by omega))
      have e1 : s.drop k = s[k] :: s.drop (k + 1) := List.drop_eq_getElem_cons (by omega)
      have e2 : t.drop k = t[k] :: t.drop (k + 1) := List.drop_eq_getElem_cons (by omega)
      rw [e1, e2, s_cmp] at hc
      refine s_J8_mismatch_49 _ _ _ _ (ifF (by rw [iI_len (by omega) (by omega)]; omega) ⟨b, _, _, rfl, h2, iI_n0 (by omega), h5 k _ x1, b', _, _, rfl, k2, iI_n0 (by omega), k5 k _ x2, ?_⟩)
      by_cases y : s[k] = t[k]
      · rw [if_pos y] at hc
        refine ifT (by rw [e0]; exact y) ?_
        rw [iI_ad1]
        exact ih (k + 1) Q (by omega) hc q1 q2
      · rw [if_neg y] at hc
        refine ifF (by rw [e0]; exact y) ⟨_, rfl, q1 k (by omega) (by omega) ?_⟩
        rw [hc, getElem!_pos s k (by omega), getElem!_pos t k (by omega)]
  refine key (min t.length s.length) 0 _ (by omega) rfl (fun m m1 m2 hm => ?_) (fun hm => ?_)
  · have x1 : s[m]? = some s[m] := List.getElem?_eq_getElem (by omega)
    have x2 : t[m]? = some t[m] := List.getElem?_eq_getElem (by omega)
    have r1 := h4 _ (List.mem_of_getElem? x1)
    have r2 := k4 _ (List.mem_of_getElem? x2)
    rw [getElem!_pos s m (by omega), getElem!_pos t m (by omega)] at hm
    have e0 : ((0 : Int32) ≤ iI m) = (0 ≤ m) := iI_len (a := 0) (by omega) (by omega)
    refine ifT (by rw [e0]; omega) (cs_getChar_ok (by omega) h2 r1 (by omega) x1 (cs_getChar_ok (by omega) k2 r2 (by omega) x2 ⟨_, rfl, _, rfl, _, rfl, _, rfl, ?_⟩))
    rw [iI_sub, ← hm]
    exact H
  · refine ifF (by decide) ⟨_, rfl, _, rfl, _, rfl, _, rfl, ?_⟩
    rw [iI_sub, ← hm]
    exact H
theorem ci_valueOf_ok {x : Int} {K : Option Nat → pw_W → Prop} (hd : 3 ≤ d) (hw : wf E w) (hx : 0 ≤ x ∧ x ≤ 1000000) (H : ∀ (w' : pw_W) (o : Nat), cx E w w' c_no 5 → w'.1 o = some (28, [.int (iI x)]) → K (some o) w') : pw_Cl E m_J21_valueOf d [.int (iI x)] w (c_r K) := by
  replace hd := pw_d1 hd; obtain ⟨e, rfl, hd⟩ := hd
  have e1 : (iI x < -128) = (x < -128) := iI_lt (b := -128) (rI_small (by omega) (by omega)) (rI_small (by omega) (by omega))
  have e2 : ((127 : Int32) < iI x) = (127 < x) := iI_lt (a := 127) (rI_small (by omega) (by omega)) (rI_small (by omega) (by omega))
  refine e_J21_valueOf _ (s_J21_valueOf_0 _ (ifF (by rw [e1]; omega) ⟨127, hw.S.2.1.2.2.2.2.1, ?_⟩))
  by_cases q : 127 < x
  · refine ifT (by rw [e2]; exact q) ?_
    replace hd := pw_d1 hd; obtain ⟨e, rfl, hd⟩ := hd
    refine e_J21_init _ _ (s_J21_init_0 _ _ ?_)
    replace hd := pw_d1 hd; obtain ⟨e, rfl, hd⟩ := hd
    refine e_J20_init _ (s_J20_init_0 _ ⟨rfl, w.2.1, _, rfl, pw_new_1 _ _ _, hw.b, ?_⟩)
    rw [pw_up_new]
    exact ⟨rfl, _, rfl, H _ _ (cx.new hw _ _) (pw_new_1 _ _ _)⟩
  · refine ifF (by rw [e2]; exact q) ?_
    obtain ⟨b, vs, b1, b2, b3, b4⟩ := hw.S.2.2.1
    obtain ⟨c, c1, c2⟩ := b4 (x + 128).toNat (by omega)
    have e3 : iI x + 128 = iI (((x + 128).toNat : Nat) : Int) := by
      have : iI x + iI 128 = iI (x + 128) := iI_add x 128
      rw [show (((x + 128).toNat : Nat) : Int) = x + 128 by omega, ← this]
      rfl
    rw [e3]
    refine ⟨some b, b1, b, 7, _, vs, some c, rfl, b2, rfl, rfl, iI_n0 (by omega), by rw [iI_nn (by omega)]; exact c1, _, rfl, H _ _ (cx.refl hw) ?_⟩
    rw [c2, show (((x + 128).toNat : Nat) : Int) - 128 = x by omega]
end
