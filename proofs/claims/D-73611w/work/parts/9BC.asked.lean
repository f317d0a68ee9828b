set_option maxRecDepth 100000
/-! the component: questions as objects: what holds where, kept once asked -/
theorem and1_0 (y : Int32) : (y &&& 1 = 0) = ¬ (y &&& 1 = 1) := by
  rw [← Int32.toBitVec_inj, ← Int32.toBitVec_inj, Int32.toBitVec_and]
  show (y.toBitVec &&& 1#32 = 0#32) = ¬ (y.toBitVec &&& 1#32 = 1#32)
  rw [BitVec.and_one_eq_setWidth_ofBool_getLsbD]
  cases y.toBitVec.getLsbD 0 <;> decide
theorem s_has_e1 (x k : Int) : (((iI x >>> (iI k &&& 31)) &&& 1) = 1) = (s_has x k = true) := by
  unfold s_has
  rw [decide_eq_true_eq]
theorem s_has_e0 (x k : Int) : (((iI x >>> (iI k &&& 31)) &&& 1) = 0) = (s_has x k = false) := by
  rw [and1_0, s_has_e1, Bool.not_eq_true]
theorem iI_or0 (y : Int) : iI y ||| 0 = iI y := by
  rw [← Int32.toBitVec_inj, Int32.toBitVec_or]
  show (iI y).toBitVec ||| 0#32 = _
  rw [BitVec.or_zero]
theorem iI_orb (y : Int) (v : Nat) : iI y ||| (1 <<< (iI v &&& 31)) = iI (s_or y (s_bit v)) := by rw [iI_or, iI_bit]
theorem s_or_r {y : Int} {v : Nat} (hy : 0 ≤ y ∧ y < 1024) (hv : v < 10) : 0 ≤ s_or y (s_bit v) ∧ s_or y (s_bit v) < 1024 := by
  have := s_or_10 ⟨y.toNat, by omega⟩ ⟨v, hv⟩
  have this : 0 ≤ s_or ((y.toNat : Nat) : Int) (s_bit ((v : Nat) : Int)) ∧ s_or ((y.toNat : Nat) : Int) (s_bit ((v : Nat) : Int)) < 1024 := this
  rw [show ((y.toNat : Nat) : Int) = y by omega] at this
  exact this
/-- kept, asked, known, is; what it says -/
abbrev kE : Type := Nat × Nat × Nat × Nat × (Nat → Nat → Bool)
def k_F (L : List kE) : Nat → Prop := fun q => ∃ e ∈ L, q = e.2.2.1 ∨ q = e.2.2.2.1
def k_ar (g : Nat → Int) : pw_O := (1000, (List.range 4).map (fun j => Value.int (iI (g j))))
/-- known versions' bits are right -/
def kR (X Y : Int) (φ : Nat → Bool) : Prop := (0 ≤ X ∧ X < 1024) ∧ (0 ≤ Y ∧ Y < 1024) ∧ ∀ v : Nat, v < 10 → (s_has X v = true → s_has Y v = φ v) ∧ (s_has X v = false → s_has Y v = false)
def kA (h : pw_H) (e : kE) : Prop := ∃ X Y : Nat → Int, h e.2.2.1 = some (k_ar X) ∧ h e.2.2.2.1 = some (k_ar Y) ∧ ∀ i : Nat, i < 4 → kR (X i) (Y i) (e.2.2.2.2 i)
def kP (E : pw_E) (p : pw_H) (L : List kE) : Prop :=
  (∀ e ∈ L, pw_base E ≤ e.2.2.1 ∧ pw_base E ≤ e.2.2.2.1 ∧ p e.2.2.1 = none ∧ p e.2.2.2.1 = none ∧ p e.1 = some (13, [va_rf (some e.2.1), va_rf (some e.2.2.1), va_rf (some e.2.2.2.1)])) ∧
  ∀ (i j : Nat) (e f : kE), L[i]? = some e → L[j]? = some f → e.2.2.1 ≠ f.2.2.2.1 ∧ (i ≠ j → e.2.2.1 ≠ f.2.2.1 ∧ e.2.2.2.1 ≠ f.2.2.2.1)
def kI (E : pw_E) (p : pw_H) (L : List kE) (u : pw_W) : Prop := wf E u ∧ c_sub p u.1 ∧ ∀ e ∈ L, kA u.1 e
/-- asked whether it holds, it answers so -/
def kH (E : pw_E) (p : pw_H) (L : List kE) (Ds : List dc) (J d0 o : Nat) (φ : Nat → Nat → Bool) : Prop := ∀ (d : Nat) (u : pw_W) (i v : Nat) (D : dc) (K : Bool → pw_W → Prop), d0 ≤ d → kI E p L u → Ds[i]? = some D → v < D.1.length → (∀ u', kI E p L u' → cx E u u' (k_F (L.take J)) 0 → u'.2 = u.2 → K (φ i v) u') → f_F E u (some o) ⟨"VersionSearch$Asked", "holds", "(II)Z"⟩ (some .boolean) d [.int (iI (i : Nat)), .int (iI (v : Nat))] (c_z K)
theorem k_F_le {L : List kE} {J J' : Nat} (h : J ≤ J') : ∀ q, k_F (L.take J) q → k_F (L.take J') q := by
  rintro q ⟨e, he, hq⟩
  refine ⟨e, ?_, hq⟩
  obtain ⟨k, hk⟩ := List.getElem?_of_mem he
  have hkJ : k < J := by
    have := (List.getElem?_eq_some_iff.mp hk).1
    simp at this
    omega
  rw [List.getElem?_take_of_lt hkJ] at hk
  exact List.mem_of_getElem? (by rw [List.getElem?_take_of_lt (show k < J' by omega)]; exact hk)
theorem kH.mono {E : pw_E} {p : pw_H} {L : List kE} {Ds : List dc} {J J' d0 d1 o : Nat} {φ : Nat → Nat → Bool} (h : kH E p L Ds J d0 o φ) (hJ : J ≤ J') (hd : d0 ≤ d1) : kH E p L Ds J' d1 o φ :=
  fun d u i v D K hd' hI hi hv H => h d u i v D K (by omega) hI hi hv (fun u' h1 h2 h3 => H u' h1 (h2.mono (fun a _ _ q => k_F_le hJ a q) (Nat.le_refl _)) h3)
section
variable {E : pw_E} {p : pw_H} {L : List kE} {Ds : List dc} {J d0 : Nat} {th a : Nat} {t : Int}
theorem kH.not {o q : Nat} {φ : Nat → Nat → Bool} (h : kH E p L Ds J d0 q φ) (ho : p o = some (2011, [va_rf (some q)])) : kH E p L Ds J (d0 + 2) o (fun i v => !φ i v) := by
  intro d u i v D K hd hI hi hv H
  replace H : ∀ u', kI E p L u' → cx E u u' (k_F (L.take J)) 0 → u'.2 = u.2 → K (!φ i v) u' := H
  obtain ⟨e, rfl, hd1⟩ := pw_d1 (show d0 + 1 + 1 ≤ d by omega)
  obtain ⟨e, rfl, hd2⟩ := pw_d1 hd1
  refine lm_F11 (hI.2.1 _ _ ho) (e_X13_lambda_not_3 _ _ _ (s_X13_lambda_not_3_0 _ _ _ (h e u i v D _ hd2 hI hi hv (fun u' h1 h2 h3 => ?_))))
  have := H u' h1 h2 h3
  cases hb : φ i v with
  | false =>
    rw [hb] at this
    exact ifT (by decide) ⟨true, rfl, this⟩
  | true =>
    rw [hb] at this
    exact ifF (by decide) ⟨false, rfl, this⟩
theorem kH.both {o q r : Nat} {φ ψ : Nat → Nat → Bool} (h : kH E p L Ds J d0 q φ) (h' : kH E p L Ds J d0 r ψ) (ho : p o = some (2014, [va_rf (some q), va_rf (some r)])) : kH E p L Ds J (d0 + 2) o (fun i v => φ i v && ψ i v) := by
  intro d u i v D K hd hI hi hv H
  replace H : ∀ u', kI E p L u' → cx E u u' (k_F (L.take J)) 0 → u'.2 = u.2 → K (φ i v && ψ i v) u' := H
  obtain ⟨e, rfl, hd1⟩ := pw_d1 (show d0 + 1 + 1 ≤ d by omega)
  obtain ⟨e, rfl, hd2⟩ := pw_d1 hd1
  refine lm_F14 (hI.2.1 _ _ ho) (e_X13_lambda_both_4 _ _ _ _ (s_X13_lambda_both_4_0 _ _ _ _ (h e u i v D _ hd2 hI hi hv (fun u' h1 h2 h3 => ?_))))
  cases hb : φ i v with
  | false =>
    have := H u' h1 h2 h3
    rw [hb, Bool.false_and] at this
    exact ifT (by decide) ⟨false, rfl, this⟩
  | true =>
    refine ifF (by decide) (h' e u' i v D _ hd2 h1 hi hv (fun u'' g1 g2 g3 => ?_))
    have := H u'' g1 ((h2.tr g2).le (by omega)) (g3.trans h3)
    rw [hb, Bool.true_and] at this
    cases hc : ψ i v with
    | false =>
      rw [hc] at this
      exact ifT (by decide) ⟨false, rfl, this⟩
    | true =>
      rw [hc] at this
      exact ifF (by decide) ⟨true, rfl, this⟩
theorem kH.fresh {o q : Nat} {φ : Nat → Nat → Bool} (hD : da_ok Ds) (h : kH E p L Ds J d0 q φ) (ho : p o = some (2013, [va_rf (some q)])) : kH E p L Ds J (d0 + 2) o (fun i v => φ i v && (decide (v = 0) || !φ i (v - 1))) := by
  intro d u i v D K hd hI hi hv H
  replace H : ∀ u', kI E p L u' → cx E u u' (k_F (L.take J)) 0 → u'.2 = u.2 → K (φ i v && (decide (v = 0) || !φ i (v - 1))) u' := H
  obtain ⟨g1, g2, g3, g4, g5, g6, g7⟩ := hD.at hi
  obtain ⟨e, rfl, hd1⟩ := pw_d1 (show d0 + 1 + 1 ≤ d by omega)
  obtain ⟨e, rfl, hd2⟩ := pw_d1 hd1
  refine lm_F13 (hI.2.1 _ _ ho) (e_X13_lambda_fresh_5 _ _ _ (s_X13_lambda_fresh_5_0 _ _ _ (h e u i v D _ hd2 hI hi hv (fun u' h1 h2 h3 => ?_))))
  cases hb : φ i v with
  | false =>
    have := H u' h1 h2 h3
    rw [hb, Bool.false_and] at this
    exact ifT (by decide) ⟨false, rfl, this⟩
  | true =>
    refine ifF (by decide) ?_
    have e0 : (iI v = 0) = (v = 0) := iI_eqn (b := 0) (by omega) (by omega)
    by_cases z : v = 0
    · have := H u' h1 h2 h3
      rw [hb, decide_eq_true z, Bool.true_or, Bool.true_and] at this
      exact ifT (by rw [e0]; exact z) ⟨true, rfl, this⟩
    · have e1 : iI v - 1 = iI ((v - 1 : Nat) : Int) := by
        have : iI v - iI 1 = _ := iI_sub _ 1
        rw [show ((v - 1 : Nat) : Int) = (v : Int) - 1 by omega]
        exact this
      rw [e1]
      refine ifF (by rw [e0]; exact z) (h e u' i (v - 1) D _ hd2 h1 hi (by omega) (fun u'' g1 g2 g3 => ?_))
      have := H u'' g1 ((h2.tr g2).le (by omega)) (g3.trans h3)
      rw [hb, decide_eq_false z, Bool.false_or, Bool.true_and] at this
      cases hc : φ i (v - 1) with
      | false =>
        rw [hc] at this
        exact ifT (by decide) ⟨true, rfl, this⟩
      | true =>
        rw [hc] at this
        exact ifF (by decide) ⟨false, rfl, this⟩
theorem kH.ever {o q : Nat} {φ : Nat → Nat → Bool} (hD : da_ok Ds) (h : kH E p L Ds J d0 q φ) (ho : p o = some (2012, [va_rf (some q)])) : kH E p L Ds J (d0 + 2) o (fun i v => (List.range (v + 1)).any (fun w => φ i w)) := by
  intro d u i v D K hd hI hi hv H
  replace H : ∀ u', kI E p L u' → cx E u u' (k_F (L.take J)) 0 → u'.2 = u.2 → K ((List.range (v + 1)).any (fun w => φ i w)) u' := H
  obtain ⟨g1, g2, g3, g4, g5, g6, g7⟩ := hD.at hi
  obtain ⟨e, rfl, hd1⟩ := pw_d1 (show d0 + 1 + 1 ≤ d by omega)
  obtain ⟨e, rfl, hd2⟩ := pw_d1 hd1
  refine lm_F12 (hI.2.1 _ _ ho) (e_X13_lambda_ever_6 _ _ _ (s_X13_lambda_ever_6_0 _ _ _ ?_))
  have key : ∀ (f k : Nat) (u' : pw_W), k + f = v + 1 → kI E p L u' → cx E u u' (k_F (L.take J)) 0 → u'.2 = u.2 → (∀ j, j < k → φ i j = false) → pw_Wp E m_X13_lambda_ever_6 (e + 1) 2 [some (va_rf (some q)), some (.int (iI (i : Nat))), some (.int (iI (v : Nat))), some (.int (iI (k : Nat)))] [] u' (c_z K) := by
    intro f
    induction f with
    | zero =>
      intro k u' hk hI' c n hf
      refine s_X13_lambda_ever_6_2 _ _ _ _ (ifT (by rw [iI_ltn (by omega) (by omega)]; omega) ⟨false, rfl, ?_⟩)
      have := H u' hI' c n
      rw [any_false (fun j hj => hf j (by omega))] at this
      exact this
    | succ f ih =>
      intro k u' hk hI' c n hf
      refine s_X13_lambda_ever_6_2 _ _ _ _ (ifF (by rw [iI_ltn (by omega) (by omega)]; omega) (h e u' i k D _ hd2 hI' hi (by omega) (fun u'' h1 h2 h3 => ?_)))
      cases hb : φ i k with
      | false =>
        refine ifT (by decide) ?_
        rw [iI_ad1]
        refine ih (k + 1) u'' (by omega) h1 ((c.tr h2).le (by omega)) (h3.trans n) (fun j hj => ?_)
        by_cases z : j = k
        · subst z; exact hb
        · exact hf j (by omega)
      | true =>
        refine ifF (by decide) ⟨true, rfl, ?_⟩
        have := H u'' h1 ((c.tr h2).le (by omega)) (h3.trans n)
        rw [any_true (show k < v + 1 by omega) hb] at this
        exact this
  exact key (v + 1) 0 u (by omega) hI (cx.refl hI.1) rfl (fun j hj => by omega)
theorem dc_times_r (D : dc) (v : Nat) (ss : List (List Int)) (hl : dc_len D v ≤ 1000) : 0 ≤ dc_times D v ss ∧ dc_times D v ss ≤ 1001 := by
  have := upto_cnt (c := fun p => (List.range ss.length).all (fun k => decide (dc_w D v (p + k) = ss.getD k [])) = true) (dc_len D v + 1 - ss.length)
  unfold dc_times
  omega
theorem kH.phrase {o b : Nat} {ss : List (List Int)} (hD : da_ok Ds) (hA : c_arch E p p a Ds t) (hth : ∃ x, p th = some (12, [va_rf (some a), x])) (hb : c_strs p b ss) (hs : ss.length ≤ 1000) (ho : p o = some (2008, [va_rf (some th), va_rf (some b)])) : kH E p L Ds J 8 o (fun i v => decide (0 < dc_times (da_D Ds i) v ss)) := by
  intro d u i v D K hd hI hi hv H
  replace H : ∀ u', kI E p L u' → cx E u u' (k_F (L.take J)) 0 → u'.2 = u.2 → K (decide (0 < dc_times (da_D Ds i) v ss)) u' := H
  obtain ⟨g1, g2, g3, g4, g5, g6, g7⟩ := hD.at hi
  obtain ⟨row, hr⟩ := dc_get hv
  obtain ⟨x, hx⟩ := hth
  have hu := hI.2.1
  obtain ⟨e, rfl, hd1⟩ := pw_d1 (show 7 + 1 ≤ d by omega)
  obtain ⟨e, rfl, hd2⟩ := pw_d1 hd1
  refine lm_F8 (hu _ _ ho) (hu _ _ hx) (e_X13_lambda_made_0 _ _ _ _ (s_X13_lambda_made_0_0 _ _ _ _ ⟨th, _, _, rfl, hu _ _ hx, rfl, qa_of (by omega) (hA.mono hu hu) hi (fun b' hb' => ?_)⟩))
  obtain ⟨us, hus⟩ := hb'.obj
  refine ⟨b', us, rfl, hus, cd_times_ok (by omega) hI.1 hb' g4 hr (hb.mono hu) hs ?_⟩
  have hrow := (g4.row hr).1
  have hlr := dc_times_r D v ss (by unfold dc_len; rw [(g4.row hr).2.2.2.1]; exact hrow)
  have := H u hI (cx.refl hI.1) rfl
  rw [g3] at this
  have m1 : (iI (dc_times D v ss) ≤ 0) = (dc_times D v ss ≤ 0) := iI_le (b := 0) (rI_small (by omega) (by omega)) (rI_small (by omega) (by omega))
  by_cases z : dc_times D v ss ≤ 0
  · rw [decide_eq_false (by omega)] at this
    exact ifT (by rw [m1]; exact z) ⟨false, rfl, this⟩
  · rw [decide_eq_true (by omega)] at this
    exact ifF (by rw [m1]; exact z) ⟨true, rfl, this⟩
theorem kH.many {o b : Nat} {n : Int} {ss : List (List Int)} (hD : da_ok Ds) (hA : c_arch E p p a Ds t) (hth : ∃ x, p th = some (12, [va_rf (some a), x])) (hb : c_strs p b ss) (hs : ss.length ≤ 1000) (hn : 0 ≤ n ∧ n ≤ 1000) (ho : p o = some (2010, [va_rf (some th), va_rf (some b), .int (iI n)])) : kH E p L Ds J 8 o (fun i v => decide (n ≤ dc_times (da_D Ds i) v ss)) := by
  intro d u i v D K hd hI hi hv H
  replace H : ∀ u', kI E p L u' → cx E u u' (k_F (L.take J)) 0 → u'.2 = u.2 → K (decide (n ≤ dc_times (da_D Ds i) v ss)) u' := H
  obtain ⟨g1, g2, g3, g4, g5, g6, g7⟩ := hD.at hi
  obtain ⟨row, hr⟩ := dc_get hv
  obtain ⟨x, hx⟩ := hth
  have hu := hI.2.1
  obtain ⟨e, rfl, hd1⟩ := pw_d1 (show 7 + 1 ≤ d by omega)
  obtain ⟨e, rfl, hd2⟩ := pw_d1 hd1
  refine lm_F10 (hu _ _ ho) (hu _ _ hx) (e_X13_lambda_made_2 _ _ _ _ _ (s_X13_lambda_made_2_0 _ _ _ _ _ ⟨th, _, _, rfl, hu _ _ hx, rfl, qa_of (by omega) (hA.mono hu hu) hi (fun b' hb' => ?_)⟩))
  obtain ⟨us, hus⟩ := hb'.obj
  refine ⟨b', us, rfl, hus, cd_times_ok (by omega) hI.1 hb' g4 hr (hb.mono hu) hs ?_⟩
  have hrow := (g4.row hr).1
  have hlr := dc_times_r D v ss (by unfold dc_len; rw [(g4.row hr).2.2.2.1]; exact hrow)
  have := H u hI (cx.refl hI.1) rfl
  rw [g3] at this
  have m1 : (iI (dc_times D v ss) < iI n) = (dc_times D v ss < n) := iI_lt (rI_small (by omega) (by omega)) (rI_small (by omega) (by omega))
  by_cases z : dc_times D v ss < n
  · rw [decide_eq_false (by omega)] at this
    exact ifT (by rw [m1]; exact z) ⟨false, rfl, this⟩
  · rw [decide_eq_true (by omega)] at this
    exact ifF (by rw [m1]; exact z) ⟨true, rfl, this⟩
theorem kH.near {o b far : Nat} {s r : List Int} (hD : da_ok Ds) (hA : c_arch E p p a Ds t) (hth : ∃ x, p th = some (12, [va_rf (some a), x])) (hb : c_strs p b [s, r]) (hn : far ≤ 1000) (ho : p o = some (2009, [va_rf (some th), va_rf (some b), .int (iI far)])) : kH E p L Ds J 8 o (fun i v => dc_near (da_D Ds i) v s r far) := by
  intro d u i v D K hd hI hi hv H
  replace H : ∀ u', kI E p L u' → cx E u u' (k_F (L.take J)) 0 → u'.2 = u.2 → K (dc_near (da_D Ds i) v s r far) u' := H
  obtain ⟨g1, g2, g3, g4, g5, g6, g7⟩ := hD.at hi
  obtain ⟨row, hr⟩ := dc_get hv
  obtain ⟨x, hx⟩ := hth
  have hu := hI.2.1
  obtain ⟨e, rfl, hd1⟩ := pw_d1 (show 7 + 1 ≤ d by omega)
  obtain ⟨e, rfl, hd2⟩ := pw_d1 hd1
  refine lm_F9 (hu _ _ ho) (hu _ _ hx) (e_X13_lambda_made_1 _ _ _ _ _ (s_X13_lambda_made_1_0 _ _ _ _ _ ⟨th, _, _, rfl, hu _ _ hx, rfl, qa_of (by omega) (hA.mono hu hu) hi (fun b' hb' => ?_)⟩))
  refine dq_sat (i := 0) (hb.mono hu) rfl (by simp) (fun c1 hc1 => dq_sat (i := 1) (hb.mono hu) rfl (by simp) (fun c2 hc2 => ?_))
  obtain ⟨us, hus⟩ := hb'.obj
  refine ⟨b', us, rfl, hus, cd_isNear_ok (by omega) hI.1 hb' g4 hr hc1 hc2 hn ?_⟩
  have := H u hI (cx.refl hI.1) rfl
  rw [g3] at this
  exact ⟨_, rfl, this⟩
end
