set_option maxRecDepth 100000
/-! the twin: holds, spans, times, found, best, implies -/
section
variable {E : pw_E} {w0 : pw_W} {m d : Nat} {S : tw_S}
/-- laid questions, from a public state -/
theorem q_laid_lay {S : tw_S} {x u : Int} {Y : Nat → Int} (hY : ∀ k a : Nat, (k : Int) < q_n (S.2.2 7) u → a < 4 → Y (4 * k + a) = q_T (tw_ar S x) (S.2.2 7) u k a) : q_laid (tw_lay S x u Y) (q_T (tw_ar S x) (S.2.2 7) u) := by
  intro k a h0 h1 h2 h3
  have h1 : k < q_n (S.2.2 7) u := h1
  refine ⟨?_, q_tab_r _ _ _ _ _ _⟩
  have := hY k.toNat a.toNat (by omega) (by omega)
  show Y (Int.toNat (4 * k + a)) = _
  rw [show Int.toNat (4 * k + a) = 4 * k.toNat + a.toNat by omega, this, show ((k.toNat : Nat) : Int) = k by omega, show ((a.toNat : Nat) : Int) = a by omega]
theorem tw_isQu_sf (S : tw_S) (j : Nat) (x u : Int) : tw_isQu (tw_sf S j x) u = tw_isQu S u := rfl
theorem tw_isAr_sf (S : tw_S) (j : Nat) (x v : Int) : tw_isAr (tw_sf S j x) v = tw_isAr S v := rfl
def q_holdsP (A B : Nat → Int) (u k a v : Int) : Int := if decide (0 ≤ k ∧ k ≤ q_n B u - 1) = true then (if a_isVer A a v = true then (if s_has (q_T A B u k a) v = true then 1 else 0) else -1) else -1
theorem m_holds_ok {x u k a v : Int} {K : Int → tw_S → Prop} (hm : pw_base E ≤ m) (hI : tw_arok S) (hQ : tw_qok S) (hd : 8 ≤ d) (hx : rI x) (hu : rI u) (hk : rI k) (ha : rI a) (hv : rI v) (H : tq S K (if (tw_isQu S u && tw_isAr S x) = true then q_holdsP (tw_ar S x) (S.2.2 7) u k a v else -1)) : pw_Cl E m_X2_holds d [va_rf (some m), .int (iI x), .int (iI u), .int (iI k), .int (iI a), .int (iI v)] (tw w0 m S) (c_i (t_i w0 m K)) := by
  obtain ⟨e, rfl, he⟩ := pw_d1 hd
  have h00 : tw_same S (tw_sf S 0 0) := tw_same.sf S 0 0
  refine e_X2_holds _ _ _ _ _ _ (t_X2_holds_0 hm _ _ _ _ _ (m_layHeld_ok hm (hI.same h00) (hQ.same h00) (by omega) hx hu ⟨fun hq h hA hB Y hY => ?_, fun h S' hS' => ?_⟩))
  · have hs := h00.trans (tw_same.lay (tw_sf S 0 0) x u Y)
    rw [tw_isQu_sf] at hq
    rw [tw_isAr_sf] at h
    rw [hq, h, Bool.and_self, if_pos rfl] at H
    rw [if_pos rfl]
    have hq2 : 0 ≤ u ∧ u ≤ S.2.2 5 1 - 1 := of_decide_eq_true hq
    have hr := hI.1 1 (by omega)
    have hu0 : 0 ≤ (tw_lay (tw_sf S 0 0) x u Y).1 28 ∧ (tw_lay (tw_sf S 0 0) x u Y).1 28 ≤ 1 := ⟨hq2.1, by show u ≤ 1; omega⟩
    have hL := q_laid_lay hY
    have hA0 : a_ok ((tw_lay (tw_sf S 0 0) x u Y).2.2 9) ((tw_lay (tw_sf S 0 0) x u Y).1 24) := hA.ok
    have hn := hB.1
    refine m_isAsking_ok hm (by omega) hu0 hB hk (ifS H (fun h H => ?_) (fun h H => ⟨_, rfl, _, _, rfl, rfl, H _ hs⟩))
    have hk2 : 0 ≤ k ∧ k ≤ q_n (S.2.2 7) u - 1 := of_decide_eq_true h
    have hn : 0 ≤ q_n (S.2.2 7) u ∧ q_n (S.2.2 7) u ≤ 8 := hn
    refine m_isVersion_ok hm hA0 (by omega) ha hv (ifS H (fun h H => ?_) (fun h H => ⟨_, rfl, _, _, rfl, rfl, H _ hs⟩))
    obtain ⟨h1, h2⟩ := a_isVer_r hA0 h
    obtain ⟨l1, -⟩ := hL k a hk2.1 (show k < q_n (S.2.2 7) u by omega) h1.1 h1.2
    refine ⟨by omega, by omega, ?_⟩
    rw [l1]
    exact m_has_ok (by omega) (ifS H (fun h H => ⟨_, rfl, _, _, rfl, rfl, H _ hs⟩) (fun h H => ⟨_, rfl, _, _, rfl, rfl, H _ hs⟩))
  · have h : (tw_isQu S u && tw_isAr S x) = false := h
    rw [if_neg (by rw [h]; decide)] at H
    rw [if_neg (by decide)]
    exact ⟨_, rfl, _, _, rfl, rfl, H _ (h00.trans hS')⟩
def q_timesP (A B : Nat → Int) (u k a v : Int) : Int := if decide (0 ≤ k ∧ k ≤ q_n B u - 1) = true then (if a_isVer A a v = true then (if q_at B u k 0 = 0 then q_times A B u k a v else -1) else -1) else -1
theorem m_times_ok {x u k a v : Int} {K : Int → tw_S → Prop} (hm : pw_base E ≤ m) (hI : tw_arok S) (hQ : tw_qok S) (hd : 7 ≤ d) (hx : rI x) (hu : rI u) (hk : rI k) (ha : rI a) (hv : rI v) (H : tq S K (if tw_isQu S u = true then (if tw_isAr S x = true then q_timesP (tw_ar S x) (S.2.2 7) u k a v else -1) else -1)) : pw_Cl E m_X2_times d [va_rf (some m), .int (iI x), .int (iI u), .int (iI k), .int (iI a), .int (iI v)] (tw w0 m S) (c_i (t_i w0 m K)) := by
  obtain ⟨e, rfl, he⟩ := pw_d1 hd
  have hr := hI.1 1 (by omega)
  have hs0 : tw_same S (tw_sf (tw_sf S 0 0) 28 u) := (tw_same.sf S 0 0).trans (tw_same.sf _ _ _)
  refine e_X2_times _ _ _ _ _ _ (t_X2_times_0 hm _ _ _ _ _ (m_hasAsking_ok hm (by omega) hu hr ?_))
  refine ifS (c := tw_isQu S u = true) H (fun hq H => ?_) (fun h H => ⟨_, rfl, _, _, rfl, rfl, H _ hs0⟩)
  have hq2 : 0 ≤ u ∧ u ≤ S.2.2 5 1 - 1 := of_decide_eq_true hq
  have hB : q_ok (S.2.2 7) u := hQ u hq2.1 (by omega)
  refine m_hand_k hm (by omega) hx (hI.same hs0) ⟨fun h hA => ?_, fun h => ?_⟩
  · have h : tw_isAr S x = true := h
    have hA : a_arok (tw_ar S x) := hA
    rw [if_pos h] at H
    rw [if_pos rfl]
    have hs : tw_same S (tw_h (tw_sf (tw_sf S 0 0) 28 u) x) := hs0.trans (tw_same.h _ x)
    have hu0 : 0 ≤ (tw_h (tw_sf (tw_sf S 0 0) 28 u) x).1 28 ∧ (tw_h (tw_sf (tw_sf S 0 0) 28 u) x).1 28 ≤ 1 := ⟨hq2.1, by show u ≤ 1; omega⟩
    have hA0 : a_ok ((tw_h (tw_sf (tw_sf S 0 0) 28 u) x).2.2 9) ((tw_h (tw_sf (tw_sf S 0 0) 28 u) x).1 24) := hA.ok
    have hB0 : q_ok ((tw_h (tw_sf (tw_sf S 0 0) 28 u) x).2.2 7) ((tw_h (tw_sf (tw_sf S 0 0) 28 u) x).1 28) := hB
    have hn := hB.1
    refine m_isAsking_ok hm (by omega) hu0 hB0 hk (ifS H (fun h H => ?_) (fun h H => ⟨_, rfl, _, _, rfl, rfl, H _ hs⟩))
    have hk2 : 0 ≤ k ∧ k ≤ q_n (S.2.2 7) u - 1 := of_decide_eq_true h
    refine m_isVersion_ok hm hA0 (by omega) ha hv (ifS H (fun h H => ?_) (fun h H => ⟨_, rfl, _, _, rfl, rfl, H _ hs⟩))
    obtain ⟨h1, h2⟩ := a_isVer_r hA0 h
    have hk8 : 0 ≤ k ∧ k < 8 := ⟨hk2.1, by omega⟩
    have q0 := hB.2.1 k 0 hk8.1 hk8.2 (by omega) (by omega)
    refine m_ofAsking_ok hm (by omega) hu0 hk8 ⟨by omega, by omega⟩ ⟨rI_small (by show -1000000000 ≤ q_at (S.2.2 7) u k 0; omega) (by show q_at (S.2.2 7) u k 0 ≤ 1000000000; omega), ifS H (fun h H => ?_) (fun h H => ⟨_, rfl, _, _, rfl, rfl, H _ hs⟩)⟩
    exact m_timesOf_ok hm hA0 hu0 hB0 (by omega) ⟨hk2.1, show k < q_n (S.2.2 7) u by omega⟩ h h1 h2 ⟨_, rfl, _, _, rfl, rfl, H _ hs⟩
  · have h : tw_isAr S x = false := h
    rw [if_neg (by rw [h]; decide)] at H
    rw [if_neg (by decide)]
    exact ⟨_, rfl, _, _, rfl, rfl, H _ hs0⟩
def q_foundP (A B : Nat → Int) (u k q : Int) : Int := if decide (0 ≤ k ∧ k ≤ q_n B u - 1) = true then q_found A (q_T A B u) k q else -1
theorem m_found_ok {x u k q : Int} {K : Int → tw_S → Prop} (hm : pw_base E ≤ m) (hI : tw_arok S) (hQ : tw_qok S) (hd : 8 ≤ d) (hx : rI x) (hu : rI u) (hk : rI k) (hq0 : rI q) (H : tq S K (if (tw_isQu S u && tw_isAr S x) = true then q_foundP (tw_ar S x) (S.2.2 7) u k q else -1)) : pw_Cl E m_X2_found d [va_rf (some m), .int (iI x), .int (iI u), .int (iI k), .int (iI q)] (tw w0 m S) (c_i (t_i w0 m K)) := by
  obtain ⟨e, rfl, he⟩ := pw_d1 hd
  have h00 : tw_same S (tw_sf S 0 0) := tw_same.sf S 0 0
  refine e_X2_found _ _ _ _ _ (t_X2_found_0 hm _ _ _ _ (m_layHeld_ok hm (hI.same h00) (hQ.same h00) (by omega) hx hu ⟨fun hq h hA hB Y hY => ?_, fun h S' hS' => ?_⟩))
  · have hs := h00.trans (tw_same.lay (tw_sf S 0 0) x u Y)
    rw [tw_isQu_sf] at hq
    rw [tw_isAr_sf] at h
    rw [hq, h, Bool.and_self, if_pos rfl] at H
    rw [if_pos rfl]
    have hq2 : 0 ≤ u ∧ u ≤ S.2.2 5 1 - 1 := of_decide_eq_true hq
    have hr := hI.1 1 (by omega)
    have hu0 : 0 ≤ (tw_lay (tw_sf S 0 0) x u Y).1 28 ∧ (tw_lay (tw_sf S 0 0) x u Y).1 28 ≤ 1 := ⟨hq2.1, by show u ≤ 1; omega⟩
    have hL := q_laid_lay hY
    have hA0 : a_ok ((tw_lay (tw_sf S 0 0) x u Y).2.2 9) ((tw_lay (tw_sf S 0 0) x u Y).1 24) := hA.ok
    have hn := hB.1
    refine m_isAsking_ok hm (by omega) hu0 hB hk (ifS H (fun h H => ?_) (fun h H => ⟨_, rfl, _, _, rfl, rfl, H _ hs⟩))
    have hk2 : 0 ≤ k ∧ k ≤ q_n (S.2.2 7) u - 1 := of_decide_eq_true h
    have hn : 0 ≤ q_n (S.2.2 7) u ∧ q_n (S.2.2 7) u ≤ 8 := hn
    have hkk : 0 ≤ k ∧ k < q_n ((tw_lay (tw_sf S 0 0) x u Y).2.2 7) ((tw_lay (tw_sf S 0 0) x u Y).1 28) := ⟨hk2.1, show k < q_n (S.2.2 7) u by omega⟩
    refine ⟨hq0, ifS H (fun g H => ⟨hq0, ifS H (fun g1 H => ⟨hq0, ifS H (fun g2 H => ⟨hq0, ifS H (fun g3 H => ⟨hq0, ifS H (fun g4 H => ?_) (fun g4 H => ?_)⟩) (fun g3 H => ⟨hq0, ifS H (fun g4 H => ⟨hq0, ifS H (fun g5 H => ?_) (fun g5 H => ?_)⟩) (fun g4 H => ⟨hq0, ifS H (fun g5 H => ?_) (fun g5 H => ⟨hq0, ifS H (fun g6 H => ?_) (fun g6 H => ?_)⟩)⟩)⟩)⟩) (fun g2 H => ?_)⟩) (fun g1 H => ⟨hq0, ifS H (fun g2 H => ?_) (fun g2 H => ?_)⟩)⟩) (fun g H => ?_)⟩
    · exact m_docsBy_ok (al := true) hm hA0 hL (by omega) hkk (by omega) ⟨_, rfl, _, _, rfl, rfl, H _ hs⟩
    · exact m_docsBy_ok (al := false) hm hA0 hL (by omega) hkk (by omega) ⟨_, rfl, _, _, rfl, rfl, H _ hs⟩
    · exact m_docsBy_ok (al := true) hm hA0 hL (by omega) hkk (by omega) ⟨_, rfl, _, _, rfl, rfl, H _ hs⟩
    · exact m_docsBy_ok (al := false) hm hA0 hL (by omega) hkk (by omega) ⟨_, rfl, _, _, rfl, rfl, H _ hs⟩
    · exact m_changes_ok hm hA0 hA.date hL (by omega) hkk (by omega) (by constructor <;> omega) ⟨_, rfl, _, _, rfl, rfl, H _ hs⟩
    · exact m_versionsBy_ok hm hA0 hL (by omega) hkk (by omega) ⟨_, rfl, _, _, rfl, rfl, H _ hs⟩
    · exact ⟨_, rfl, _, _, rfl, rfl, H _ hs⟩
    · exact m_rank_ok hm hA0 hL (by omega) hkk (by omega) (by have := hq0.2; constructor <;> omega) ⟨_, rfl, _, _, rfl, rfl, H _ hs⟩
    · exact m_changes_ok hm hA0 hA.date hL (by omega) hkk (by omega) (by have := hq0.2; constructor <;> omega) ⟨_, rfl, _, _, rfl, rfl, H _ hs⟩
    · exact m_asOf_ok hm hA0 hA.date hL (by omega) hkk (by omega) (by have := hq0.2; constructor <;> omega) ⟨_, rfl, _, _, rfl, rfl, H _ hs⟩
    · exact ⟨_, rfl, _, _, rfl, rfl, H _ hs⟩
  · have h : (tw_isQu S u && tw_isAr S x) = false := h
    rw [if_neg (by rw [h]; decide)] at H
    rw [if_neg (by decide)]
    exact ⟨_, rfl, _, _, rfl, rfl, H _ (h00.trans hS')⟩
theorem m_best_ok {x u q : Int} {K : Int → tw_S → Prop} (hm : pw_base E ≤ m) (hI : tw_arok S) (hQ : tw_qok S) (hd : 8 ≤ d) (hx : rI x) (hu : rI u) (hq0 : rI q) (H : tq S K (if (tw_isQu S u && tw_isAr S x) = true then (if q = 0 then q_best (tw_ar S x) (q_T (tw_ar S x) (S.2.2 7) u) (q_n (S.2.2 7) u) else if q = 1 then q_pairs (tw_ar S x) (q_T (tw_ar S x) (S.2.2 7) u) (q_n (S.2.2 7) u) else -2) else -2)) : pw_Cl E m_X2_best d [va_rf (some m), .int (iI x), .int (iI u), .int (iI q)] (tw w0 m S) (c_i (t_i w0 m K)) := by
  obtain ⟨e, rfl, he⟩ := pw_d1 hd
  have h00 : tw_same S (tw_sf S 0 0) := tw_same.sf S 0 0
  refine e_X2_best _ _ _ _ (t_X2_best_0 hm _ _ _ (m_layHeld_ok hm (hI.same h00) (hQ.same h00) (by omega) hx hu ⟨fun hq h hA hB Y hY => ?_, fun h S' hS' => ?_⟩))
  · have hs := h00.trans (tw_same.lay (tw_sf S 0 0) x u Y)
    rw [tw_isQu_sf] at hq
    rw [tw_isAr_sf] at h
    rw [hq, h, Bool.and_self, if_pos rfl] at H
    rw [if_pos rfl]
    have hq2 : 0 ≤ u ∧ u ≤ S.2.2 5 1 - 1 := of_decide_eq_true hq
    have hr := hI.1 1 (by omega)
    have hu0 : 0 ≤ (tw_lay (tw_sf S 0 0) x u Y).1 28 ∧ (tw_lay (tw_sf S 0 0) x u Y).1 28 ≤ 1 := ⟨hq2.1, by show u ≤ 1; omega⟩
    have hL := q_laid_lay hY
    have hA0 : a_ok ((tw_lay (tw_sf S 0 0) x u Y).2.2 9) ((tw_lay (tw_sf S 0 0) x u Y).1 24) := hA.ok
    refine ⟨hq0, ifS H (fun g H => ?_) (fun g H => ⟨hq0, ifS H (fun g H => ?_) (fun g H => ⟨_, rfl, _, _, rfl, rfl, H _ hs⟩)⟩)⟩
    · exact m_bestAsking_ok hm hA0 hu0 hB hL (by omega) ⟨_, rfl, _, _, rfl, rfl, H _ hs⟩
    · exact m_samePairs_ok hm hA0 hu0 hB hL (by omega) ⟨_, rfl, _, _, rfl, rfl, H _ hs⟩
  · have h : (tw_isQu S u && tw_isAr S x) = false := h
    rw [if_neg (by rw [h]; decide)] at H
    rw [if_neg (by decide)]
    exact ⟨_, rfl, _, _, rfl, rfl, H _ (h00.trans hS')⟩
def q_impP (A B : Nat → Int) (u a b : Int) : Int := if decide (0 ≤ a ∧ a ≤ q_n B u - 1) = true then (if decide (0 ≤ b ∧ b ≤ q_n B u - 1) = true then (if q_within A (q_T A B u) a b = true then 1 else 0) else -1) else -1
theorem m_implies_ok {x u a b : Int} {K : Int → tw_S → Prop} (hm : pw_base E ≤ m) (hI : tw_arok S) (hQ : tw_qok S) (hd : 8 ≤ d) (hx : rI x) (hu : rI u) (ha : rI a) (hb : rI b) (H : tq S K (if (tw_isQu S u && tw_isAr S x) = true then q_impP (tw_ar S x) (S.2.2 7) u a b else -1)) : pw_Cl E m_X2_implies d [va_rf (some m), .int (iI x), .int (iI u), .int (iI a), .int (iI b)] (tw w0 m S) (c_i (t_i w0 m K)) := by
  obtain ⟨e, rfl, he⟩ := pw_d1 hd
  have h00 : tw_same S (tw_sf S 0 0) := tw_same.sf S 0 0
  refine e_X2_implies _ _ _ _ _ (t_X2_implies_0 hm _ _ _ _ (m_layHeld_ok hm (hI.same h00) (hQ.same h00) (by omega) hx hu ⟨fun hq h hA hB Y hY => ?_, fun h S' hS' => ?_⟩))
  · have hs := h00.trans (tw_same.lay (tw_sf S 0 0) x u Y)
    rw [tw_isQu_sf] at hq
    rw [tw_isAr_sf] at h
    rw [hq, h, Bool.and_self, if_pos rfl] at H
    rw [if_pos rfl]
    have hq2 : 0 ≤ u ∧ u ≤ S.2.2 5 1 - 1 := of_decide_eq_true hq
    have hr := hI.1 1 (by omega)
    have hu0 : 0 ≤ (tw_lay (tw_sf S 0 0) x u Y).1 28 ∧ (tw_lay (tw_sf S 0 0) x u Y).1 28 ≤ 1 := ⟨hq2.1, by show u ≤ 1; omega⟩
    have hL := q_laid_lay hY
    have hA0 : a_ok ((tw_lay (tw_sf S 0 0) x u Y).2.2 9) ((tw_lay (tw_sf S 0 0) x u Y).1 24) := hA.ok
    refine m_isAsking_ok hm (by omega) hu0 hB ha (ifS H (fun h H => ?_) (fun h H => ⟨_, rfl, _, _, rfl, rfl, H _ hs⟩))
    have hk2 : 0 ≤ a ∧ a ≤ q_n (S.2.2 7) u - 1 := of_decide_eq_true h
    refine m_isAsking_ok hm (by omega) hu0 hB hb (ifS H (fun h H => ?_) (fun h H => ⟨_, rfl, _, _, rfl, rfl, H _ hs⟩))
    have hk3 : 0 ≤ b ∧ b ≤ q_n (S.2.2 7) u - 1 := of_decide_eq_true h
    exact m_isWithin_ok hm hA0 hL (by omega) ⟨hk2.1, show a < q_n (S.2.2 7) u by omega⟩ ⟨hk3.1, show b < q_n (S.2.2 7) u by omega⟩ hB.1.2 (ifS H (fun h H => ⟨_, rfl, _, _, rfl, rfl, H _ hs⟩) (fun h H => ⟨_, rfl, _, _, rfl, rfl, H _ hs⟩))
  · have h : (tw_isQu S u && tw_isAr S x) = false := h
    rw [if_neg (by rw [h]; decide)] at H
    rw [if_neg (by decide)]
    exact ⟨_, rfl, _, _, rfl, rfl, H _ (h00.trans hS')⟩
theorem m_spanLoop {Q : pw_R → pw_W → Prop} {e : Nat} {x s : Int} {l : Bool} (hm : pw_base E ≤ m) (he : 1 ≤ e) (hs : rI s) (H : ∀ z, z = q_span x s l 10 0 (-1) → Q (.inl (some (.int (iI z)))) (tw w0 m S)) : pw_Wp E m_X2_spans (e + 1) 64 [none, none, none, none, none, some (.int (iI s)), some (.int (bI l)), some (.int (iI x)), some (.int (iI (-1))), some (.int (iI 0)), none] [] (tw w0 m S) Q := by
  have loop : ∀ (f v : Nat) (n : Int), v + f = 10 → (-1 ≤ n ∧ n < v) → (∀ z, z = q_span x s l f v n → Q (.inl (some (.int (iI z)))) (tw w0 m S)) → pw_Wp E m_X2_spans (e + 1) 64 [none, none, none, none, none, some (.int (iI s)), some (.int (bI l)), some (.int (iI x)), some (.int (iI n)), some (.int (iI v)), none] [] (tw w0 m S) Q := by
    intro f
    induction f with
    | zero =>
      intro v n hv hn H
      refine t_X2_spans_64 hm _ _ _ _ _ ⟨rI_small (by omega) (by omega), ?_⟩
      rw [if_pos (by omega)]
      exact H _ rfl
    | succ f ih =>
      intro v n hv hn H
      -- behind the first count
      have rest : ∀ u0 : Int, u0 = (if (s_has x v && (decide ((v : Int) = 0) || !s_has x ((v : Int) - 1))) = true then 1 else 0) → pw_Wp E m_X2_spans (e + 1) 105 [none, none, none, none, none, some (.int (iI s)), some (.int (bI l)), some (.int (iI x)), none, some (.int (iI v)), none] [.int (iI u0), .int (iI n)] (tw w0 m S) Q := by
        intro u0 hu
        have hu1 : 0 ≤ u0 ∧ u0 ≤ 1 := by rw [hu]; split <;> omega
        have go : (s_has x v && ((if l = true then !s_has x ((v : Int) + 1) else (decide ((v : Int) = 0) || !s_has x ((v : Int) - 1))) && decide (n + u0 = s))) = false → pw_Wp E m_X2_spans (e + 1) 64 [none, none, none, none, none, some (.int (iI s)), some (.int (bI l)), some (.int (iI x)), some (.int (iI (n + u0))), some (.int (iI ((v : Int) + 1))), none] [] (tw w0 m S) Q := by
          intro hf
          refine ih (v + 1) (n + u0) (by omega) ⟨by omega, by omega⟩ (fun z hz => H z ?_)
          rw [hz]
          show _ = if (s_has x v && ((if l = true then !s_has x ((v : Int) + 1) else (decide ((v : Int) = 0) || !s_has x ((v : Int) - 1))) && decide (n + (if (s_has x v && (decide ((v : Int) = 0) || !s_has x ((v : Int) - 1))) = true then 1 else 0) = s))) = true then (v : Int) else q_span x s l f (v + 1) (n + (if (s_has x v && (decide ((v : Int) = 0) || !s_has x ((v : Int) - 1))) = true then 1 else 0))
          rw [← hu, if_neg (by rw [hf]; decide)]
        have ret : (s_has x v && ((if l = true then !s_has x ((v : Int) + 1) else (decide ((v : Int) = 0) || !s_has x ((v : Int) - 1))) && decide (n + u0 = s))) = true → Q (.inl (some (.int (iI v)))) (tw w0 m S) := by
          intro hf
          refine H _ ?_
          show _ = if (s_has x v && ((if l = true then !s_has x ((v : Int) + 1) else (decide ((v : Int) = 0) || !s_has x ((v : Int) - 1))) && decide (n + (if (s_has x v && (decide ((v : Int) = 0) || !s_has x ((v : Int) - 1))) = true then 1 else 0) = s))) = true then (v : Int) else q_span x s l f (v + 1) (n + (if (s_has x v && (decide ((v : Int) = 0) || !s_has x ((v : Int) - 1))) = true then 1 else 0))
          rw [← hu, if_pos hf]
        have noedge : (if l = true then !s_has x ((v : Int) + 1) else (decide ((v : Int) = 0) || !s_has x ((v : Int) - 1))) = false → pw_Cl E m_X2_has e [.int (iI x), .int (iI v)] (tw w0 m S) (c_z (t_b w0 m (fun b23 S22 => if b23 = true then (rI (n + u0) ∧ rI s ∧ if n + u0 = s then pw_Wp E m_X2_spans (e + 1) 64 [none, none, none, none, none, some (.int (iI s)), some (.int (bI l)), some (.int (iI x)), some (.int (iI (n + u0))), some (.int (iI ((v : Int) + 1))), none] [] (tw w0 m S22) Q else pw_Wp E m_X2_spans (e + 1) 64 [none, none, none, none, none, some (.int (iI s)), some (.int (bI l)), some (.int (iI x)), some (.int (iI (n + u0))), some (.int (iI ((v : Int) + 1))), none] [] (tw w0 m S22) Q) else pw_Wp E m_X2_spans (e + 1) 64 [none, none, none, none, none, some (.int (iI s)), some (.int (bI l)), some (.int (iI x)), some (.int (iI (n + u0))), some (.int (iI ((v : Int) + 1))), none] [] (tw w0 m S22) Q))) := by
          intro he2
          have hg := go (by rw [he2, Bool.false_and, Bool.and_false])
          refine m_has_ok he ?_
          split
          · refine ⟨rI_small (by omega) (by omega), hs, ?_⟩
            split <;> exact hg
          · exact hg
        have edge : (if l = true then !s_has x ((v : Int) + 1) else (decide ((v : Int) = 0) || !s_has x ((v : Int) - 1))) = true → pw_Cl E m_X2_has e [.int (iI x), .int (iI v)] (tw w0 m S) (c_z (t_b w0 m (fun b23 S22 => if b23 = true then (rI (n + u0) ∧ rI s ∧ if n + u0 = s then Q (.inl (some (.int (iI v)))) (tw w0 m S22) else pw_Wp E m_X2_spans (e + 1) 64 [none, none, none, none, none, some (.int (iI s)), some (.int (bI l)), some (.int (iI x)), some (.int (iI (n + u0))), some (.int (iI ((v : Int) + 1))), none] [] (tw w0 m S22) Q) else pw_Wp E m_X2_spans (e + 1) 64 [none, none, none, none, none, some (.int (iI s)), some (.int (bI l)), some (.int (iI x)), some (.int (iI (n + u0))), some (.int (iI ((v : Int) + 1))), none] [] (tw w0 m S22) Q))) := by
          intro he2
          rw [he2, Bool.true_and] at go ret
          refine m_has_ok he ?_
          cases hb : s_has x v with
          | true =>
            rw [hb, Bool.true_and] at go ret
            rw [if_pos rfl]
            refine ⟨rI_small (by omega) (by omega), hs, ?_⟩
            by_cases h9 : n + u0 = s
            · rw [if_pos h9]
              exact ret (decide_eq_true h9)
            · rw [if_neg h9]
              exact go (decide_eq_false h9)
          | false =>
            rw [hb, Bool.false_and] at go
            rw [if_neg (by decide)]
            exact go rfl
        refine t_X2_spans_105 hm _ _ _ _ _ _ ?_
        cases l with
        | true =>
          rw [if_pos rfl]
          rw [if_pos rfl] at edge noedge
          refine m_has_ok he ?_
          cases hb : s_has x ((v : Int) + 1) with
          | true =>
            rw [if_pos rfl]
            exact noedge (by rw [hb]; rfl)
          | false =>
            rw [if_neg (by decide)]
            exact edge (by rw [hb]; rfl)
        | false =>
          rw [if_neg (by decide)]
          rw [if_neg (by decide)] at edge noedge
          refine ⟨rI_small (by omega) (by omega), ?_⟩
          by_cases hz : (v : Int) = 0
          · rw [if_pos hz]
            exact edge (by rw [decide_eq_true hz, Bool.true_or])
          · rw [if_neg hz]
            rw [decide_eq_false hz, Bool.false_or] at edge noedge
            refine m_has_ok he ?_
            cases hb : s_has x ((v : Int) - 1) with
            | true =>
              rw [if_pos rfl]
              exact noedge (by rw [hb]; rfl)
            | false =>
              rw [if_neg (by decide)]
              exact edge (by rw [hb]; rfl)
      refine t_X2_spans_64 hm _ _ _ _ _ ⟨rI_small (by omega) (by omega), ?_⟩
      rw [if_neg (by omega)]
      refine m_has_ok he ?_
      cases hb : s_has x v with
      | false =>
        rw [if_neg (by decide)]
        exact rest 0 (by rw [hb, Bool.false_and, if_neg (by decide)])
      | true =>
        rw [if_pos rfl]
        refine ⟨rI_small (by omega) (by omega), ?_⟩
        by_cases hz : (v : Int) = 0
        · rw [if_pos hz]
          exact rest 1 (by rw [hb, decide_eq_true hz, Bool.true_or, Bool.and_self, if_pos rfl])
        · rw [if_neg hz]
          refine m_has_ok he ?_
          cases hc : s_has x ((v : Int) - 1) with
          | true =>
            rw [if_pos rfl]
            exact rest 0 (by rw [hb, hc, decide_eq_false hz]; rfl)
          | false =>
            rw [if_neg (by decide)]
            exact rest 1 (by rw [hb, hc, decide_eq_false hz]; rfl)
  exact loop 10 0 (-1) rfl ⟨Int.le_refl _, by show (-1 : Int) < 0; omega⟩ H
def q_spansP (A B : Nat → Int) (u k a s : Int) (l : Bool) : Int := if decide (0 ≤ k ∧ k ≤ q_n B u - 1) = true then (if a_isDoc A a = true then (if s = -1 then a_rows (q_T A B u k a) else q_span (q_T A B u k a) s l 10 0 (-1)) else -1) else -1
theorem m_spans_ok {x u k a s : Int} {l : Bool} {K : Int → tw_S → Prop} (hm : pw_base E ≤ m) (hI : tw_arok S) (hQ : tw_qok S) (hd : 8 ≤ d) (hx : rI x) (hu : rI u) (hk : rI k) (ha : rI a) (hs0 : rI s) (H : tq S K (if (tw_isQu S u && tw_isAr S x) = true then q_spansP (tw_ar S x) (S.2.2 7) u k a s l else -1)) : pw_Cl E m_X2_spans d [va_rf (some m), .int (iI x), .int (iI u), .int (iI k), .int (iI a), .int (iI s), .int (bI l)] (tw w0 m S) (c_i (t_i w0 m K)) := by
  obtain ⟨e, rfl, he⟩ := pw_d1 hd
  have h00 : tw_same S (tw_sf S 0 0) := tw_same.sf S 0 0
  refine e_X2_spans _ _ _ _ _ _ _ (t_X2_spans_0 hm _ _ _ _ _ _ (m_layHeld_ok hm (hI.same h00) (hQ.same h00) (by omega) hx hu ⟨fun hq h hA hB Y hY => ?_, fun h S' hS' => ?_⟩))
  · have hs := h00.trans (tw_same.lay (tw_sf S 0 0) x u Y)
    rw [tw_isQu_sf] at hq
    rw [tw_isAr_sf] at h
    rw [hq, h, Bool.and_self, if_pos rfl] at H
    rw [if_pos rfl]
    have hq2 : 0 ≤ u ∧ u ≤ S.2.2 5 1 - 1 := of_decide_eq_true hq
    have hr := hI.1 1 (by omega)
    have hu0 : 0 ≤ (tw_lay (tw_sf S 0 0) x u Y).1 28 ∧ (tw_lay (tw_sf S 0 0) x u Y).1 28 ≤ 1 := ⟨hq2.1, by show u ≤ 1; omega⟩
    have hL := q_laid_lay hY
    have hA0 : a_ok ((tw_lay (tw_sf S 0 0) x u Y).2.2 9) ((tw_lay (tw_sf S 0 0) x u Y).1 24) := hA.ok
    have hn := hB.1
    have hmany := hA.ok.1
    refine m_isAsking_ok hm (by omega) hu0 hB hk (ifS H (fun h H => ?_) (fun h H => ⟨_, rfl, _, _, rfl, rfl, H _ hs⟩))
    have hk2 : 0 ≤ k ∧ k ≤ q_n (S.2.2 7) u - 1 := of_decide_eq_true h
    have hn : 0 ≤ q_n (S.2.2 7) u ∧ q_n (S.2.2 7) u ≤ 8 := hn
    refine m_isDoc_ok hm hA0 (by omega) ha (ifS H (fun h H => ?_) (fun h H => ⟨_, rfl, _, _, rfl, rfl, H _ hs⟩))
    have h1 : 0 ≤ a ∧ a ≤ tw_ar S x 0 - 1 := of_decide_eq_true h
    have hmany : 0 ≤ tw_ar S x 0 ∧ tw_ar S x 0 ≤ 4 := hmany
    obtain ⟨l1, -⟩ := hL k a hk2.1 (show k < q_n (S.2.2 7) u by omega) h1.1 (by omega)
    refine ⟨by omega, by omega, hs0, ?_⟩
    rw [l1]
    refine ifS H (fun g H => ?_) (fun g H => ?_)
    · exact m_rowsIn_ok hm (by omega) ⟨_, rfl, _, _, rfl, rfl, H _ hs⟩
    · exact m_spanLoop hm (by omega) hs0 (fun z hz => ⟨_, rfl, _, _, rfl, rfl, by rw [hz]; exact H _ hs⟩)
  · have h : (tw_isQu S u && tw_isAr S x) = false := h
    rw [if_neg (by rw [h]; decide)] at H
    rw [if_neg (by decide)]
    exact ⟨_, rfl, _, _, rfl, rfl, H _ (h00.trans hS')⟩
end
