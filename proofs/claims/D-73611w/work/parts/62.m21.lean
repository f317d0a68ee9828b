set_option maxRecDepth 100000
/-! the twin: in which versions questions hold -/
def s_and (x y : Int) : Int := Int32.toInt (iI x &&& iI y)
theorem s_andE (x y : Int) : Int32.toInt (iI x &&& iI y) = s_and x y := rfl
theorem s_orE2 (x y : Int) : Int32.toInt (iI x ||| iI y) = s_or x y := rfl
/-- whether the k-th holds of a version, where T tells of those ahead -/
def q_hold (A B : Nat → Int) (u : Int) (T : Int → Int → Int) (k d v : Int) : Bool :=
  if q_at B u k 0 = 0 then !decide (q_times A B u k d v ≤ 0) else if q_at B u k 0 = 1 then q_near A B u k d v else if q_at B u k 0 = 2 then !decide (a_times A d v (q_at B u k 3) < q_at B u k 1)
  else if q_at B u k 0 = 3 then !s_has (T (q_at B u k 1) d) v else if q_at B u k 0 = 4 then !decide (s_till (T (q_at B u k 1) d) v = 0) else if q_at B u k 0 = 5 then (s_has (T (q_at B u k 1) d) v && (decide (v = 0) || !s_has (T (q_at B u k 1) d) (v - 1)))
  else if q_at B u k 0 = 6 then s_has (s_and (T (q_at B u k 1) d) (T (q_at B u k 2) d)) v else s_has (s_or (T (q_at B u k 1) d) (T (q_at B u k 2) d)) v
def q_set1 (A B : Nat → Int) (u : Int) (T : Int → Int → Int) (k d : Int) (n : Nat) : Int := upto n (fun v s => if q_hold A B u T k d v = true then s_or s (s_bit v) else s_or s 0) 0
/-- the sets of the first n questions, by document -/
def q_tab (A B : Nat → Int) (u : Int) : Nat → Int → Int → Int
  | 0 => fun _ _ => 0
  | n + 1 => fun k d => if k = n then (if a_isDoc A d = true then q_set1 A B u (q_tab A B u n) n d (a_many A d).toNat else 0) else q_tab A B u n k d
theorem q_times_r (A B : Nat → Int) (u k d v : Int) : 0 ≤ q_times A B u k d v ∧ q_times A B u k d v ≤ (a_long A d v).toNat := upto_cnt (c := fun p => q_begins A B u k d v p = true) _
theorem q_set1_r (A B : Nat → Int) (u : Int) (T : Int → Int → Int) (k d : Int) (n : Nat) : rI (q_set1 A B u T k d n) := by
  unfold q_set1
  refine upto_ind (Q := rI) (by constructor <;> omega) _ (fun k a _ _ => ?_)
  split
  · exact rI_or _ _
  · exact rI_or _ _
theorem q_tab_r (A B : Nat → Int) (u : Int) : ∀ (n : Nat) (k d : Int), rI (q_tab A B u n k d) := by
  intro n
  induction n with
  | zero => intro k d; exact rI_small (x := 0) (by omega) (by omega)
  | succ n ih =>
    intro k d
    show rI (if k = n then (if a_isDoc A d = true then q_set1 A B u (q_tab A B u n) n d (a_many A d).toNat else 0) else q_tab A B u n k d)
    split
    · split
      · exact q_set1_r _ _ _ _ _ _ _
      · exact ⟨by decide, by decide⟩
    · exact ih k d
theorem q_tab_lt (A B : Nat → Int) (u : Int) : ∀ (n j : Nat) (k d : Int), k < n → q_tab A B u (n + j) k d = q_tab A B u n k d := by
  intro n j
  induction j with
  | zero => intro k d _; rfl
  | succ j ih =>
    intro k d hk
    show (if k = ((n + j : Nat) : Int) then _ else q_tab A B u (n + j) k d) = _
    rw [if_neg (by omega)]
    exact ih k d hk
section
variable {E : pw_E} {w0 : pw_W} {m d : Nat} {S : tw_S}
theorem m_holdsBy_ok {T : Int → Int → Int} {k a v : Int} {K : Bool → tw_S → Prop} (hm : pw_base E ≤ m) (hA : a_ok (S.2.2 9) (S.1 24)) (hu : 0 ≤ S.1 28 ∧ S.1 28 ≤ 1) (hB : q_ok (S.2.2 7) (S.1 28)) (hd : 6 ≤ d) (hk : 0 ≤ k ∧ k < q_n (S.2.2 7) (S.1 28)) (ha : 0 ≤ a ∧ a < 4) (hv : 0 ≤ v ∧ v < a_many (S.2.2 9) a) (hT : ∀ j, 0 ≤ j → j < k → S.2.2 14 (Int.toNat (4 * j + a)) = T j a) (H : K (q_hold (S.2.2 9) (S.2.2 7) (S.1 28) T k a v) S) : pw_Cl E m_X2_holdsBy d [va_rf (some m), .int (iI k), .int (iI a), .int (iI v)] (tw w0 m S) (c_z (t_b w0 m K)) := by
  obtain ⟨e, rfl, he⟩ := pw_d1 hd
  have hv10 := (hA.2.2.1 a ha.1 ha.2).2
  have hl := hA.2.2.2.1 a v ha.1 ha.2 hv.1 (by omega)
  have hn8 := hB.1
  have hk8 : 0 ≤ k ∧ k < 8 := ⟨hk.1, by omega⟩
  have q0 := hB.2.1 k 0 hk8.1 hk8.2 (by omega) (by omega)
  have q1 := hB.2.1 k 1 hk8.1 hk8.2 (by omega) (by omega)
  have q3 := hB.2.1 k 3 hk8.1 hk8.2 (by omega) (by omega)
  obtain ⟨qk, qk0, qk1, qk3, qk6⟩ := hB.2.2 k hk.1 hk.2
  have hr0 : rI (q_at (S.2.2 7) (S.1 28) k 0) := rI_small (by omega) (by omega)
  refine e_X2_holdsBy _ _ _ _ (t_X2_holdsBy_0 hm _ _ _ (m_ofAsking_ok hm (by omega) hu hk8 ⟨by omega, by omega⟩ (m_ofAsking_ok hm (by omega) hu hk8 ⟨by omega, by omega⟩ (m_ofAsking_ok hm (by omega) hu hk8 ⟨by omega, by omega⟩ ⟨hr0, ?_⟩))))
  unfold q_hold at H
  refine ifS2 H (fun h H => ?_) (fun h0 H => ⟨hr0, ifS2 H (fun h H => ?_) (fun h1 H => ⟨hr0, ifS2 H (fun h H => ?_) (fun h2 H => ⟨hr0, ifS2 H (fun h H => ?_) (fun h3 H => ⟨hr0, ifS2 H (fun h H => ?_) (fun h4 H => ⟨hr0, ifS2 H (fun h H => ?_) (fun h5 H => ⟨hr0, ifS2 H (fun h H => ?_) (fun h6 H => ?_)⟩)⟩)⟩)⟩)⟩)⟩)
  · have hr := q_times_r (S.2.2 9) (S.2.2 7) (S.1 28) k a v
    refine m_timesOf_ok hm hA hu hB (by omega) hk h ha hv ⟨rI_small (by omega) (by omega), ?_⟩
    by_cases h9 : q_times (S.2.2 9) (S.2.2 7) (S.1 28) k a v ≤ 0
    · rw [if_pos h9]
      rw [decide_eq_true h9] at H
      exact ⟨false, rfl, S, rfl, H⟩
    · rw [if_neg h9]
      rw [decide_eq_false h9] at H
      exact ⟨true, rfl, S, rfl, H⟩
  · exact m_areNear_ok hm hA hu hB (by omega) hk8 ha hv ⟨_, rfl, S, rfl, H⟩
  · have hr := a_times_r (S.2.2 9) a v (q_at (S.2.2 7) (S.1 28) k 3)
    refine m_ofAsking_ok hm (by omega) hu hk8 ⟨by omega, by omega⟩ (m_timesIn_ok hm hA (by omega) ha hv (rI_small (by omega) (by omega)) ⟨rI_small (by omega) (by omega), rI_small (by omega) (by omega), ?_⟩)
    by_cases h9 : a_times (S.2.2 9) a v (q_at (S.2.2 7) (S.1 28) k 3) < q_at (S.2.2 7) (S.1 28) k 1
    · rw [if_pos h9]
      rw [decide_eq_true h9] at H
      exact ⟨false, rfl, S, rfl, H⟩
    · rw [if_neg h9]
      rw [decide_eq_false h9] at H
      exact ⟨true, rfl, S, rfl, H⟩
  · obtain ⟨g1, g2⟩ := qk3 (by omega)
    refine ⟨by omega, by omega, ?_⟩
    rw [hT _ g1 g2]
    refine m_has_ok (by omega) ?_
    cases hb : s_has (T (q_at (S.2.2 7) (S.1 28) k 1) a) v with
    | true =>
      rw [if_pos rfl]
      rw [hb] at H
      exact ⟨false, rfl, S, rfl, H⟩
    | false =>
      rw [if_neg (by decide)]
      rw [hb] at H
      exact ⟨true, rfl, S, rfl, H⟩
  · obtain ⟨g1, g2⟩ := qk3 (by omega)
    refine ⟨by omega, by omega, ?_⟩
    rw [hT _ g1 g2]
    by_cases h9 : s_till (T (q_at (S.2.2 7) (S.1 28) k 1) a) v = 0
    · rw [decide_eq_true h9] at H
      unfold s_till at h9
      rw [if_pos h9]
      exact ⟨false, rfl, S, rfl, H⟩
    · rw [decide_eq_false h9] at H
      unfold s_till at h9
      rw [if_neg h9]
      exact ⟨true, rfl, S, rfl, H⟩
  · obtain ⟨g1, g2⟩ := qk3 (by omega)
    refine ⟨by omega, by omega, ?_⟩
    rw [hT _ g1 g2]
    refine m_has_ok (by omega) ?_
    cases hb : s_has (T (q_at (S.2.2 7) (S.1 28) k 1) a) v with
    | false =>
      rw [if_neg (by decide)]
      rw [hb] at H
      exact ⟨false, rfl, S, rfl, H⟩
    | true =>
      rw [if_pos rfl]
      rw [hb, Bool.true_and] at H
      refine ⟨rI_small (by omega) (by omega), ?_⟩
      by_cases hz : v = 0
      · rw [if_pos hz]
        rw [decide_eq_true hz, Bool.true_or] at H
        exact ⟨true, rfl, S, rfl, H⟩
      · rw [if_neg hz]
        rw [decide_eq_false hz, Bool.false_or] at H
        refine ⟨by omega, by omega, ?_⟩
        rw [hT _ g1 g2]
        refine m_has_ok (by omega) ?_
        cases hc : s_has (T (q_at (S.2.2 7) (S.1 28) k 1) a) (v - 1) with
        | true =>
          rw [if_pos rfl]
          rw [hc] at H
          exact ⟨false, rfl, S, rfl, H⟩
        | false =>
          rw [if_neg (by decide)]
          rw [hc] at H
          exact ⟨true, rfl, S, rfl, H⟩
  · obtain ⟨g1, g2⟩ := qk3 (by omega)
    obtain ⟨g3, g4⟩ := qk6 (by omega)
    refine ⟨by omega, by omega, by omega, by omega, ?_⟩
    rw [hT _ g1 g2, hT _ g3 g4, s_andE]
    exact m_has_ok (by omega) ⟨_, rfl, S, rfl, H⟩
  · obtain ⟨g1, g2⟩ := qk3 (by omega)
    obtain ⟨g3, g4⟩ := qk6 (by omega)
    refine ⟨by omega, by omega, by omega, by omega, ?_⟩
    rw [hT _ g1 g2, hT _ g3 g4, s_orE2]
    exact m_has_ok (by omega) ⟨_, rfl, S, rfl, H⟩
/-- all questions' sets are laid -/
def tw_lay (S : tw_S) (x u : Int) (Y : Nat → Int) : tw_S := tw_set (tw_h (tw_sf S 28 u) x) 14 Y
theorem tw_same.lay (S : tw_S) (x u : Int) (Y : Nat → Int) : tw_same S (tw_lay S x u Y) := ((tw_same.sf S 28 u).trans (tw_same.h _ x)).trans (tw_same.set _ 14 Y rfl)
def q_T (A B : Nat → Int) (u : Int) : Int → Int → Int := q_tab A B u (q_n B u).toNat
theorem m_layHeld_ok {x u : Int} {K : Bool → tw_S → Prop} (hm : pw_base E ≤ m) (hI : tw_arok S) (hQ : tw_qok S) (hd : 7 ≤ d) (hx : rI x) (hu : rI u) (H : (tw_isQu S u = true → tw_isAr S x = true → a_arok (tw_ar S x) → q_ok (S.2.2 7) u → ∀ Y : Nat → Int, (∀ k a : Nat, (k : Int) < q_n (S.2.2 7) u → a < 4 → Y (4 * k + a) = q_T (tw_ar S x) (S.2.2 7) u k a) → K true (tw_lay S x u Y)) ∧ ((tw_isQu S u && tw_isAr S x) = false → ∀ S', tw_same S S' → K false S')) : pw_Cl E m_X2_layHeld d [va_rf (some m), .int (iI x), .int (iI u)] (tw w0 m S) (c_z (t_b w0 m K)) := by
  obtain ⟨e, rfl, he⟩ := pw_d1 hd
  have hr := hI.1 1 (by omega)
  refine e_X2_layHeld _ _ _ (t_X2_layHeld_0 hm _ _ (m_hasAsking_ok hm (by omega) hu hr ?_))
  by_cases hq : tw_isQu S u = true
  · rw [if_pos hq]
    have hq2 : 0 ≤ u ∧ u ≤ S.2.2 5 1 - 1 := of_decide_eq_true hq
    have hB : q_ok (S.2.2 7) u := hQ u hq2.1 (by omega)
    refine m_hand_k hm (by omega) hx (hI.same (tw_same.sf S 28 u)) ⟨fun h hA => ?_, fun h => ?_⟩
    · have h : tw_isAr S x = true := h
      rw [tw_ar_sf] at hA
      rw [if_pos rfl]
      have H := H.1 hq h hA hB
      have hu0 : ∀ Y, 0 ≤ (tw_lay S x u Y).1 28 ∧ (tw_lay S x u Y).1 28 ≤ 1 := fun Y => ⟨hq2.1, by show u ≤ 1; omega⟩
      have hB0 : ∀ Y, q_ok ((tw_lay S x u Y).2.2 7) ((tw_lay S x u Y).1 28) := fun Y => hB
      have hA0 : ∀ Y, a_ok ((tw_lay S x u Y).2.2 9) ((tw_lay S x u Y).1 24) := fun Y => hA.ok
      have hn := hB.1
      generalize hAg : tw_ar S x = A at *
      generalize hBg : S.2.2 7 = B at *
      have e9 : ∀ Y, (tw_lay S x u Y).2.2 9 = A := fun Y => hAg
      have e7 : ∀ Y, (tw_lay S x u Y).2.2 7 = B := fun Y => hBg
      have e14 : ∀ Y, (tw_lay S x u Y).2.2 14 = Y := fun Y => rfl
      have e28 : ∀ Y, (tw_lay S x u Y).1 28 = u := fun Y => rfl
      have esa : ∀ (Y : Nat → Int) (i : Nat) (z : Int), tw_sa (tw_lay S x u Y) 14 i z = tw_lay S x u (fun j => if j = i then z else Y j) := fun Y i z => tw_set_sa _ 14 Y i z
      refine (fun (main : ∀ Y : Nat → Int, (∀ k a : Nat, k < 0 → a < 4 → Y (4 * k + a) = q_tab A B u 0 k a) → pw_Wp E m_X2_layHeld (e + 1) 20 [some (va_rf (some m)), none, none, some (.int (iI (0 : Nat))), none, none] [] (tw w0 m (tw_lay S x u Y)) (c_z (t_b w0 m K))) => by
        have := main ((tw_h (tw_sf S 28 u) x).2.2 14) (fun k a hk => absurd hk (Nat.not_lt_zero k))
        unfold tw_lay at this
        rw [tw_set_self] at this
        exact this) ?_
      refine loop_up (n := (q_n B u).toNat) (P := fun k => ∀ Y : Nat → Int, (∀ k' a : Nat, k' < k → a < 4 → Y (4 * k' + a) = q_tab A B u k k' a) → pw_Wp E m_X2_layHeld (e + 1) 20 [some (va_rf (some m)), none, none, some (.int (iI k)), none, none] [] (tw w0 m (tw_lay S x u Y)) (c_z (t_b w0 m K))) ?_ ?_ 0 (by omega)
      · intro k hk ih Y hY
        refine t_X2_layHeld_20 hm _ (m_askedMany_ok hm (by omega) (hu0 Y) ?_)
        rw [e7, e28]
        refine ⟨rI_small (by omega) (by omega), rI_small (by omega) (by omega), ?_⟩
        rw [if_neg (by omega)]
        refine loop_up (n := 4) (P := fun a => ∀ Y : Nat → Int, (∀ k' a' : Nat, (k' < k ∨ (k' = k ∧ a' < a)) → a' < 4 → Y (4 * k' + a') = q_tab A B u (k + 1) k' a') → pw_Wp E m_X2_layHeld (e + 1) 31 [some (va_rf (some m)), none, none, some (.int (iI k)), some (.int (iI a)), none] [] (tw w0 m (tw_lay S x u Y)) (c_z (t_b w0 m K))) ?_ ?_ 0 (by omega) Y (fun k' a' hk' ha' => ?_)
        · intro a ha ia Y hY
          refine t_X2_layHeld_31 hm _ _ ⟨rI_small (by omega) (by omega), ?_⟩
          rw [if_neg (by omega)]
          refine ⟨by omega, by omega, ?_⟩
          rw [esa]
          have hidx : Int.toNat (4 * (k : Int) + (a : Int)) = 4 * k + a := by omega
          rw [hidx]
          have hold : ∀ (Z : Nat → Int), (∀ j, j ≠ 4 * k + a → Z j = Y j) → ∀ j, 0 ≤ j → j < (k : Int) → Z (Int.toNat (4 * j + (a : Int))) = q_tab A B u k j a := by
            intro Z hZ j h0 h1
            obtain ⟨j', rfl⟩ : ∃ j' : Nat, j = j' := ⟨j.toNat, by omega⟩
            rw [show Int.toNat (4 * (j' : Int) + (a : Int)) = 4 * j' + a by omega, hZ _ (by omega), hY j' a (Or.inl (by omega)) ha]
            show (if (j' : Int) = (k : Int) then _ else q_tab A B u k j' a) = _
            rw [if_neg (by omega)]
          have done : ∀ (Z : Nat → Int), (∀ j, j ≠ 4 * k + a → Z j = Y j) → Z (4 * k + a) = (if a_isDoc A a = true then q_set1 A B u (q_tab A B u k) k a (a_many A a).toNat else 0) → pw_Wp E m_X2_layHeld (e + 1) 31 [some (va_rf (some m)), none, none, some (.int (iI k)), some (.int (iI ((a : Int) + 1))), none] [] (tw w0 m (tw_lay S x u Z)) (c_z (t_b w0 m K)) := by
            intro Z hZ hz
            refine ia Z (fun k' a' h1 h2 => ?_)
            by_cases h3 : k' = k ∧ a' = a
            · rw [h3.1, h3.2, hz]
              show _ = (if (k : Int) = (k : Int) then _ else _)
              rw [if_pos rfl]
            · rw [hZ _ (by omega)]
              exact hY k' a' (by omega) h2
          by_cases hdoc : a_isDoc A a = true
          · have hdoc' := of_decide_eq_true hdoc
            have ha4 : 0 ≤ (a : Int) ∧ (a : Int) < 4 := ⟨by omega, by omega⟩
            have hmany := hA.ok.2.2.1 a ha4.1 ha4.2
            refine loop_up (n := (a_many A a).toNat) (P := fun v => ∀ Z : Nat → Int, (∀ j, j ≠ 4 * k + a → Z j = Y j) → Z (4 * k + a) = q_set1 A B u (q_tab A B u k) k a v → pw_Wp E m_X2_layHeld (e + 1) 52 [some (va_rf (some m)), none, none, some (.int (iI k)), some (.int (iI a)), some (.int (iI v))] [] (tw w0 m (tw_lay S x u Z)) (c_z (t_b w0 m K))) ?_ ?_ 0 (by omega) _ (fun j hj => if_neg hj) (if_pos rfl)
            · intro v hv iv Z hZ hz
              have es : q_set1 A B u (q_tab A B u k) k a (v + 1) = if q_hold A B u (q_tab A B u k) k a v = true then s_or (q_set1 A B u (q_tab A B u k) k a v) (s_bit v) else s_or (q_set1 A B u (q_tab A B u k) k a v) 0 := rfl
              refine t_X2_layHeld_52 hm _ _ _ (m_isDoc_ok hm (hA0 Z) (by omega) (rI_small (by omega) (by omega)) ?_)
              rw [e9, if_pos hdoc]
              refine m_versions_ok hm (by omega) ha4 ?_
              rw [e9]
              refine ⟨rI_small (by omega) (by omega), rI_small (by omega) (by omega), ?_⟩
              rw [if_neg (by omega)]
              refine ⟨by omega, by omega, ?_⟩
              refine m_holdsBy_ok (T := q_tab A B u k) hm (hA0 Z) (hu0 Z) (hB0 Z) (by omega) ⟨by omega, by rw [e7, e28]; omega⟩ ha4 ⟨by omega, by rw [e9]; omega⟩ (hold Z hZ) ?_
              rw [e9, e7, e28, hidx]
              by_cases hh : q_hold A B u (q_tab A B u k) k a v = true
              · rw [if_pos hh] at es
                rw [if_pos hh]
                refine ⟨by omega, by omega, ?_⟩
                rw [esa, s_orE, e14, hz]
                exact iv _ (fun j hj => (if_neg hj).trans (hZ j hj)) ((if_pos rfl).trans es.symm)
              · rw [if_neg hh] at es
                rw [if_neg hh]
                refine ⟨by omega, by omega, ?_⟩
                rw [esa, e14, hz]
                exact iv _ (fun j hj => (if_neg hj).trans (hZ j hj)) ((if_pos rfl).trans es.symm)
            · intro Z hZ hz
              refine t_X2_layHeld_52 hm _ _ _ (m_isDoc_ok hm (hA0 Z) (by omega) (rI_small (by omega) (by omega)) ?_)
              rw [e9, if_pos hdoc]
              refine m_versions_ok hm (by omega) ha4 ?_
              rw [e9]
              refine ⟨rI_small (by omega) (by omega), rI_small (by omega) (by omega), ?_⟩
              rw [if_pos (by omega)]
              exact done Z hZ (by rw [hz, if_pos hdoc])
          · refine t_X2_layHeld_52 hm _ _ _ (m_isDoc_ok hm (hA0 _) (by omega) (rI_small (by omega) (by omega)) ?_)
            rw [e9, if_neg hdoc]
            exact done _ (fun j hj => if_neg hj) (by rw [if_pos rfl, if_neg hdoc])
        · intro Y hY
          refine t_X2_layHeld_31 hm _ _ ⟨rI_small (by omega) (by omega), ?_⟩
          rw [if_pos (by decide)]
          exact ih Y (fun k' a h1 h2 => hY k' a (by omega) h2)
        · rw [hY k' a' (by omega) ha']
          show _ = (if (k' : Int) = (k : Int) then _ else q_tab A B u k k' a')
          rw [if_neg (by omega)]
      · intro Y hY
        refine t_X2_layHeld_20 hm _ (m_askedMany_ok hm (by omega) (hu0 Y) ?_)
        rw [e7, e28]
        refine ⟨rI_small (by omega) (by omega), rI_small (by omega) (by omega), ?_⟩
        rw [if_pos (by omega)]
        exact ⟨true, rfl, _, rfl, H Y (fun k a hk ha => hY k a (by omega) ha)⟩
    · have h : tw_isAr S x = false := h
      rw [if_neg (by decide)]
      exact ⟨false, rfl, _, rfl, H.2 (by rw [h, Bool.and_false]) _ (tw_same.sf S 28 u)⟩
  · rw [if_neg hq]
    exact ⟨false, rfl, _, rfl, H.2 (by rw [Bool.eq_false_iff.mpr hq, Bool.false_and]) _ (tw_same.sf S 28 u)⟩
end
