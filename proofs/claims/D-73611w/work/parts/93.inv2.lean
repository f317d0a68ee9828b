set_option maxRecDepth 100000
/-! the twin: a text that is taken leaves what always holds (plain) -/
theorem g_val_ext {A A' : Nat → Int} (h : ∀ n, n < 1526 → A' n = A n) (hv : g_val A) : g_val A' := by
  obtain ⟨⟨g1, g2, g3⟩, h2, h3, h4, h5⟩ := hv
  have e0 : A' 0 = A 0 := h 0 (by omega)
  have e5 : A' 5 = A 5 := h 5 (by omega)
  have em : ∀ d : Int, 0 ≤ d → d < 4 → a_many A' d = a_many A d := fun d h0 h1 => h _ (by omega)
  have el : ∀ d v : Int, 0 ≤ d → d < 4 → 0 ≤ v → v < 10 → a_long A' d v = a_long A d v := fun d v h0 h1 h2 h3 => h _ (by omega)
  have er : ∀ d v : Int, 0 ≤ d → d < 4 → 0 ≤ v → v < 10 → a_row A' d v = a_row A d v := by
    intro d v d0 d1 v0 v1
    have hl := g3 (10 * d + v) (by omega) (by omega)
    have hl : 0 ≤ a_long A d v ∧ a_long A d v ≤ 20 := hl
    unfold a_row
    rw [el d v d0 d1 v0 v1]
    refine List.map_congr_left (fun p hp => ?_)
    rw [List.mem_range] at hp
    exact h _ (by omega)
  have ew : ∀ t : Int, 0 ≤ t → t < 320 → a_whose A' t = a_whose A t ∧ a_word A' t = a_word A t := fun t h0 h1 => ⟨h _ (by omega), h _ (by omega)⟩
  refine ⟨⟨by rw [e5]; exact g1, fun d d0 d1 => by rw [em d d0 d1]; exact g2 d d0 d1, fun l l0 l1 => by rw [h _ (by omega)]; exact g3 l l0 l1⟩, by rw [e0]; exact h2, fun d v d0 d1 v0 v1 => ?_, fun t t0 t1 => ?_, fun i hi => by rw [h _ (by omega)]; exact h5 i hi⟩
  · rw [em d d0 d1] at v1
    have hm := g2 d d0 d1
    rw [er d v d0 d1 v0 (by omega), e0, e5]
    obtain ⟨⟨q1, q2⟩, q3⟩ := h3 d v d0 d1 v0 v1
    refine ⟨⟨q1, fun x hx => ?_⟩, q3⟩
    have := q2 x hx
    rw [(ew x this.1.1 (by omega)).1]
    exact this
  · rw [e5] at t1
    obtain ⟨q1, q2, v, q3, q4, q5⟩ := h4 t t0 t1
    have hm := g2 _ q1.1 (by omega)
    rw [(ew t t0 (by omega)).1, (ew t t0 (by omega)).2, e0, em _ q1.1 (by omega)]
    refine ⟨q1, q2, v, q3, q4, ?_⟩
    rw [er _ v q1.1 (by omega) q3 (by omega)]
    exact q5
theorem q_ok_sh {B B' : Nat → Int} {u u' : Int} (hu : 0 ≤ u) (hu' : 0 ≤ u') (h : ∀ i : Nat, i < 57 → B' (Int.toNat (57 * u' + i)) = B (Int.toNat (57 * u + i))) (hB : q_ok B u) : q_ok B' u' := by
  have en : q_n B' u' = q_n B u := by
    have := h 0 (by omega)
    rw [show 57 * u' + ((0 : Nat) : Int) = 57 * u' by omega, show 57 * u + ((0 : Nat) : Int) = 57 * u by omega] at this
    exact this
  have ea : ∀ k i : Int, 0 ≤ k → k < 8 → 0 ≤ i → i < 7 → q_at B' u' k i = q_at B u k i := by
    intro k i h0 h1 h2 h3
    have := h (1 + 7 * k + i).toNat (by omega)
    unfold q_at
    rw [show 57 * u' + (((1 + 7 * k + i).toNat : Nat) : Int) = 57 * u' + 1 + 7 * k + i by omega, show 57 * u + (((1 + 7 * k + i).toNat : Nat) : Int) = 57 * u + 1 + 7 * k + i by omega] at this
    exact this
  obtain ⟨h1, h2, h3⟩ := hB
  refine ⟨by rw [en]; exact h1, fun k i k0 k1 i0 i1 => by rw [ea k i k0 k1 i0 i1]; exact h2 k i k0 k1 i0 i1, fun k k0 k1 => ?_⟩
  rw [en] at k1
  rw [ea k 0 k0 (by omega) (by omega) (by omega), ea k 1 k0 (by omega) (by omega) (by omega), ea k 2 k0 (by omega) (by omega) (by omega)]
  exact h3 k k0 k1
/-- of a hunt that was read -/
theorem h_ok_of {A B : Nat → Int} {u : Int} (hu : 0 ≤ u) (h : ∀ i : Nat, i < 25 → B (Int.toNat (25 * u + i)) = A i) (h0 : 0 ≤ A 0 ∧ A 0 ≤ 8) (h1 : ∀ j : Nat, 1 ≤ j → j ≤ 24 → 0 ≤ A j ∧ A j ≤ 9) : h_ok B u := by
  refine ⟨?_, fun k i k0 k1 i0 i1 => ?_⟩
  · have := h 0 (by omega)
    rw [show 25 * u + ((0 : Nat) : Int) = 25 * u by omega] at this
    show 0 ≤ B (Int.toNat (25 * u)) ∧ B (Int.toNat (25 * u)) ≤ 8
    rw [this]
    exact h0
  · have := h (1 + 3 * k + i).toNat (by omega)
    rw [show 25 * u + (((1 + 3 * k + i).toNat : Nat) : Int) = 25 * u + 1 + 3 * k + i by omega] at this
    show 0 ≤ B (Int.toNat (25 * u + 1 + 3 * k + i)) ∧ B (Int.toNat (25 * u + 1 + 3 * k + i)) ≤ 9
    rw [this]
    exact h1 _ (by omega) (by omega)
theorem tx_arok {A : Nat → Int} {q : Nat} (h : tx_ok A q) (hq : q ≤ 600) : a_arok (fun n => if n < 1526 then A n else 0) := by
  have hv := g_val_ext (A' := fun n => if n < 1526 then A n else 0) (fun n hn => if_pos hn) h.1
  refine hv.arok (fun d d0 d1 => ?_) ?_
  · have e0 : (fun n => if n < 1526 then A n else 0) 0 = A 0 := rfl
    rw [e0] at d1
    have hA := h.1.2.1
    have em : a_many (fun n => if n < 1526 then A n else 0) d = a_many A d := if_pos (by omega)
    rw [em]
    exact h.2.1 d d0 d1
  · show A 5 ≤ 279
    have := h.2.2
    omega
/-- a text that isn't taken -/
theorem tw_all.tt0 {S S' : tw_S} {k p : Int} (h : tw_all S) (ht : tt S S' k p) (hs : tt_same S S') : tw_all S' := by
  obtain ⟨⟨a1, a2, a3, a4⟩, b, c⟩ := h
  obtain ⟨t1, t2, t3, t4, t16⟩ := ht
  have e5 := hs 5 (by omega) (by omega)
  refine ⟨⟨by rw [t2]; exact ⟨by show (0 : Int) ≤ 0; omega, by show (0 : Int) ≤ 600; omega⟩, ⟨fun s hs' => by rw [e5]; exact a2.1 s hs', fun v v0 v1 => ?_⟩, fun u u0 u1 => ?_, fun u u0 u1 => ?_⟩, fun i hi => by rw [t1]; exact b i hi, fun j hj => ?_⟩
  · rw [e5] at v1
    have : tw_ar S' v = tw_ar S v := by unfold tw_ar; rw [hs 6 (by omega) (by omega)]
    rw [this]
    exact a2.2 v v0 v1
  · rw [e5] at u1
    rw [hs 7 (by omega) (by omega)]
    exact a3 u u0 u1
  · rw [e5] at u1
    rw [hs 8 (by omega) (by omega)]
    exact a4 u u0 u1
  · rw [t16]
    rcases c j hj with h | ⟨h, h'⟩
    · exact Or.inl h
    · refine Or.inr ⟨h, h'.ext (fun q q1 q2 i hi => ?_)⟩
      show S'.2.2 q (sl_w q * (j + 1) + i) = S.2.2 q (sl_w q * (j + 1) + i)
      match q, q1, q2 with
      | 1, _, _ => rw [t1]
      | 2, _, _ => rw [t2]; exact if_neg (show 1 * (j + 1) + i ≠ 0 by omega)
      | 3, _, _ => rw [t3]; exact if_neg (show 1 * (j + 1) + i ≠ 0 by omega)
      | 4, _, _ => rw [t4]; exact if_neg (show 1 * (j + 1) + i ≠ 0 by omega)
      | 5, _, _ => rw [hs 5 (by omega) (by omega)]
      | 6, _, _ => rw [hs 6 (by omega) (by omega)]
      | 7, _, _ => rw [hs 7 (by omega) (by omega)]
      | 8, _, _ => rw [hs 8 (by omega) (by omega)]
/-- a text that is taken -/
theorem tw_all.tt1 {S S' : tw_S} {o at' : Int} {A : Nat → Int} {f : Int × Int} {q' : Nat} (h : tw_all S) (ho : 0 ≤ o ∧ o ≤ 2) (hc : tt_can S o at' = true) (hq : q' ≤ 600) (hI : tx_inv o A q' f) (hf : f.1 = 0) (ht : tt S S' 0 (-1)) (h5 : S'.2.2 5 = (fun j => if at' = -1 ∧ j = o.toNat then S.2.2 5 j + 1 else S.2.2 5 j)) (h6 : ∀ q : Nat, 6 ≤ q → q ≤ 8 → S'.2.2 q = if q = 6 + o.toNat then (fun j => if tt_w o * (tt_k S o at').toNat ≤ j ∧ j < tt_w o * (tt_k S o at').toNat + tt_w o then A (j - tt_w o * (tt_k S o at').toNat) else S.2.2 q j) else S.2.2 q) : tw_all S' := by
  obtain ⟨⟨a1, a2, a3, a4⟩, b, c⟩ := h
  obtain ⟨t1, t2, t3, t4, t16⟩ := ht
  have hmo := a2.1 o.toNat (by omega)
  -- which
  have hk : (0 ≤ tt_k S o at' ∧ tt_k S o at' ≤ 1) ∧ (∀ s : Nat, s < 3 → 0 ≤ S'.2.2 5 s ∧ S'.2.2 5 s ≤ 2) ∧ (∀ s : Nat, s < 3 → s ≠ o.toNat → S'.2.2 5 s = S.2.2 5 s) ∧ ∀ v : Int, v < S'.2.2 5 o.toNat → v ≠ tt_k S o at' → v < S.2.2 5 o.toNat := by
    unfold tt_can at hc
    unfold tt_k
    rw [decide_eq_true ho, Bool.true_and] at hc
    by_cases ha : at' = -1
    · rw [if_pos ha] at hc ⊢
      have hc : S.2.2 5 o.toNat ≠ 2 := by simpa using hc
      refine ⟨⟨by omega, by omega⟩, fun s hs => ?_, fun s hs hne => ?_, fun v hv hne => ?_⟩
      · rw [h5]
        have := a2.1 s hs
        show 0 ≤ (if at' = -1 ∧ s = o.toNat then S.2.2 5 s + 1 else S.2.2 5 s) ∧ (if at' = -1 ∧ s = o.toNat then S.2.2 5 s + 1 else S.2.2 5 s) ≤ 2
        by_cases hs2 : s = o.toNat
        · rw [if_pos ⟨ha, hs2⟩, hs2]; omega
        · rw [if_neg (fun h => hs2 h.2)]; exact this
      · rw [h5]
        show (if at' = -1 ∧ s = o.toNat then S.2.2 5 s + 1 else S.2.2 5 s) = _
        rw [if_neg (fun h => hne h.2)]
      · rw [h5] at hv
        have hv : v < (if at' = -1 ∧ o.toNat = o.toNat then S.2.2 5 o.toNat + 1 else S.2.2 5 o.toNat) := hv
        rw [if_pos ⟨ha, rfl⟩] at hv
        omega
    · rw [if_neg ha] at hc ⊢
      have hc : 0 ≤ at' ∧ at' ≤ S.2.2 5 o.toNat - 1 := of_decide_eq_true hc
      have same : ∀ s, S'.2.2 5 s = S.2.2 5 s := by
        intro s
        rw [h5]
        show (if at' = -1 ∧ s = o.toNat then S.2.2 5 s + 1 else S.2.2 5 s) = _
        rw [if_neg (fun h => ha h.1)]
      exact ⟨⟨by omega, by omega⟩, fun s hs => by rw [same]; exact a2.1 s hs, fun s _ _ => same s, fun v hv _ => by rw [same] at hv; exact hv⟩
  obtain ⟨hk1, hk2, hk3, hk4⟩ := hk
  generalize tt_k S o at' = kk at *
  have ekk : ((kk.toNat : Nat) : Int) = kk := by omega
  obtain ⟨-, i0, i1, i2⟩ := hI
  have hw : ∀ q : Nat, 6 ≤ q → q ≤ 8 → q = 6 + o.toNat → sl_w q = tt_w o * 2 := by
    intro q q1 q2 hq3
    unfold tt_w
    by_cases o0 : o = 0
    · have : q = 6 := by omega
      subst this
      rw [if_pos o0]; rfl
    · by_cases o1 : o = 1
      · have : q = 7 := by omega
        subst this
        rw [if_neg o0, if_pos o1]; rfl
      · have : q = 8 := by omega
        subst this
        rw [if_neg o0, if_neg o1]; rfl
  refine ⟨⟨by rw [t2]; exact ⟨by show (0 : Int) ≤ 0; omega, by show (0 : Int) ≤ 600; omega⟩, ⟨hk2, fun v v0 v1 => ?_⟩, fun u u0 u1 => ?_, fun u u0 u1 => ?_⟩, fun i hi => by rw [t1]; exact b i hi, fun j hj => ?_⟩
  · by_cases o0 : o = 0
    · subst o0
      have h66 := h6 6 (by omega) (by omega)
      rw [if_pos (by decide)] at h66
      have h66 : S'.2.2 6 = fun j => if 1526 * kk.toNat ≤ j ∧ j < 1526 * kk.toNat + 1526 then A (j - 1526 * kk.toNat) else S.2.2 6 j := h66
      have h2 := hk2 0 (by omega)
      by_cases hv : v = kk
      · have : tw_ar S' v = fun n => if n < 1526 then A n else 0 := by
          unfold tw_ar
          funext n
          by_cases hn : n < 1526
          · rw [if_pos hn, if_pos hn, h66]
            show (if 1526 * kk.toNat ≤ Int.toNat (1526 * v + n) ∧ Int.toNat (1526 * v + n) < 1526 * kk.toNat + 1526 then A (Int.toNat (1526 * v + n) - 1526 * kk.toNat) else S.2.2 6 (Int.toNat (1526 * v + n))) = A n
            rw [if_pos (by omega)]
            congr 1
            omega
          · rw [if_neg hn, if_neg hn]
        rw [this]
        exact tx_arok (i0 rfl) hq
      · have : tw_ar S' v = tw_ar S v := by
          unfold tw_ar
          funext n
          by_cases hn : n < 1526
          · rw [if_pos hn, if_pos hn, h66]
            show (if 1526 * kk.toNat ≤ Int.toNat (1526 * v + n) ∧ Int.toNat (1526 * v + n) < 1526 * kk.toNat + 1526 then A (Int.toNat (1526 * v + n) - 1526 * kk.toNat) else S.2.2 6 (Int.toNat (1526 * v + n))) = _
            rw [if_neg (by omega)]
          · rw [if_neg hn, if_neg hn]
        rw [this]
        exact a2.2 v v0 (hk4 v v1 hv)
    · rw [hk3 0 (by omega) (by omega)] at v1
      have h66 := h6 6 (by omega) (by omega)
      rw [if_neg (by omega)] at h66
      have : tw_ar S' v = tw_ar S v := by unfold tw_ar; rw [h66]
      rw [this]
      exact a2.2 v v0 v1
  · by_cases o1 : o = 1
    · subst o1
      have h77 := h6 7 (by omega) (by omega)
      rw [if_pos (by decide)] at h77
      have h77 : S'.2.2 7 = fun j => if 57 * kk.toNat ≤ j ∧ j < 57 * kk.toNat + 57 then A (j - 57 * kk.toNat) else S.2.2 7 j := h77
      have h2 := hk2 1 (by omega)
      rw [h77]
      by_cases hu : u = kk
      · refine q_ok_sh (u := 0) (by omega) u0 (fun i hi => ?_) ((i1 rfl).2 hf)
        show (if 57 * kk.toNat ≤ Int.toNat (57 * u + i) ∧ Int.toNat (57 * u + i) < 57 * kk.toNat + 57 then A (Int.toNat (57 * u + i) - 57 * kk.toNat) else S.2.2 7 (Int.toNat (57 * u + i))) = _
        rw [if_pos (by omega)]
        congr 1
        omega
      · refine q_ok_sh (u := u) u0 u0 (fun i hi => ?_) (a3 u u0 (hk4 u u1 hu))
        show (if 57 * kk.toNat ≤ Int.toNat (57 * u + i) ∧ Int.toNat (57 * u + i) < 57 * kk.toNat + 57 then A (Int.toNat (57 * u + i) - 57 * kk.toNat) else S.2.2 7 (Int.toNat (57 * u + i))) = _
        rw [if_neg (by omega)]
    · rw [hk3 1 (by omega) (by omega)] at u1
      have h77 := h6 7 (by omega) (by omega)
      rw [if_neg (by omega)] at h77
      rw [h77]
      exact a3 u u0 u1
  · by_cases o2 : o = 2
    · subst o2
      have h88 := h6 8 (by omega) (by omega)
      rw [if_pos (by decide)] at h88
      have h88 : S'.2.2 8 = fun j => if 25 * kk.toNat ≤ j ∧ j < 25 * kk.toNat + 25 then A (j - 25 * kk.toNat) else S.2.2 8 j := h88
      have h2 := hk2 2 (by omega)
      rw [h88]
      by_cases hu : u = kk
      · refine h_ok_of (A := A) u0 (fun i hi => ?_) (i2 rfl).1 ((i2 rfl).2 hf)
        show (if 25 * kk.toNat ≤ Int.toNat (25 * u + i) ∧ Int.toNat (25 * u + i) < 25 * kk.toNat + 25 then A (Int.toNat (25 * u + i) - 25 * kk.toNat) else S.2.2 8 (Int.toNat (25 * u + i))) = _
        rw [if_pos (by omega)]
        congr 1
        omega
      · have hu4 := a4 u u0 (hk4 u u1 hu)
        have e : ∀ i : Nat, i < 25 → (if 25 * kk.toNat ≤ Int.toNat (25 * u + i) ∧ Int.toNat (25 * u + i) < 25 * kk.toNat + 25 then A (Int.toNat (25 * u + i) - 25 * kk.toNat) else S.2.2 8 (Int.toNat (25 * u + i))) = S.2.2 8 (Int.toNat (25 * u + i)) := fun i hi => by rw [if_neg (by omega)]
        have hn := e 0 (by omega)
        rw [show 25 * u + ((0 : Nat) : Int) = 25 * u by omega] at hn
        obtain ⟨y1, y2⟩ := hu4
        refine ⟨?_, fun k i k0 k1 i0 i1 => ?_⟩
        · show 0 ≤ (if 25 * kk.toNat ≤ Int.toNat (25 * u) ∧ Int.toNat (25 * u) < 25 * kk.toNat + 25 then A (Int.toNat (25 * u) - 25 * kk.toNat) else S.2.2 8 (Int.toNat (25 * u))) ∧ (if 25 * kk.toNat ≤ Int.toNat (25 * u) ∧ Int.toNat (25 * u) < 25 * kk.toNat + 25 then A (Int.toNat (25 * u) - 25 * kk.toNat) else S.2.2 8 (Int.toNat (25 * u))) ≤ 8
          rw [hn]
          exact y1
        · have := e (1 + 3 * k + i).toNat (by omega)
          rw [show 25 * u + (((1 + 3 * k + i).toNat : Nat) : Int) = 25 * u + 1 + 3 * k + i by omega] at this
          show 0 ≤ (if 25 * kk.toNat ≤ Int.toNat (25 * u + 1 + 3 * k + i) ∧ Int.toNat (25 * u + 1 + 3 * k + i) < 25 * kk.toNat + 25 then A (Int.toNat (25 * u + 1 + 3 * k + i) - 25 * kk.toNat) else S.2.2 8 (Int.toNat (25 * u + 1 + 3 * k + i))) ∧ (if 25 * kk.toNat ≤ Int.toNat (25 * u + 1 + 3 * k + i) ∧ Int.toNat (25 * u + 1 + 3 * k + i) < 25 * kk.toNat + 25 then A (Int.toNat (25 * u + 1 + 3 * k + i) - 25 * kk.toNat) else S.2.2 8 (Int.toNat (25 * u + 1 + 3 * k + i))) ≤ 9
          rw [this]
          exact y2 k i k0 k1 i0 i1
    · rw [hk3 2 (by omega) (by omega)] at u1
      have h88 := h6 8 (by omega) (by omega)
      rw [if_neg (by omega)] at h88
      rw [h88]
      exact a4 u u0 u1
  · rw [t16]
    rcases c j hj with h | ⟨h, h'⟩
    · exact Or.inl h
    · refine Or.inr ⟨h, h'.ext (fun q q1 q2 i hi => ?_)⟩
      show S'.2.2 q (sl_w q * (j + 1) + i) = S.2.2 q (sl_w q * (j + 1) + i)
      by_cases q6 : 6 ≤ q
      · rw [h6 q q6 q2]
        by_cases hqo : q = 6 + o.toNat
        · rw [if_pos hqo]
          have hwq := hw q q6 q2 hqo
          have hle : tt_w o * kk.toNat ≤ tt_w o * 1 := Nat.mul_le_mul_left _ (by omega)
          have hge : sl_w q * 1 ≤ sl_w q * (j + 1) := Nat.mul_le_mul_left _ (by omega)
          exact if_neg (by omega)
        · rw [if_neg hqo]
      · match q, q1, q6 with
        | 1, _, _ => rw [t1]
        | 2, _, _ => rw [t2]; exact if_neg (show 1 * (j + 1) + i ≠ 0 by omega)
        | 3, _, _ => rw [t3]; exact if_neg (show 1 * (j + 1) + i ≠ 0 by omega)
        | 4, _, _ => rw [t4]; exact if_neg (show 1 * (j + 1) + i ≠ 0 by omega)
        | 5, _, _ =>
          rw [h5]
          exact if_neg (fun h => by have : 3 * (j + 1) + i = o.toNat := h.2; omega)
        | q + 6, _, h => omega
