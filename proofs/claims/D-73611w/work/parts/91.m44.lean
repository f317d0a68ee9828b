set_option maxRecDepth 100000
/-! the twin: a text is taken -/
def tt (S S' : tw_S) (k p : Int) : Prop := S'.2.2 1 = S.2.2 1 ∧ S'.2.2 2 = (fun j => if j = 0 then 0 else S.2.2 2 j) ∧ S'.2.2 3 = (fun j => if j = 0 then k else S.2.2 3 j) ∧ S'.2.2 4 = (fun j => if j = 0 then p else S.2.2 4 j) ∧ S'.2.2 16 = S.2.2 16
def tt_same (S S' : tw_S) : Prop := ∀ q : Nat, 5 ≤ q → q ≤ 8 → S'.2.2 q = S.2.2 q
def tt_can (S : tw_S) (o at' : Int) : Bool := decide (0 ≤ o ∧ o ≤ 2) && (if at' = -1 then !decide (S.2.2 5 o.toNat = 2) else decide (0 ≤ at' ∧ at' ≤ S.2.2 5 o.toNat - 1))
def tt_k (S : tw_S) (o at' : Int) : Int := if at' = -1 then S.2.2 5 o.toNat else at'
def tt_w (o : Int) : Nat := if o = 0 then 1526 else if o = 1 then 57 else 25
def tt_post (S : tw_S) (o at' : Int) (K : Int → tw_S → Prop) : tx_T → Prop
  | .inl p => ∀ S' : tw_S, tt S S' 1 (p : Int) → tt_same S S' → K (-1) S'
  | .inr (f, A) => (f.1 ≠ 0 → ∀ S' : tw_S, tt S S' f.1 f.2 → tt_same S S' → K (-1) S') ∧ (f.1 = 0 → ∀ S' : tw_S, tt S S' 0 (-1) → S'.2.2 5 = (fun j => if at' = -1 ∧ j = o.toNat then S.2.2 5 j + 1 else S.2.2 5 j) → (∀ q : Nat, 6 ≤ q → q ≤ 8 → S'.2.2 q = if q = 6 + o.toNat then (fun j => if tt_w o * (tt_k S o at').toNat ≤ j ∧ j < tt_w o * (tt_k S o at').toNat + tt_w o then A (j - tt_w o * (tt_k S o at').toNat) else S.2.2 q j) else S.2.2 q) → K (tt_k S o at') S')
section
variable {E : pw_E} {w0 : pw_W} {m d : Nat} {S : tw_S}
theorem m_text_ok {o at' : Int} {K : Int → tw_S → Prop} (hm : pw_base E ≤ m) (hd : 11 ≤ d) (hs : 0 ≤ S.2.2 2 0 ∧ S.2.2 2 0 ≤ 600) (hmany : ∀ s : Nat, s < 3 → 0 ≤ S.2.2 5 s ∧ S.2.2 5 s ≤ 2) (hor : rI o) (hat : rI at') (H : if tt_can S o at' = true then tt_post S o at' K (tx_text o (S.2.2 1) (S.2.2 2 0) (S.1 17)) else ∀ S' : tw_S, tt S S' 0 (-1) → tt_same S S' → K (-2) S') : pw_Cl E m_X2_text d [va_rf (some m), .int (iI o), .int (iI at')] (tw w0 m S) (c_i (t_i w0 m K)) := by
  obtain ⟨e, rfl, he⟩ := pw_d1 hd
  refine e_X2_text _ _ _ (t_X2_text_0 hm _ _ ?_)
  have n10 : (tw_sa (tw_sa (tw_sa (tw_sf (tw_sf S 0 0) 10 (S.2.2 2 0)) 2 0 0) 3 0 0) 4 0 (-1)).1 10 = S.2.2 2 0 := rfl
  have n17 : (tw_sa (tw_sa (tw_sa (tw_sf (tw_sf S 0 0) 10 (S.2.2 2 0)) 2 0 0) 3 0 0) 4 0 (-1)).1 17 = S.1 17 := rfl
  have na : ∀ q : Nat, q ≠ 2 → q ≠ 3 → q ≠ 4 → (tw_sa (tw_sa (tw_sa (tw_sf (tw_sf S 0 0) 10 (S.2.2 2 0)) 2 0 0) 3 0 0) 4 0 (-1)).2.2 q = S.2.2 q := by
    intro q h2 h3 h4
    rw [tw_sa_ne _ _ _ h4, tw_sa_ne _ _ _ h3, tw_sa_ne _ _ _ h2]
    rfl
  have n2 : (tw_sa (tw_sa (tw_sa (tw_sf (tw_sf S 0 0) 10 (S.2.2 2 0)) 2 0 0) 3 0 0) 4 0 (-1)).2.2 2 = fun j => if j = 0 then 0 else S.2.2 2 j := by
    rw [tw_sa_ne _ _ _ (by decide), tw_sa_ne _ _ _ (by decide), tw_sa_at]
    rfl
  have n3 : (tw_sa (tw_sa (tw_sa (tw_sf (tw_sf S 0 0) 10 (S.2.2 2 0)) 2 0 0) 3 0 0) 4 0 (-1)).2.2 3 = fun j => if j = 0 then 0 else S.2.2 3 j := by
    rw [tw_sa_ne _ _ _ (by decide), tw_sa_at, tw_sa_ne _ _ _ (by decide)]
    rfl
  have n4 : (tw_sa (tw_sa (tw_sa (tw_sf (tw_sf S 0 0) 10 (S.2.2 2 0)) 2 0 0) 3 0 0) 4 0 (-1)).2.2 4 = fun j => if j = 0 then -1 else S.2.2 4 j := by
    rw [tw_sa_at, tw_sa_ne _ _ _ (by decide), tw_sa_ne _ _ _ (by decide)]
    rfl
  generalize tw_sa (tw_sa (tw_sa (tw_sf (tw_sf S 0 0) 10 (S.2.2 2 0)) 2 0 0) 3 0 0) 4 0 (-1) = S9 at *
  have tt9 : tt S S9 0 (-1) := ⟨na 1 (by omega) (by omega) (by omega), n2, n3, n4, na 16 (by omega) (by omega) (by omega)⟩
  have same9 : tt_same S S9 := fun q h1 h2 => na q (by omega) (by omega) (by omega)
  -- what comes of the reading
  have ttx : ∀ (S' : tw_S) (k p : Int), rt_fr S9 S' → rt_flt S9 S' k p → tt S S' k p ∧ tt_same S S' := by
    intro S' k p h1 h2
    refine ⟨⟨?_, ?_, ?_, ?_, ?_⟩, fun q q1 q2 => ?_⟩
    · rw [h1 1 (by omega) (by omega) (by omega) (by omega) (by omega)]; exact tt9.1
    · rw [h1 2 (by omega) (by omega) (by omega) (by omega) (by omega)]; exact n2
    · rw [h2.1, n3]
      funext j
      by_cases hj : j = 0
      · simp [hj]
      · simp [hj]
    · rw [h2.2, n4]
      funext j
      by_cases hj : j = 0
      · simp [hj]
      · simp [hj]
    · rw [h1 16 (by omega) (by omega) (by omega) (by omega) (by omega)]; exact tt9.2.2.2.2
    · rw [h1 q (by omega) (by omega) (by omega) (by omega) (by omega)]; exact same9 q q1 q2
  refine m_in_ok hm (by omega) hor (rI_small (by omega) (by omega)) (rI_small (by omega) (by omega)) ?_
  unfold tt_can at H
  by_cases ho : 0 ≤ o ∧ o ≤ 2
  · rw [decide_eq_true ho, Bool.true_and] at H
    rw [decide_eq_true ho, if_pos rfl]
    have hmo := hmany o.toNat (by omega)
    have e5 : S9.2.2 5 = S.2.2 5 := same9 5 (by omega) (by omega)
    -- the end
    have fin : ∀ (A : Nat → Int) (S' : tw_S), tt S S' 0 (-1) → tt_same S S' → S'.2.2 9 = A → (0 ≤ tt_k S o at' ∧ tt_k S o at' ≤ 1) → (∀ S'' : tw_S, tt S S'' 0 (-1) → S''.2.2 5 = (fun j => if at' = -1 ∧ j = o.toNat then S.2.2 5 j + 1 else S.2.2 5 j) → (∀ q : Nat, 6 ≤ q → q ≤ 8 → S''.2.2 q = if q = 6 + o.toNat then (fun j => if tt_w o * (tt_k S o at').toNat ≤ j ∧ j < tt_w o * (tt_k S o at').toNat + tt_w o then A (j - tt_w o * (tt_k S o at').toNat) else S.2.2 q j) else S.2.2 q) → K (tt_k S o at') S'') → pw_Wp E m_X2_text (e + 1) 100 [some (va_rf (some m)), some (.int (iI o)), some (.int (iI at')), none] [.int (iI (tt_k S o at'))] (tw w0 m S') (c_i (t_i w0 m K)) := by
      intro A S' ht hsm h9 hk H
      have rko : rI o := rI_small (by omega) (by omega)
      generalize hkk : tt_k S o at' = kk at *
      have ek : iI kk = iI ((kk.toNat : Nat) : Int) := by congr 1; omega
      have st : ∀ (x : Int) (w k : Nat), x = (if at' = -1 then S.2.2 5 o.toNat + 1 else S.2.2 5 o.toNat) → w = tt_w o → k = 6 + o.toNat → w ≤ 1526 → w * 2 ≤ tw_len k → (decide (1 < k) && decide (k < 16)) = true → k ≠ 9 → pw_Cl E m_X2_store e [va_rf (some m), va_rf (some (m + k)), .int (iI w), .int (iI kk)] (tw w0 m (tw_sa S' 5 o.toNat x)) (c_v (t_u w0 m (fun S5 => (c_i (t_i w0 m K)) (.inl (some (.int (iI kk)))) (tw w0 m S5)))) := by
        intro x w k hx hw hk6 h1526 hlen hkd hk9
        rw [ek]
        have hle : w * kk.toNat + w ≤ w * 2 := by
          have h1 : w * kk.toNat ≤ w * 1 := Nat.mul_le_mul_left w (by omega)
          omega
        refine m_store_ok hm (by omega) hkd hk9 h1526 (by omega) ?_
        rw [← ek]
        refine ⟨_, rfl, _, _, rfl, rfl, H _ ⟨?_, ?_, ?_, ?_, ?_⟩ ?_ (fun q q1 q2 => ?_)⟩
        · show (if 1 = k then _ else (tw_sa S' 5 o.toNat x).2.2 1) = _
          rw [if_neg (by omega), tw_sa_ne _ _ _ (by decide)]; exact ht.1
        · show (if 2 = k then _ else (tw_sa S' 5 o.toNat x).2.2 2) = _
          rw [if_neg (by omega), tw_sa_ne _ _ _ (by decide)]; exact ht.2.1
        · show (if 3 = k then _ else (tw_sa S' 5 o.toNat x).2.2 3) = _
          rw [if_neg (by omega), tw_sa_ne _ _ _ (by decide)]; exact ht.2.2.1
        · show (if 4 = k then _ else (tw_sa S' 5 o.toNat x).2.2 4) = _
          rw [if_neg (by omega), tw_sa_ne _ _ _ (by decide)]; exact ht.2.2.2.1
        · show (if 16 = k then _ else (tw_sa S' 5 o.toNat x).2.2 16) = _
          rw [if_neg (by omega), tw_sa_ne _ _ _ (by decide)]; exact ht.2.2.2.2
        · show (if 5 = k then _ else (tw_sa S' 5 o.toNat x).2.2 5) = _
          rw [if_neg (by omega), tw_sa_at, hsm 5 (by omega) (by omega)]
          funext j
          by_cases hj : j = o.toNat
          · rw [if_pos hj, hx]
            by_cases ha : at' = -1
            · rw [if_pos ha, if_pos ⟨ha, hj⟩, hj]
            · rw [if_neg ha, if_neg (fun h => ha h.1), hj]
          · rw [if_neg hj, if_neg (fun h => hj h.2)]
        · show (if q = k then _ else (tw_sa S' 5 o.toNat x).2.2 q) = _
          by_cases hqk : q = k
          · rw [if_pos hqk, if_pos (by omega)]
            funext j
            rw [tw_sa_ne _ _ _ (by decide), h9, hw, tw_sa_ne _ _ _ (show k ≠ 5 by omega), hsm k (by omega) (by omega), hqk]
          · rw [if_neg hqk, if_neg (by omega), tw_sa_ne _ _ _ (by omega), hsm q (by omega) (by omega)]
      have ent : Int.toNat o = o.toNat := rfl
      have e5' : S'.2.2 5 = S.2.2 5 := hsm 5 (by omega) (by omega)
      refine t_X2_text_100 hm _ _ _ ⟨by omega, by omega, hat, ?_⟩
      rw [e5']
      by_cases ha : at' = -1
      · refine ifT ha ⟨by omega, by omega, rko, ?_⟩
        have hx : S.2.2 5 o.toNat + 1 = (if at' = -1 then S.2.2 5 o.toNat + 1 else S.2.2 5 o.toNat) := by rw [if_pos ha]
        by_cases o0 : o = 0
        · exact ifT o0 (st _ 1526 6 hx (by unfold tt_w; rw [if_pos o0]) (by omega) (by omega) (by show 1526 * 2 ≤ 12208; omega) rfl (by omega))
        · refine ifF o0 ⟨rko, ?_⟩
          by_cases o1 : o = 1
          · exact ifT o1 (st _ 57 7 hx (by unfold tt_w; rw [if_neg o0, if_pos o1]) (by omega) (by omega) (by show 57 * 2 ≤ 456; omega) rfl (by omega))
          · exact ifF o1 (st _ 25 8 hx (by unfold tt_w; rw [if_neg o0, if_neg o1]) (by omega) (by omega) (by show 25 * 2 ≤ 200; omega) rfl (by omega))
      · refine ifF ha ⟨by omega, by omega, rko, ?_⟩
        have hx : S.2.2 5 o.toNat + 0 = (if at' = -1 then S.2.2 5 o.toNat + 1 else S.2.2 5 o.toNat) := by rw [if_neg ha]; omega
        by_cases o0 : o = 0
        · exact ifT o0 (st _ 1526 6 hx (by unfold tt_w; rw [if_pos o0]) (by omega) (by omega) (by show 1526 * 2 ≤ 12208; omega) rfl (by omega))
        · refine ifF o0 ⟨rko, ?_⟩
          by_cases o1 : o = 1
          · exact ifT o1 (st _ 57 7 hx (by unfold tt_w; rw [if_neg o0, if_pos o1]) (by omega) (by omega) (by show 57 * 2 ≤ 456; omega) rfl (by omega))
          · exact ifF o1 (st _ 25 8 hx (by unfold tt_w; rw [if_neg o0, if_neg o1]) (by omega) (by omega) (by show 25 * 2 ≤ 200; omega) rfl (by omega))
    -- the reading
    have red : ∀ {KK : Bool → tw_S → Prop}, tt_post S o at' K (tx_text o (S.2.2 1) (S.2.2 2 0) (S.1 17)) → (0 ≤ tt_k S o at' ∧ tt_k S o at' ≤ 1) → (∀ S' : tw_S, K (-1) S' → KK false S') → (∀ S' : tw_S, S'.2.2 5 = S.2.2 5 → pw_Wp E m_X2_text (e + 1) 100 [some (va_rf (some m)), some (.int (iI o)), some (.int (iI at')), none] [.int (iI (tt_k S o at'))] (tw w0 m S') (c_i (t_i w0 m K)) → KK true S') → pw_Cl E m_X2_readText e [va_rf (some m), .int (iI o)] (tw w0 m S9) (c_z (t_b w0 m KK)) := by
      intro KK H hk hf ht
      refine m_readText_ok hm (by omega) (by rw [n10]; exact hs) ho ?_
      rw [n10, n17, tt9.1]
      rcases hres : tx_text o (S.2.2 1) (S.2.2 2 0) (S.1 17) with p | ⟨f, A⟩
      · rw [hres] at H
        intro S' h1 h2
        obtain ⟨w1, w2⟩ := ttx S' _ _ h1 h2
        exact hf S' (H S' w1 w2)
      · rw [hres] at H
        refine ⟨fun h0 S' h1 h2 => ?_, fun h0 S' h1 h2 h3 => ?_⟩
        · obtain ⟨w1, w2⟩ := ttx S' _ _ h1 h2
          exact hf S' (H.1 h0 S' w1 w2)
        · obtain ⟨w1, w2⟩ := ttx S' _ _ h1 h2
          exact ht S' (w2 5 (by omega) (by omega)) (fin A S' w1 w2 h3 hk (H.2 h0))
    refine ⟨hat, ?_⟩
    by_cases ha : at' = -1
    · rw [if_pos ha] at H
      have hkk : tt_k S o at' = S.2.2 5 o.toNat := by unfold tt_k; rw [if_pos ha]
      refine ifT ha ⟨by omega, by omega, ?_⟩
      rw [e5]
      refine ⟨rI_small (by omega) (by omega), ?_⟩
      by_cases h2 : S.2.2 5 o.toNat = 2
      · rw [decide_eq_true h2, if_neg (by decide)] at H
        exact ifT h2 ⟨_, rfl, _, _, rfl, rfl, H S9 tt9 same9⟩
      · rw [decide_eq_false h2, if_pos (by decide)] at H
        refine ifF h2 (red H (by rw [hkk]; omega) (fun S' hk => ?_) (fun S' h5 hk => ?_))
        · rw [if_neg (by decide)]
          exact ⟨_, rfl, _, _, rfl, rfl, hk⟩
        · rw [if_pos rfl]
          refine ⟨hat, ifT ha ⟨by omega, by omega, ?_⟩⟩
          rw [h5, ← hkk]
          exact hk
    · rw [if_neg ha] at H
      have hkk : tt_k S o at' = at' := by unfold tt_k; rw [if_neg ha]
      refine ifF ha (m_is_ok hm (by omega) ⟨ho.1, by omega⟩ hat (by rw [e5]; omega) ?_)
      rw [e5]
      by_cases h2 : 0 ≤ at' ∧ at' ≤ S.2.2 5 o.toNat - 1
      · rw [decide_eq_true h2, if_pos rfl] at H
        rw [decide_eq_true h2, if_pos rfl]
        refine red H (by rw [hkk]; omega) (fun S' hk => ?_) (fun S' h5 hk => ?_)
        · rw [if_neg (by decide)]
          exact ⟨_, rfl, _, _, rfl, rfl, hk⟩
        · rw [if_pos rfl]
          rw [hkk] at hk
          exact ⟨hat, ifF ha hk⟩
      · rw [decide_eq_false h2, if_neg (by decide)] at H
        rw [decide_eq_false h2, if_neg (by decide)]
        exact ⟨_, rfl, _, _, rfl, rfl, H S9 tt9 same9⟩
  · rw [decide_eq_false ho, Bool.false_and, if_neg (by decide)] at H
    rw [decide_eq_false ho, if_neg (by decide)]
    exact ⟨_, rfl, _, _, rfl, rfl, H S9 tt9 same9⟩
end
