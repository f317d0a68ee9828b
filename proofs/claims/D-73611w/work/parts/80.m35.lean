set_option maxRecDepth 100000
/-! the twin: a change is read -/
theorem lg0 {x y : Int64} : Int32.toInt (lg_cmp x y) = 0 ↔ x = y := by
  unfold lg_cmp
  constructor
  · intro h
    split at h
    · exact absurd h (by decide)
    · split at h
      · assumption
      · exact absurd h (by decide)
  · rintro rfl
    rw [if_neg (by exact Int64.lt_irrefl), if_pos rfl]
    rfl
def ch_by (w : Int64) : Int := if w = 7370100 then 0 else if w = 6518132 then 1 else if w = 1836021349 then 2 else if w = 1650549611 then 3 else -1
/-- what of a line is no number, no word leaves -/
abbrev rc_T := Nat ⊕ (Nat × (Int × Int) × Bool × Int × Int × Int × List Int)
def rc_had (A : Nat → Int) (g : Bool) (r0 : Int) : Int := if g = true then (if A 0 ≤ r0 then 0 else A (Int.toNat (46 + g_last A r0))) else 0
def rc_hi (c : Int) : Int := if c = 0 then 20 else if c = 1 then 19 else if c = 2 then 19 else 9
def k_in (T : Nat → Int) (L : Int) (q : Nat) (lo hi : Int) : Bool := decide (lo ≤ k_val T L q ∧ k_val T L q ≤ hi)
def rc_put (T : Nat → Int) (L : Int) (A : Nat → Int) (q : Nat) (f : Int × Int) (g : Bool) (r0 r1 : Int) : rc_T := .inr ((r_wsF T L (20 - rc_had A g r0) 601 q 0 f g).1, (r_wsF T L (20 - rc_had A g r0) 601 q 0 f g).2.1, (r_wsF T L (20 - rc_had A g r0) 601 q 0 f g).2.2.1, r0, r1, 0, (r_wsF T L (20 - rc_had A g r0) 601 q 0 f g).2.2.2)
def rc_two (T : Nat → Int) (L : Int) (q : Nat) (f : Int × Int) (g : Bool) (r0 r1 lo hi : Int) : rc_T := if k_sort T L q = 3 then .inr (k_go T L q, r_tkF T L q lo hi f, g && k_in T L q lo hi, r0, r1, k_val T L q, []) else .inl q
def rc_read (T : Nat → Int) (L c : Int) (A : Nat → Int) (q : Nat) (f : Int × Int) : rc_T :=
  if k_sort T L q = 3 then (if k_sort T L (k_go T L q) = 3 then (if c = 0 then rc_put T L A (k_go T L (k_go T L q)) (r_tkF T L (k_go T L q) 0 20 (r_tkF T L q 0 3 f)) (true && k_in T L q 0 3 && k_in T L (k_go T L q) 0 20) (k_val T L q) (k_val T L (k_go T L q))
    else if c = 1 then rc_two T L (k_go T L (k_go T L q)) (r_tkF T L (k_go T L q) 0 19 (r_tkF T L q 0 3 f)) (true && k_in T L q 0 3 && k_in T L (k_go T L q) 0 19) (k_val T L q) (k_val T L (k_go T L q)) 1 20
    else if c = 2 then rc_two T L (k_go T L (k_go T L q)) (r_tkF T L (k_go T L q) 0 19 (r_tkF T L q 0 3 f)) (true && k_in T L q 0 3 && k_in T L (k_go T L q) 0 19) (k_val T L q) (k_val T L (k_go T L q)) 0 19
    else .inr (k_go T L (k_go T L q), r_tkF T L (k_go T L q) 0 9 (r_tkF T L q 0 3 f), true && k_in T L q 0 3 && k_in T L (k_go T L q) 0 9, k_val T L q, k_val T L (k_go T L q), 0, [])) else .inl (k_go T L q)) else .inl q
def rc_post (T : Nat → Int) (L c : Int) (S : tw_S) (K : Bool → tw_S → Prop) : rc_T → Prop
  | .inl p => ∀ S' : tw_S, S'.1 15 = (p : Int) → r_fr S S' → K false S'
  | .inr (q, f, g, r0, r1, r2, ws) => ∀ S' : tw_S, r_at T L S' q f g → r_fr S S' → S'.2.2 10 0 = r0 → S'.2.2 10 1 = r1 → (c = 1 ∨ c = 2 → S'.2.2 10 2 = r2) → S'.1 21 = (ws.length : Nat) → (∀ (j : Nat) (x : Int), ws[j]? = some x → S'.2.2 11 j = x) → K true S'
section
variable {E : pw_E} {w0 : pw_W} {m d : Nat} {S : tw_S} {T : Nat → Int} {L : Int}
theorem m_changeBy_ok {w : Int64} {K : Int → tw_S → Prop} (hm : pw_base E ≤ m) (hd : 1 ≤ d) (H : K (ch_by w) S) : pw_Cl E m_X2_changeBy d [va_rf (some m), .long w] (tw w0 m S) (c_i (t_i w0 m K)) := by
  obtain ⟨e, rfl, he⟩ := pw_d1 hd
  refine e_X2_changeBy _ _ (t_X2_changeBy_0 hm _ ?_)
  unfold ch_by at H
  by_cases h1 : w = 7370100
  · rw [if_pos h1] at H
    exact ifT (lg0.mpr h1) ⟨_, rfl, _, _, rfl, rfl, H⟩
  · rw [if_neg h1] at H
    refine ifF (fun h => h1 (lg0.mp h)) ?_
    by_cases h2 : w = 6518132
    · rw [if_pos h2] at H
      exact ifT (lg0.mpr h2) ⟨_, rfl, _, _, rfl, rfl, H⟩
    · rw [if_neg h2] at H
      refine ifF (fun h => h2 (lg0.mp h)) ?_
      by_cases h3 : w = 1836021349
      · rw [if_pos h3] at H
        exact ifT (lg0.mpr h3) ⟨_, rfl, _, _, rfl, rfl, H⟩
      · rw [if_neg h3] at H
        refine ifF (fun h => h3 (lg0.mp h)) ?_
        by_cases h4 : w = 1650549611
        · rw [if_pos h4] at H
          exact ifT (lg0.mpr h4) ⟨_, rfl, _, _, rfl, rfl, H⟩
        · rw [if_neg h4] at H
          exact ifF (fun h => h4 (lg0.mp h)) ⟨_, rfl, _, _, rfl, rfl, H⟩
theorem m_readPut_ok {A : Nat → Int} {q : Nat} {f : Int × Int} {g : Bool} {r0 : Int} {K : Bool → tw_S → Prop} (hm : pw_base E ≤ m) (hd : 5 ≤ d) (hl : 0 ≤ L ∧ L ≤ 600) (hq : (q : Int) ≤ L) (h : r_at T L S q f g) (e9 : S.2.2 9 = A) (hA : g_val A) (hF : ∀ e, 0 ≤ e → e < A 0 → 1 ≤ a_many A e) (e0 : S.2.2 10 0 = r0) (hr0 : 0 ≤ r0 ∧ r0 ≤ 99) (hg : g = true → r0 ≤ 3) (h21 : S.1 21 = 0) (H : if k_sort T L q = 3 then rc_post T L 0 S K (rc_put T L A (k_go T L q) (r_tkF T L q 0 20 f) (g && k_in T L q 0 20) r0 (k_val T L q)) else rc_post T L 0 S K (.inl q)) : pw_Cl E m_X2_readPut d [va_rf (some m)] (tw w0 m S) (c_z (t_b w0 m K)) := by
  obtain ⟨e, rfl, he⟩ := pw_d1 hd
  have hgo := k_go_le (T := T) (L := L) (q := q) hq
  refine e_X2_readPut _ (t_X2_readPut_0 hm (m_take_ok (k := 1) (lo := 0) (hi := 20) hm (by omega) hl hq h (by omega) (rI_small (by omega) (by omega)) (rI_small (by omega) (by omega)) ⟨fun hs S1 y1 y2 y3 y4 y5 => ?_, fun hs S1 y1 y2 => ?_⟩))
  · rw [if_pos hs] at H
    rw [if_pos rfl]
    have h22 : S1.1 22 = b01 (g && k_in T L q 0 20) := y1.2.2.1
    have e9' : S1.2.2 9 = A := by rw [y2.2 9 (by omega) (by omega)]; exact e9
    have e0' : S1.2.2 10 0 = r0 := by rw [y3]; show (if 0 = 1 then _ else S.2.2 10 0) = r0; rw [if_neg (by omega)]; exact e0
    have e1' : S1.2.2 10 1 = k_val T L q := by rw [y3]; show (if 1 = 1 then k_val T L q else _) = _; rw [if_pos rfl]
    have h21' : S1.1 21 = ((0 : Nat) : Int) := by rw [y5]; exact h21
    have fin : ∀ z, z = 20 - rc_had A (g && k_in T L q 0 20) r0 → rI z → pw_Cl E m_X2_takeWords e [va_rf (some m), .int (iI z)] (tw w0 m S1) (c_v (t_u w0 m (fun S3 => c_z (t_b w0 m K) (.inl (some (.int (iI 1)))) (tw w0 m S3)))) := by
      intro z hz hzr
      subst hz
      refine m_takeWords_ok hm (by omega) hl hzr 601 (k_go T L q) 0 _ _ S1 hgo.2.1 (by omega) y1 h21' (fun _ => by omega) (fun S3 z1 z2 z3 z4 z5 z6 => ⟨true, rfl, S3, rfl, ?_⟩)
      refine H S3 z1 (y2.trans z2) ?_ ?_ (fun h => by omega) ?_ (fun j x hx => ?_)
      · rw [z5]; exact e0'
      · rw [z5]; exact e1'
      · rw [z6, Nat.zero_add]; rfl
      · have := z4 j x hx
        rw [Nat.zero_add] at this
        exact this
    refine ⟨by rw [h22]; exact b01_rI _, ?_⟩
    unfold rc_had at fin
    cases hgg : (g && k_in T L q 0 20) with
    | false =>
      rw [hgg] at fin h22
      rw [if_neg (by decide)] at fin
      exact ifT h22 (fin _ rfl (rI_small (by omega) (by omega)))
    | true =>
      rw [hgg] at fin h22
      rw [if_pos rfl] at fin
      refine ifF (by rw [h22]; decide) ?_
      rw [e9', e0']
      have hA0 := hA.2.1
      have hgt : g = true := by cases g <;> simp_all
      refine ⟨rI_small (by omega) (by omega), rI_small (by omega) (by omega), ?_⟩
      by_cases h9 : A 0 ≤ r0
      · rw [if_pos h9] at fin
        exact ifT h9 (fin _ rfl (rI_small (by omega) (by omega)))
      · rw [if_neg h9] at fin
        have hr4 : 0 ≤ r0 ∧ r0 < 4 := ⟨hr0.1, by omega⟩
        refine ifF h9 (m_latest_ok hm (by omega) hr4 ?_)
        rw [e9']
        have hlast := hA.1.last hr4 (hF r0 hr0.1 (by omega))
        have hn := hA.1.2.2 (g_last A r0) (by omega) (by omega)
        exact ⟨by omega, by omega, fin _ rfl (rI_small (by omega) (by omega))⟩
  · rw [if_neg hs] at H
    rw [if_neg (by decide)]
    exact ⟨false, rfl, S1, rfl, H S1 y1 y2⟩
/-- the second number -/
theorem m_readTwo {q : Nat} {f : Int × Int} {g : Bool} {c r0 r1 lo hi : Int} {K : Bool → tw_S → Prop} {Q : pw_R → pw_W → Prop} {S1 : tw_S} (hm : pw_base E ≤ m) (hd : 3 ≤ d) (hl : 0 ≤ L ∧ L ≤ 600) (hq : (q : Int) ≤ L) (h : r_at T L S1 q f g) (hfr : r_fr S S1) (e0 : S1.2.2 10 0 = r0) (e1 : S1.2.2 10 1 = r1) (h21 : S1.1 21 = 0) (hlo : rI lo) (hhi : rI hi) (H : rc_post T L c S K (rc_two T L q f g r0 r1 lo hi)) {KK : Bool → tw_S → Prop} (hKK : ∀ b S', K b S' → KK b S') : pw_Cl E m_X2_take d [va_rf (some m), .int (iI 2), .int (iI lo), .int (iI hi)] (tw w0 m S1) (c_z (t_b w0 m KK)) := by
  unfold rc_two at H
  refine m_take_ok (k := 2) hm hd hl hq h (by omega) hlo hhi ⟨fun hs S' y1 y2 y3 y4 y5 => hKK _ _ ?_, fun hs S' y1 y2 => hKK _ _ ?_⟩
  · rw [if_pos hs] at H
    refine H S' y1 (hfr.trans y2) ?_ ?_ (fun _ => ?_) ?_ (fun j x hx => by cases hx)
    · rw [y3]; show (if 0 = 2 then _ else S1.2.2 10 0) = r0; rw [if_neg (by omega)]; exact e0
    · rw [y3]; show (if 1 = 2 then _ else S1.2.2 10 1) = r1; rw [if_neg (by omega)]; exact e1
    · rw [y3]; show (if 2 = 2 then k_val T L q else _) = _; rw [if_pos rfl]
    · rw [y5]; exact h21
  · rw [if_neg hs] at H
    exact H S' y1 (hfr.trans y2)
theorem m_readChange_ok {A : Nat → Int} {q : Nat} {f : Int × Int} {c : Int} {K : Bool → tw_S → Prop} (hm : pw_base E ≤ m) (hd : 6 ≤ d) (hl : 0 ≤ L ∧ L ≤ 600) (hq : (q : Int) ≤ L) (h : r_at T L S q f true) (e9 : S.2.2 9 = A) (hA : g_val A) (hF : ∀ e, 0 ≤ e → e < A 0 → 1 ≤ a_many A e) (hc : 0 ≤ c ∧ c ≤ 3) (h21 : S.1 21 = 0) (H : rc_post T L c S K (rc_read T L c A q f)) : pw_Cl E m_X2_readChange d [va_rf (some m), .int (iI c)] (tw w0 m S) (c_z (t_b w0 m K)) := by
  obtain ⟨e, rfl, he⟩ := pw_d1 hd
  have hgo := k_go_le (T := T) (L := L) (q := q) hq
  have hgo2 := k_go_le (T := T) (L := L) (q := k_go T L q) hgo.2.1
  have hcr : rI c := rI_small (by omega) (by omega)
  unfold rc_read at H
  refine e_X2_readChange _ _ (t_X2_readChange_0 hm _ (m_take_ok (k := 0) (lo := 0) (hi := 3) hm (by omega) hl hq h (by omega) (rI_small (by omega) (by omega)) (rI_small (by omega) (by omega)) ⟨fun hs S1 y1 y2 y3 y4 y5 => ?_, fun hs S1 y1 y2 => ?_⟩))
  · rw [if_pos hs] at H
    rw [if_pos rfl]
    have hv := k_val_r hs
    have e0 : S1.2.2 10 0 = k_val T L q := by rw [y3]; show (if 0 = 0 then k_val T L q else _) = _; rw [if_pos rfl]
    have h21' : S1.1 21 = 0 := y5.trans h21
    have e9' : S1.2.2 9 = A := by rw [y2.2 9 (by omega) (by omega)]; exact e9
    refine ⟨hcr, ?_⟩
    by_cases c0 : c = 0
    · refine ifT c0 (m_readPut_ok hm (by omega) hl hgo.2.1 y1 e9' hA hF e0 hv (fun hg => ?_) h21' ?_)
      · have : k_in T L q 0 3 = true := by
          have : (true && k_in T L q 0 3) = true := hg
          simpa using this
        exact (of_decide_eq_true this).2
      · subst c0
        by_cases hs2 : k_sort T L (k_go T L q) = 3
        · rw [if_pos hs2] at H ⊢
          rw [if_pos rfl] at H
          intro S' z1 z2 z3 z4 z5 z6 z7
          exact ⟨true, rfl, S', rfl, H S' z1 (y2.trans z2) z3 z4 z5 z6 z7⟩
        · rw [if_neg hs2] at H ⊢
          intro S' z1 z2
          exact ⟨false, rfl, S', rfl, H S' z1 (y2.trans z2)⟩
    · refine ifF c0 ⟨hcr, ?_⟩
      have e0s : ∀ (S2 : tw_S), S2.2.2 10 = (fun j => if j = 1 then k_val T L (k_go T L q) else S1.2.2 10 j) → S2.2.2 10 0 = k_val T L q ∧ S2.2.2 10 1 = k_val T L (k_go T L q) := by
        intro S2 z3
        rw [z3]
        constructor
        · show (if 0 = 1 then _ else S1.2.2 10 0) = _
          rw [if_neg (by omega)]; exact e0
        · show (if 1 = 1 then k_val T L (k_go T L q) else _) = _
          rw [if_pos rfl]
      have fail2 : k_sort T L (k_go T L q) ≠ 3 → ∀ S2 : tw_S, S2.1 15 = ((k_go T L q : Nat) : Int) → r_fr S1 S2 → K false S2 := by
        intro hs2 S2 z1 z2
        rw [if_neg hs2] at H
        exact H S2 z1 (y2.trans z2)
      by_cases c1 : c = 1
      · refine ifT c1 (m_take_ok (k := 1) (lo := 0) (hi := 19) hm (by omega) hl hgo.2.1 y1 (by omega) (rI_small (by omega) (by omega)) (rI_small (by omega) (by omega)) ⟨fun hs2 S2 z1 z2 z3 z4 z5 => ?_, fun hs2 S2 z1 z2 => ⟨false, rfl, S2, rfl, fail2 hs2 S2 z1 z2⟩⟩)
        rw [if_pos hs2, if_neg c0, if_pos c1] at H
        rw [if_pos rfl]
        refine m_readTwo (Q := fun _ _ => True) hm (by omega) hl hgo2.2.1 z1 (y2.trans z2) (e0s S2 z3).1 (e0s S2 z3).2 (z5.trans h21') (rI_small (by omega) (by omega)) (rI_small (by omega) (by omega)) H (fun b S' hk => ?_)
        cases b
        · rw [if_neg (by decide)]; exact ⟨false, rfl, S', rfl, hk⟩
        · rw [if_pos rfl]; exact ⟨true, rfl, S', rfl, hk⟩
      · refine ifF c1 ⟨hcr, ?_⟩
        by_cases c2 : c = 2
        · refine ifT c2 (m_take_ok (k := 1) (lo := 0) (hi := 19) hm (by omega) hl hgo.2.1 y1 (by omega) (rI_small (by omega) (by omega)) (rI_small (by omega) (by omega)) ⟨fun hs2 S2 z1 z2 z3 z4 z5 => ?_, fun hs2 S2 z1 z2 => ⟨false, rfl, S2, rfl, fail2 hs2 S2 z1 z2⟩⟩)
          rw [if_pos hs2, if_neg c0, if_neg c1, if_pos c2] at H
          rw [if_pos rfl]
          refine m_readTwo (Q := fun _ _ => True) hm (by omega) hl hgo2.2.1 z1 (y2.trans z2) (e0s S2 z3).1 (e0s S2 z3).2 (z5.trans h21') (rI_small (by omega) (by omega)) (rI_small (by omega) (by omega)) H (fun b S' hk => ?_)
          cases b
          · rw [if_neg (by decide)]; exact ⟨false, rfl, S', rfl, hk⟩
          · rw [if_pos rfl]; exact ⟨true, rfl, S', rfl, hk⟩
        · refine ifF c2 (m_take_ok (k := 1) (lo := 0) (hi := 9) hm (by omega) hl hgo.2.1 y1 (by omega) (rI_small (by omega) (by omega)) (rI_small (by omega) (by omega)) ⟨fun hs2 S2 z1 z2 z3 z4 z5 => ?_, fun hs2 S2 z1 z2 => ⟨false, rfl, S2, rfl, fail2 hs2 S2 z1 z2⟩⟩)
          rw [if_pos hs2, if_neg c0, if_neg c1, if_neg c2] at H
          exact ⟨true, rfl, S2, rfl, H S2 z1 (y2.trans z2) (e0s S2 z3).1 (e0s S2 z3).2 (fun h => by omega) (z5.trans h21') (fun j x hx => by cases hx)⟩
  · rw [if_neg hs] at H
    rw [if_neg (by decide)]
    exact ⟨false, rfl, S1, rfl, H S1 y1 y2⟩
end
