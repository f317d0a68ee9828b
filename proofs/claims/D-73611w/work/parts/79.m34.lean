set_option maxRecDepth 100000
/-! the twin: words of a line -/
theorem r_wdF_ok {T : Nat → Int} {L : Int} {q : Nat} {f : Int × Int} (hf : f_ok f) (hq : (q : Int) ≤ 600) : f_ok (r_wdF T L q f) := by
  unfold r_wdF
  split
  · exact hf
  · exact (hf.adds ⟨by omega, by omega⟩ ⟨by omega, hq⟩).1
theorem r_tkF_ok {T : Nat → Int} {L : Int} {q : Nat} {lo hi : Int} {f : Int × Int} (hf : f_ok f) (hq : (q : Int) ≤ 600) : f_ok (r_tkF T L q lo hi f) := by
  unfold r_tkF
  split
  · exact hf
  · exact (hf.adds ⟨by omega, by omega⟩ ⟨by omega, hq⟩).1
section
variable {E : pw_E} {w0 : pw_W} {m d : Nat} {S : tw_S} {T : Nat → Int} {L : Int}
theorem k_sort_r (T : Nat → Int) (L : Int) (q : Nat) : 0 ≤ k_sort T L q ∧ k_sort T L q ≤ 4 := by
  unfold k_sort
  split
  · split
    · omega
    · split
      · split <;> omega
      · split <;> omega
  · omega
theorem m_takeWord_ok {q n : Nat} {f : Int × Int} {g : Bool} {K : Bool → tw_S → Prop} (hm : pw_base E ≤ m) (hd : 3 ≤ d) (hl : 0 ≤ L ∧ L ≤ 600) (hq : (q : Int) ≤ L) (h : r_at T L S q f g) (h21 : S.1 21 = n) (hn : k_sort T L q = 2 → 2 * n ≤ q) (H : (k_sort T L q = 2 → ∀ S', r_at T L S' (k_go T L q) (r_wdF T L q f) (g && k_few T L q) → r_fr S S' → S'.2.2 11 = (fun j => if j = n then k_num T L q else S.2.2 11 j) → S'.2.2 10 = S.2.2 10 → S'.1 21 = (n + 1 : Nat) → K true S') ∧ (k_sort T L q ≠ 2 → ∀ S' : tw_S, S'.1 15 = (q : Int) → r_fr S S' → K false S')) : pw_Cl E m_X2_takeWord d [va_rf (some m)] (tw w0 m S) (c_z (t_b w0 m K)) := by
  obtain ⟨e, rfl, he⟩ := pw_d1 hd
  have hA := h
  obtain ⟨⟨a1, a2, a3, a4, a5, a6, a7⟩, ⟨b1, b2⟩, b3, b4⟩ := h
  have hsr := k_sort_r T L q
  refine e_X2_takeWord _ (t_X2_takeWord_0 hm ⟨by rw [a5]; exact rI_small (by omega) (by omega), ?_⟩)
  by_cases hs : k_sort T L q = 2
  · have H := H.1 hs
    have hlt := c_at_lt (k_sort_pos (T := T) (L := L) (q := q) (by omega))
    have hn := hn hs
    have hnx := k_next_le (T := T) (L := L) (q := q)
    have hnx2 := hnx.2.1 hq
    have ein : ∀ S1 : tw_S, (tw_sf (tw_sa S1 11 n (k_num T L q)) 21 ((n : Int) + 1)).2.2 11 = fun j => if j = n then k_num T L q else S1.2.2 11 j := by
      intro S1
      funext j
      show (if (11 : Nat) = 11 ∧ j = n then k_num T L q else S1.2.2 11 j) = _
      by_cases hj : j = n
      · rw [if_pos ⟨rfl, hj⟩, if_pos hj]
      · rw [if_neg (fun h => hj h.2), if_neg hj]
    have en : Int.toNat (n : Int) = n := by omega
    refine ifT (by rw [a5]; exact hs) ?_
    rw [a4, a3]
    refine ⟨rI_small (by omega) (by omega), ?_⟩
    unfold r_wdF k_few at H
    by_cases hf4 : k_next T L q - (q : Int) ≤ 4
    · rw [decide_eq_true hf4] at H
      rw [if_pos rfl, Bool.and_true] at H
      refine ifT hf4 ?_
      rw [a7 hs]
      refine m_numberOf_ok hm (by omega) ?_
      rw [h21]
      refine ⟨by omega, by omega, ?_⟩
      rw [en]
      refine m_token_r (q := q) (f := f) (g := g) hm (by omega) hl hq ?_ a2 a4 ⟨b1, b2⟩ b3 b4 (fun S' y1 y2 => ⟨true, rfl, S', rfl, H S' y1 (((r_fr.sa S 11 n _ (Or.inr rfl)).trans (r_fr.sf _ 21 _ rfl)).trans y2.r) ?_ ?_ ?_⟩)
      · exact a1
      · rw [y2.2]; exact ein S
      · rw [y2.2]; rfl
      · rw [y2.1 21 rfl]; rfl
    · rw [decide_eq_false hf4] at H
      rw [if_neg (by decide), Bool.and_false] at H
      refine ifF hf4 ?_
      refine m_adds_r hm (by omega) hA ⟨by omega, by omega⟩ ⟨by omega, by omega⟩ (fun S1 y1 y2 y3 y4 => ?_)
      obtain ⟨⟨c1, c2, c3, c4, c5, c6, c7⟩, c8, c9, c10⟩ := y1
      have e21 : S1.1 21 = n := by rw [y4 21 (by omega) (by omega)]; exact h21
      have e21' : (tw_sf S1 22 0).1 21 = n := e21
      have ew : (tw_sf S1 22 0).2.1 = k_long (k_let T L q) := c7 hs
      rw [ew]
      refine m_numberOf_ok hm (by omega) ?_
      rw [e21', e21]
      refine ⟨by omega, by omega, ?_⟩
      rw [en]
      refine m_token_r (q := q) (f := addsF f 2 q) (g := false) hm (by omega) hl hq ?_ c2 c4 c8 rfl c10 (fun S' z1 z2 => ⟨true, rfl, S', rfl, H S' z1 (((y2.trans (r_fr.sf S1 22 0 rfl)).trans ((r_fr.sa _ 11 n _ (Or.inr rfl)).trans (r_fr.sf _ 21 _ rfl))).trans z2.r) ?_ ?_ ?_⟩)
      · exact c1
      · rw [z2.2]
        have := ein (tw_sf S1 22 0)
        rw [show (tw_sf S1 22 0).2.2 11 = S.2.2 11 by show S1.2.2 11 = _; rw [y3]] at this
        exact this
      · rw [z2.2]
        show S1.2.2 10 = _
        rw [y3]
      · rw [z2.1 21 rfl]; rfl
  · refine ifF (by rw [a5]; exact hs) (m_fails_ok hm (by omega) ⟨false, rfl, _, rfl, H.2 hs _ ?_ (r_fr.sf S 15 _ rfl)⟩)
    show S.1 11 = _
    exact a3
theorem m_takeWords_ok {most : Int} {K : tw_S → Prop} (hm : pw_base E ≤ m) (hd : 4 ≤ d) (hl : 0 ≤ L ∧ L ≤ 600) (hmost : rI most) (u q n : Nat) (f : Int × Int) (g : Bool) (S : tw_S) (hq : (q : Int) ≤ L) (hu : L.toNat - q ≤ u) (h : r_at T L S q f g) (h21 : S.1 21 = n) (hn : k_sort T L q = 2 → 2 * n ≤ q) (H : ∀ S', r_at T L S' (r_wsF T L most u q n f g).1 (r_wsF T L most u q n f g).2.1 (r_wsF T L most u q n f g).2.2.1 → r_fr S S' → (∀ j : Nat, j < n → S'.2.2 11 j = S.2.2 11 j) → (∀ (j : Nat) (x : Int), (r_wsF T L most u q n f g).2.2.2[j]? = some x → S'.2.2 11 (n + j) = x) → S'.2.2 10 = S.2.2 10 → S'.1 21 = (n + (r_wsF T L most u q n f g).2.2.2.length : Nat) → K S') : pw_Cl E m_X2_takeWords d [va_rf (some m), .int (iI most)] (tw w0 m S) (c_v (t_u w0 m K)) := by
  obtain ⟨e, rfl, he⟩ := pw_d1 hd
  refine e_X2_takeWords _ _ ?_
  induction u generalizing q n f g S with
  | zero =>
    have hsr := k_sort_r T L q
    have hs : k_sort T L q ≠ 2 := by
      intro hs
      have := c_at_lt (k_sort_pos (T := T) (L := L) (q := q) (by omega))
      omega
    refine t_X2_takeWords_0 hm _ ⟨by rw [h.1.2.2.2.2.1]; exact rI_small (by omega) (by omega), ifF (by rw [h.1.2.2.2.2.1]; exact hs) ⟨rfl, S, rfl, H S h (r_fr.refl S) (fun _ _ => rfl) (fun j x hx => by cases hx) rfl ?_⟩⟩
    show S.1 21 = (n + 0 : Nat)
    exact h21
  | succ u ih =>
    have hsr := k_sort_r T L q
    have e12 := h.1.2.2.2.2.1
    unfold r_wsF at H
    refine t_X2_takeWords_0 hm _ ⟨by rw [e12]; exact rI_small (by omega) (by omega), ?_⟩
    by_cases hs : k_sort T L q = 2
    · rw [if_pos hs] at H
      have hc0 := k_sort_pos (T := T) (L := L) (q := q) (by omega)
      have hlt := c_at_lt hc0
      have hgo := k_go_le (T := T) (L := L) (q := q) hq
      have hn2 := hn hs
      refine ifT (by rw [e12]; exact hs) ?_
      rw [h21]
      refine ⟨rI_small (by omega) (by omega), hmost, ?_⟩
      -- a word, and on
      have go : ∀ (S1 : tw_S) (f1 : Int × Int), f1 = (if (n : Int) < most then f else addsF f 3 q) → r_at T L S1 q f1 g → r_fr S S1 → S1.2.2 11 = S.2.2 11 → S1.2.2 10 = S.2.2 10 → S1.1 21 = n → pw_Cl E m_X2_takeWord e [va_rf (some m)] (tw w0 m S1) (c_z (t_b w0 m (fun _ S2 => pw_Wp E m_X2_takeWords (e + 1) 0 [some (va_rf (some m)), some (.int (iI most))] [] (tw w0 m S2) (c_v (t_u w0 m K))))) := by
        intro S1 f1 hf1 hr1 hfr h11 h10 h21'
        rw [← hf1] at H
        refine m_takeWord_ok hm (by omega) hl hq hr1 h21' hn ⟨fun _ S2 y1 y2 y3 y4 y5 => ?_, fun h => absurd hs h⟩
        refine ih (k_go T L q) (n + 1) _ _ S2 hgo.2.1 (by omega) y1 y5 (fun h9 => by have := k_sep hs h9; omega) (fun S' z1 z2 z3 z4 z5 z6 => ?_)
        refine H S' z1 ((hfr.trans y2).trans z2) (fun j hj => ?_) (fun j x hx => ?_) (z5.trans (y4.trans h10)) ?_
        · rw [z3 j (by omega), y3]
          show (if j = n then _ else S1.2.2 11 j) = _
          rw [if_neg (by omega), h11]
        · cases j with
          | zero =>
            have hx : k_num T L q = x := Option.some.inj hx
            rw [Nat.add_zero, z3 n (by omega), y3]
            show (if n = n then k_num T L q else S1.2.2 11 n) = _
            rw [if_pos rfl, hx]
          | succ j =>
            have := z4 j x hx
            rw [show n + (j + 1) = n + 1 + j by omega]
            exact this
        · rw [z6]
          show ((n + 1 + (r_wsF T L most u (k_go T L q) (n + 1) (r_wdF T L q f1) (g && k_few T L q)).2.2.2.length : Nat) : Int) = ((n + ((r_wsF T L most u (k_go T L q) (n + 1) (r_wdF T L q f1) (g && k_few T L q)).2.2.2.length + 1) : Nat) : Int)
          congr 1
          omega
      by_cases hlm : (n : Int) < most
      · exact ifT hlm (go S f (by rw [if_pos hlm]) h (r_fr.refl S) rfl rfl h21)
      · refine ifF hlm ?_
        rw [h.1.2.2.1]
        refine m_adds_r hm (by omega) h ⟨by omega, by omega⟩ ⟨by omega, by omega⟩ (fun S1 y1 y2 y3 y4 => ?_)
        exact go S1 _ (by rw [if_neg hlm]) y1 y2 (by rw [y3]) (by rw [y3]) (by rw [y4 21 (by omega) (by omega)]; exact h21)
    · rw [if_neg hs] at H
      refine ifF (by rw [e12]; exact hs) ⟨rfl, S, rfl, H S h (r_fr.refl S) (fun _ _ => rfl) (fun j x hx => by cases hx) rfl ?_⟩
      show S.1 21 = (n + 0 : Nat)
      exact h21
end
