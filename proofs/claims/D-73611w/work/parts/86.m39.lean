set_option maxRecDepth 100000
/-! the twin: a line of a hunt -/
def hu_A (A : Nat → Int) (r0 r1 r2 : Int) : Nat → Int := g_set (if 8 ≤ A 0 then A else g_set (g_set (g_set A (1 + 3 * A 0 + 0) r0) (1 + 3 * A 0 + 1) r1) (1 + 3 * A 0 + 2) r2) 0 (min 8 (A 0 + 1))
def tl_f (A : Nat → Int) (f : Int × Int) (q : Nat) : Int × Int := if A 0 = 8 then addsF f 3 q else f
def hu_in (T : Nat → Int) (L : Int) (A : Nat → Int) (q : Nat) (f : Int × Int) (r0 : Int) : ln_T := if k_sort T L (k_go T L q) = 3 then (if k_sort T L (k_go T L (k_go T L q)) = 3 then .inr (k_go T L (k_go T L (k_go T L q)), r_tkF T L (k_go T L (k_go T L q)) 0 9 (r_tkF T L (k_go T L q) 0 3 f), hu_A A r0 (k_val T L (k_go T L q)) (k_val T L (k_go T L (k_go T L q)))) else .inl (k_go T L (k_go T L q))) else .inl (k_go T L q)
def hu_ln (T : Nat → Int) (L : Int) (w : Int64) (A : Nat → Int) (q : Nat) (f : Int × Int) : ln_T := if w = 26990 then hu_in T L A q (tl_f A f q) 1 else if w = 7304564 then hu_in T L A q (tl_f A f q) 0 else .inl q
def hu_ok (A : Nat → Int) (f : Int × Int) : Prop := (0 ≤ A 0 ∧ A 0 ≤ 8) ∧ (f.1 = 0 → ∀ j : Nat, 1 ≤ j → j ≤ 24 → 0 ≤ A j ∧ A j ≤ 9)
theorem tl_f_ok {A : Nat → Int} {f : Int × Int} {q : Nat} (hf : f_ok f) (hq : (q : Int) ≤ 600) : f_ok (tl_f A f q) := by
  unfold tl_f
  split
  · exact (hf.adds ⟨by omega, by omega⟩ ⟨by omega, hq⟩).1
  · exact hf
theorem hu_A_ok {A : Nat → Int} {f f' : Int × Int} {r0 r1 r2 : Int} (h : hu_ok A f) (hf : f'.1 = 0 → f.1 = 0 ∧ A 0 ≠ 8 ∧ (0 ≤ r0 ∧ r0 ≤ 9) ∧ (0 ≤ r1 ∧ r1 ≤ 9) ∧ (0 ≤ r2 ∧ r2 ≤ 9)) : hu_ok (hu_A A r0 r1 r2) f' := by
  have h1 := h.1
  refine ⟨?_, fun h0 j hj1 hj2 => ?_⟩
  · show 0 ≤ hu_A A r0 r1 r2 (Int.toNat 0) ∧ hu_A A r0 r1 r2 (Int.toNat 0) ≤ 8
    unfold hu_A
    rw [g_set_at]
    omega
  · obtain ⟨y1, y2, y3, y4, y5⟩ := hf h0
    have := h.2 y1 j hj1 hj2
    unfold hu_A
    rw [g_set_ne (by omega), if_neg (by omega)]
    unfold g_set
    split
    · exact y5
    · split
      · exact y4
      · split
        · exact y3
        · exact this
theorem hu_ln_ok {T : Nat → Int} {L : Int} {w : Int64} {A : Nat → Int} {q : Nat} {f : Int × Int} (hl : 0 ≤ L ∧ L ≤ 600) (hq : (q : Int) ≤ L) (hA : hu_ok A f) (hf : f_ok f) : match hu_ln T L w A q f with | .inl p => (p : Int) ≤ L | .inr (q', f', A') => (q' : Int) ≤ L ∧ f_ok f' ∧ hu_ok A' f' ∧ q ≤ q' := by
  have hgo := k_go_le (T := T) (L := L) (q := q) hq
  have hgo2 := k_go_le (T := T) (L := L) (q := k_go T L q) hgo.2.1
  have hgo3 := k_go_le (T := T) (L := L) (q := k_go T L (k_go T L q)) hgo2.2.1
  have two : ∀ r0 : Int, 0 ≤ r0 ∧ r0 ≤ 9 → match hu_in T L A q (tl_f A f q) r0 with | .inl p => (p : Int) ≤ L | .inr (q', f', A') => (q' : Int) ≤ L ∧ f_ok f' ∧ hu_ok A' f' ∧ q ≤ q' := by
    intro r0 hr0
    unfold hu_in
    by_cases h1 : k_sort T L (k_go T L q) = 3
    · rw [if_pos h1]
      by_cases h2 : k_sort T L (k_go T L (k_go T L q)) = 3
      · rw [if_pos h2]
        refine ⟨hgo3.2.1, r_tkF_ok (r_tkF_ok (tl_f_ok hf (by omega)) (by omega)) (by omega), hu_A_ok hA (fun h => ?_), by omega⟩
        obtain ⟨y1, y2⟩ := r_tkF_0 h
        obtain ⟨y3, y4⟩ := r_tkF_0 y2
        have hv := k_val_r h1
        have hv2 := k_val_r h2
        have z1 := k_in_r y1
        have z2 := k_in_r y3
        have hn : A 0 ≠ 8 ∧ f.1 = 0 := by
          unfold tl_f at y4
          split at y4
          · exact absurd y4 (addsF_ne (by omega))
          · exact ⟨by assumption, y4⟩
        exact ⟨hn.2, hn.1, hr0, ⟨by omega, by omega⟩, ⟨by omega, by omega⟩⟩
      · rw [if_neg h2]
        exact hgo2.2.1
    · rw [if_neg h1]
      exact hgo.2.1
  unfold hu_ln
  by_cases w1 : w = 26990
  · rw [if_pos w1]
    exact two 1 ⟨by omega, by omega⟩
  · rw [if_neg w1]
    by_cases w2 : w = 7304564
    · rw [if_pos w2]
      exact two 0 ⟨by omega, by omega⟩
    · rw [if_neg w2]
      exact hq
section
variable {E : pw_E} {w0 : pw_W} {m d : Nat} {S : tw_S} {T : Nat → Int} {L : Int}
theorem m_huntLine_ok {A : Nat → Int} {q : Nat} {f : Int × Int} {w : Int64} {K : Bool → tw_S → Prop} (hm : pw_base E ≤ m) (hd : 4 ≤ d) (hl : 0 ≤ L ∧ L ≤ 600) (hq : (q : Int) ≤ L) (h : r_at T L S q f true) (e9 : S.2.2 9 = A) (hA : 0 ≤ A 0 ∧ A 0 ≤ 8) (H : ln_post T L S K (hu_ln T L w A q f)) : pw_Cl E m_X2_huntLine d [va_rf (some m), .long w, .int (iI q)] (tw w0 m S) (c_z (t_b w0 m K)) := by
  obtain ⟨e, rfl, he⟩ := pw_d1 hd
  have hgo := k_go_le (T := T) (L := L) (q := q) hq
  have hgo2 := k_go_le (T := T) (L := L) (q := k_go T L q) hgo.2.1
  have h11 : S.1 11 = q := h.1.2.2.1
  -- the rest of the line
  have rest : ∀ (S1 : tw_S) (r0 : Int), (w = 26990 → r0 = 1) → (w ≠ 26990 → r0 = 0) → r_at T L S1 q (tl_f A f q) true → r_fr S S1 → S1.2 = S.2 → ln_post T L S K (hu_in T L A q (tl_f A f q) r0) → pw_Wp E m_X2_huntLine (e + 1) 42 [some (va_rf (some m)), some (.long w), none, none, some (.int (iI (A 0))), none] [] (tw w0 m S1) (c_z (t_b w0 m K)) := by
    intro S1 r0 hr1 hr2 hr hfr e2 H
    obtain ⟨⟨a1, a2, a3, a4, a5, a6, a7⟩, b12, b3, b4⟩ := hr
    refine t_X2_huntLine_42 hm _ _ (m_token_r (q := q) hm (by omega) hl hq a1 a2 a4 b12 b3 b4 (fun S2 y1 y2 => ?_))
    unfold hu_in at H
    refine m_take_ok (k := 1) (lo := 0) (hi := 3) hm (by omega) hl hgo.2.1 y1 (by omega) (rI_small (by omega) (by omega)) (rI_small (by omega) (by omega)) ⟨fun hs S3 z1 z2 z3 z4 z5 => ?_, fun hs S3 z1 z2 => ?_⟩
    · rw [if_pos hs] at H
      rw [if_pos rfl]
      refine m_take_ok (k := 2) (lo := 0) (hi := 9) hm (by omega) hl hgo2.2.1 z1 (by omega) (rI_small (by omega) (by omega)) (rI_small (by omega) (by omega)) ⟨fun hs2 S4 x1 x2 x3 x4 x5 => ?_, fun hs2 S4 x1 x2 => ?_⟩
      · rw [if_pos hs2] at H
        rw [if_pos rfl]
        have hfr4 : r_fr S S4 := ((hfr.trans y2.r).trans z2).trans x2
        have e94 : S4.2.2 9 = A := by rw [hfr4.2 9 (by omega) (by omega)]; exact e9
        have fin : pw_Wp E m_X2_huntLine (e + 1) 91 [some (va_rf (some m)), none, none, none, some (.int (iI (A 0))), some (.int (iI 0))] [] (tw w0 m (tw_sa S4 10 0 r0)) (c_z (t_b w0 m K)) := by
          have e95 : (tw_sa S4 10 0 r0).2.2 9 = A := e94
          have hfr5 : r_fr S (tw_sa S4 10 0 r0) := hfr4.trans (r_fr.sa S4 10 0 r0 (Or.inl rfl))
          have er1 : (tw_sa S4 10 0 r0).2.2 10 1 = k_val T L (k_go T L q) := by
            show S4.2.2 10 1 = _
            rw [x3]
            show (if 1 = 2 then _ else S3.2.2 10 1) = _
            rw [if_neg (by omega), z3]
            show (if 1 = 1 then k_val T L (k_go T L q) else _) = _
            rw [if_pos rfl]
          have er2 : (tw_sa S4 10 0 r0).2.2 10 2 = k_val T L (k_go T L (k_go T L q)) := by
            show S4.2.2 10 2 = _
            rw [x3]
            show (if 2 = 2 then k_val T L (k_go T L (k_go T L q)) else _) = _
            rw [if_pos rfl]
          have er0 : (tw_sa S4 10 0 r0).2.2 10 0 = r0 := rfl
          have hr5 : r_at T L (tw_sa S4 10 0 r0) (k_go T L (k_go T L (k_go T L q))) (r_tkF T L (k_go T L (k_go T L q)) 0 9 (r_tkF T L (k_go T L q) 0 3 (tl_f A f q))) (true && decide (0 ≤ k_val T L (k_go T L q) ∧ k_val T L (k_go T L q) ≤ 3) && decide (0 ≤ k_val T L (k_go T L (k_go T L q)) ∧ k_val T L (k_go T L (k_go T L q)) ≤ 9)) := x1
          generalize tw_sa S4 10 0 r0 = S5 at *
          have er0 : ∀ B, (tw_set S5 9 B).2.2 10 0 = r0 := fun _ => er0
          have er1 : ∀ B, (tw_set S5 9 B).2.2 10 1 = k_val T L (k_go T L q) := fun _ => er1
          have er2 : ∀ B, (tw_set S5 9 B).2.2 10 2 = k_val T L (k_go T L (k_go T L q)) := fun _ => er2
          have last : ∀ B : Nat → Int, hu_A A r0 (k_val T L (k_go T L q)) (k_val T L (k_go T L (k_go T L q))) = g_set B 0 (min 8 (A 0 + 1)) → pw_Cl E m_X2_lesser e [.int (iI 8), .int (iI (A 0 + 1))] (tw w0 m (tw_set S5 9 B)) (c_i (t_i w0 m (fun z2 S6 => (c_z (t_b w0 m K)) (.inl (some (.int (iI 1)))) (tw w0 m (tw_sa S6 9 0 z2))))) := by
            intro B hB
            refine m_lesser_ok hm (by omega) (rI_small (by omega) (by omega)) (rI_small (by omega) (by omega)) ?_
            have : tw_sa (tw_set S5 9 B) 9 0 (min 8 (A 0 + 1)) = tw_set S5 9 (g_set B 0 (min 8 (A 0 + 1))) := tw_sa9 S5 B 0 _
            rw [this, ← hB]
            refine ⟨true, rfl, _, rfl, H _ _ hr5 (hfr5.l.trans (l_fr.set S5 _)) ?_⟩
            rw [tw_set_at]
          have rk : rI (A 0) := rI_small (by omega) (by omega)
          rw [tw_self9 e95]
          by_cases h8 : 8 ≤ A 0
          · refine t_X2_huntLine_91 hm _ _ ⟨rI_small (by omega) (by omega), ifF (by omega) ⟨rk, ifT h8 (last A ?_)⟩⟩
            unfold hu_A
            rw [if_pos h8]
          · refine t_X2_huntLine_91 hm _ _ ⟨rI_small (by omega) (by omega), ifF (by omega) ⟨rk, ifF h8 ⟨by omega, by omega, by omega, by omega, ?_⟩⟩⟩
            rw [show Int.toNat 0 = 0 from rfl, er0, tw_sa9]
            refine t_X2_huntLine_91 hm _ _ ⟨rI_small (by omega) (by omega), ifF (by omega) ⟨rk, ifF h8 ⟨by omega, by omega, by omega, by omega, ?_⟩⟩⟩
            rw [show Int.toNat (0 + 1) = 1 from rfl, er1, tw_sa9]
            refine t_X2_huntLine_91 hm _ _ ⟨rI_small (by omega) (by omega), ifF (by omega) ⟨rk, ifF h8 ⟨by omega, by omega, by omega, by omega, ?_⟩⟩⟩
            rw [show Int.toNat (0 + 1 + 1) = 2 from rfl, er2, tw_sa9]
            refine t_X2_huntLine_91 hm _ _ ⟨rI_small (by omega) (by omega), ifT (by omega) (last _ ?_)⟩
            unfold hu_A
            rw [if_neg h8]
            rfl
        by_cases hw : w = 26990
        · refine ifT (lg0.mpr hw) ?_
          rw [← hr1 hw]
          exact fin
        · refine ifF (fun h => hw (lg0.mp h)) ?_
          have := hr2 hw
          rw [this] at fin
          exact fin
      · rw [if_neg hs2] at H
        rw [if_neg (by decide)]
        exact ⟨false, rfl, S4, rfl, H S4 x1 (((hfr.trans y2.r).trans z2).trans x2).l⟩
    · rw [if_neg hs] at H
      rw [if_neg (by decide)]
      exact ⟨false, rfl, S3, rfl, H S3 z1 ((hfr.trans y2.r).trans z2).l⟩
  have rk : rI (A 0) := rI_small (by omega) (by omega)
  have start : ∀ r0 : Int, (w = 26990 → r0 = 1) → (w ≠ 26990 → r0 = 0) → ln_post T L S K (hu_in T L A q (tl_f A f q) r0) → (rI (S.2.2 9 0) ∧ if S.2.2 9 0 = 8 then pw_Cl E m_X2_addsFault e [va_rf (some m), .int (iI 3), .int (iI q)] (tw w0 m S) (c_v (t_u w0 m (fun S3 => pw_Wp E m_X2_huntLine (e + 1) 42 [some (va_rf (some m)), some (.long w), none, none, some (.int (iI (S.2.2 9 0))), none] [] (tw w0 m S3) (c_z (t_b w0 m K))))) else pw_Wp E m_X2_huntLine (e + 1) 42 [some (va_rf (some m)), some (.long w), none, none, some (.int (iI (S.2.2 9 0))), none] [] (tw w0 m S) (c_z (t_b w0 m K))) := by
    intro r0 hr1 hr2 H
    rw [e9]
    refine ⟨rk, ?_⟩
    by_cases h8 : A 0 = 8
    · refine ifT h8 (m_adds_r hm (by omega) h ⟨by omega, by omega⟩ ⟨by omega, by omega⟩ (fun S1 y1 y2 y3 y4 => rest S1 r0 hr1 hr2 ?_ y2 y3 H))
      unfold tl_f
      rw [if_pos h8]
      exact y1
    · refine ifF h8 (rest S r0 hr1 hr2 ?_ (r_fr.refl S) rfl H)
      unfold tl_f
      rw [if_neg h8]
      exact h
  refine e_X2_huntLine _ _ _ (t_X2_huntLine_0 hm _ _ ?_)
  unfold hu_ln at H
  by_cases w1 : w = 26990
  · rw [if_pos w1] at H
    exact ifT (lg0.mpr w1) (start 1 (fun _ => rfl) (fun h => absurd w1 h) H)
  · rw [if_neg w1] at H
    refine ifF (fun h => w1 (lg0.mp h)) ?_
    by_cases w2 : w = 7304564
    · rw [if_pos w2] at H
      exact ifT (lg0.mpr w2) (start 0 (fun h => absurd h w1) (fun _ => rfl) H)
    · rw [if_neg w2] at H
      exact ifF (fun h => w2 (lg0.mp h)) (m_fails_ok hm (by omega) ⟨false, rfl, _, rfl, H _ h11 (r_fr.sf S 15 _ rfl).l⟩)
end
