set_option maxRecDepth 100000
/-! the twin: one change is drawn -/
theorem tw_set_sf (S : tw_S) (X : Nat → Int) (j : Nat) (x : Int) : tw_sf (tw_set S 9 X) j x = tw_set (tw_sf S j x) 9 X := rfl
theorem tw_set_sa' (S : tw_S) (X : Nat → Int) (k i : Nat) (x : Int) (hk : k ≠ 9) : tw_sa (tw_set S 9 X) k i x = tw_set (tw_sa S k i x) 9 X := by
  refine Prod.ext rfl (Prod.ext rfl (funext fun q => funext fun n => ?_))
  show (if q = k ∧ n = i then x else (if q = 9 then X else S.2.2 q) n) = (if q = 9 then X else fun n => if q = k ∧ n = i then x else S.2.2 q n) n
  by_cases h : q = 9
  · rw [if_pos h, if_pos h, if_neg (fun h2 => hk (h2.1.symm.trans h))]
  · rw [if_neg h, if_neg h]
theorem tw_set_sa10 (S : tw_S) (X : Nat → Int) (i : Nat) (x : Int) : tw_sa (tw_set S 9 X) 10 i x = tw_set (tw_sa S 10 i x) 9 X := tw_set_sa' S X 10 i x (by decide)
theorem tw_set_sa11 (S : tw_S) (X : Nat → Int) (i : Nat) (x : Int) : tw_sa (tw_set S 9 X) 11 i x = tw_set (tw_sa S 11 i x) 9 X := tw_set_sa' S X 11 i x (by decide)
section
variable {E : pw_E} {w0 : pw_W} {m d : Nat} {S : tw_S}
theorem m_drawChange_ok {A : Nat → Int} {k : Nat} {K : tw_S → Prop} (hm : pw_base E ≤ m) (hA : d_ok A k) (hk : k < 40) (hd : 7 ≤ d) (hdate : rI (S.1 23)) (H : ∀ S', tw_same S S' → S'.1 35 = d_chgS A (S.1 35) → S'.1 23 = S.1 23 → K (tw_set S' 9 (d_chgA A (S.1 35) (S.1 23)))) : pw_Cl E m_X2_drawChange d [va_rf (some m)] (tw w0 m (tw_set S 9 A)) (c_v (t_u w0 m K)) := by
  obtain ⟨e, rfl, he⟩ := pw_d1 hd
  generalize hs : S.1 35 = s at *
  have v := hA.1
  have hA0 := v.2.1
  have h10 := hA.2.2.2
  have hd0 : 0 ≤ d_doc A s ∧ d_doc A s < A 0 := d_val_r ⟨by omega, by omega⟩
  have hd4 : 0 ≤ d_doc A s ∧ d_doc A s < 4 := ⟨hd0.1, by omega⟩
  have hw : 0 ≤ d_what s ∧ d_what s < 6 := d_val_r ⟨by omega, by omega⟩
  have hm1 := hA.2.1 _ hd0.1 hd0.2
  have hm10 := v.1.2.1 _ hd4.1 hd4.2
  have hl := v.1.2.2 (10 * d_doc A s + (a_many A (d_doc A s) - 1)) (by omega) (by omega)
  have hl : 0 ≤ a_long A (d_doc A s) (a_many A (d_doc A s) - 1) ∧ a_long A (d_doc A s) (a_many A (d_doc A s) - 1) ≤ 20 := hl
  have h5 := v.1.1
  have hfr : d_first A (d_doc A s) = -1 ∨ (0 ≤ d_first A (d_doc A s) ∧ d_first A (d_doc A s) < A 5) := by
    have := d_firstF_r A (d_doc A s) (A 5).toNat 0
    unfold d_first
    omega
  have hwr : rI (d_what s) := rI_small (by omega) (by omega)
  have hB : ∀ S1 : tw_S, g_ok ((tw_set S1 9 A).2.2 9) := fun _ => v.1
  -- what comes after the draws
  have put : ∀ (S1 : tw_S) (r1 : Int), d_what s = 2 ∨ d_what s = 3 → tw_same S S1 → S1.1 23 = S.1 23 → S1.1 35 = d_next (d_next (d_next s)) → S1.2.2 10 0 = d_doc A s → S1.2.2 10 1 = r1 → r1 = d_val (d_next (d_next s)) (a_long A (d_doc A s) (a_many A (d_doc A s) - 1) + 1) → d_first A (d_doc A s) ≠ -1 → pw_Wp E m_X2_drawChange (e + 1) 172 [some (va_rf (some m)), none, some (.int (iI (d_what s))), none, some (.int (iI (d_first A (d_doc A s))))] [.int (iI 1), va_rf (some m)] (tw w0 m (tw_set S1 9 A)) (c_v (t_u w0 m K)) := by
    intro S1 r1 hq hsm h23 h35 h0 h1 hr1 hf
    have hr1r : 0 ≤ r1 ∧ r1 < a_long A (d_doc A s) (a_many A (d_doc A s) - 1) + 1 := by rw [hr1]; exact d_val_r ⟨by omega, by omega⟩
    refine t_X2_drawChange_172 hm _ _ _ ⟨rI_small (by omega) (by omega), ifT rfl ?_⟩
    refine m_wordOf_ok hm (by omega) ⟨by omega, by omega⟩ ⟨hwr, ifT (by omega) ⟨hwr, ifF (by omega) ?_⟩⟩
    rw [tw_set_sf, tw_set_sa11, tw_set_at]
    have hg : tw_same S1 (tw_sa (tw_sf S1 21 1) 11 0 (a_word A (d_first A (d_doc A s)))) := (tw_same.sf S1 21 1).trans (tw_same.sa _ _ _ rfl)
    refine m_makes_ok (r0 := d_doc A s) (r1 := r1) (r2 := 0) (ws := [a_word A (d_first A (d_doc A s))]) hm v.1 (by omega) ⟨by omega, by omega⟩ h0 h1 (fun h => by omega) (fun _ => rfl) ⟨show (0 : Int) ≤ 1 by omega, show (1 : Int) ≤ 300 by omega⟩ (fun _ => by show 1 ≤ 300; omega) (fun _ i x hx => ?_) hd4 hm1 ⟨hr1r.1, by omega⟩ (fun h => by omega) (fun h => by omega) ?_
    · cases i with
      | zero =>
        have hx : a_word A (d_first A (d_doc A s)) = x := Option.some.inj hx
        show (if (11 : Nat) = 11 ∧ 0 = 0 then a_word A (d_first A (d_doc A s)) else (tw_sf S1 21 1).2.2 11 0) = x
        rw [if_pos ⟨rfl, rfl⟩]
        exact hx
      | succ i => cases hx
    · have e1 : d_chgA A s (S.1 23) = g_makes A 0 (d_doc A s) r1 0 [a_word A (d_first A (d_doc A s))] (S.1 23) := by
        unfold d_chgA
        rw [if_neg (by omega), if_pos hq, if_neg hf, hr1]
      have e2 : d_chgS A s = d_next (d_next (d_next s)) := by
        unfold d_chgS
        rw [if_neg (by omega), if_pos hq, if_neg hf]
      have := H _ (hsm.trans hg) (by rw [e2]; exact h35) h23
      rw [e1] at this
      have e23 : (tw_sa (tw_sf S1 21 1) 11 0 (a_word A (d_first A (d_doc A s)))).1 23 = S.1 23 := h23
      rw [e23]
      exact ⟨rfl, _, rfl, this⟩
  have oth : ∀ (S1 : tw_S) (r1 r2 : Int), d_what s ≠ 2 → d_what s ≠ 3 → d_what s ≠ 5 → tw_same S S1 → S1.1 23 = S.1 23 → S1.1 35 = (if d_what s = 4 then d_next (d_next (d_next (d_next s))) else d_next (d_next (d_next s))) → S1.2.2 10 0 = d_doc A s → S1.2.2 10 1 = r1 → S1.2.2 10 2 = r2 → r1 = d_val (d_next (d_next s)) (a_long A (d_doc A s) (a_many A (d_doc A s) - 1)) → r2 = (if d_what s < 2 then 1 else d_val (d_next (d_next (d_next s))) (a_long A (d_doc A s) (a_many A (d_doc A s) - 1))) → a_long A (d_doc A s) (a_many A (d_doc A s) - 1) ≠ 0 → pw_Wp E m_X2_drawChange (e + 1) 172 [some (va_rf (some m)), none, some (.int (iI (d_what s))), none, some (.int (iI (d_first A (d_doc A s))))] [.int (iI 0), va_rf (some m)] (tw w0 m (tw_set S1 9 A)) (c_v (t_u w0 m K)) := by
    intro S1 r1 r2 q2 q3 q5 hsm h23 h35 h0 h1 h2 hr1 hr2 hn
    have hr1r : 0 ≤ r1 ∧ r1 < a_long A (d_doc A s) (a_many A (d_doc A s) - 1) := by rw [hr1]; exact d_val_r ⟨by omega, by omega⟩
    have hr2r : 0 ≤ r2 ∧ r2 ≤ 20 := by
      rw [hr2]
      split
      · omega
      · have := d_val_r (s := d_next (d_next (d_next s))) (n := a_long A (d_doc A s) (a_many A (d_doc A s) - 1)) ⟨by omega, by omega⟩
        omega
    refine t_X2_drawChange_172 hm _ _ _ ⟨rI_small (by omega) (by omega), ifF (by omega) ⟨hwr, ?_⟩⟩
    rw [tw_set_sf, tw_set_sa11]
    have hg : tw_same S1 (tw_sa (tw_sf S1 21 0) 11 0 0) := (tw_same.sf S1 21 0).trans (tw_same.sa _ _ _ rfl)
    have e2 : d_chgS A s = S1.1 35 := by
      unfold d_chgS
      rw [if_neg q5, if_neg (by omega), if_neg hn, h35]
    have e23 : (tw_sa (tw_sf S1 21 0) 11 0 0).1 23 = S.1 23 := h23
    have mk : ∀ c : Int, (c = 1 ∨ c = 2) → d_chgA A s (S.1 23) = g_makes A c (d_doc A s) r1 r2 [] (S.1 23) → pw_Cl E m_X2_makes e [va_rf (some m), .int (iI c)] (tw w0 m (tw_set (tw_sa (tw_sf S1 21 0) 11 0 0) 9 A)) (c_v (t_u w0 m (fun S5 => c_v (t_u w0 m K) (.inl none) (tw w0 m S5)))) := by
      intro c hc e1
      refine m_makes_ok (r0 := d_doc A s) (r1 := r1) (r2 := r2) (ws := []) hm v.1 (by omega) ⟨by omega, by omega⟩ h0 h1 (fun _ => h2) (fun h => by omega) ⟨show (0 : Int) ≤ 0 by omega, show (0 : Int) ≤ 300 by omega⟩ (fun h => by omega) (fun h => by omega) hd4 hm1 ⟨hr1r.1, by omega⟩ (fun h => by omega) (fun h => ⟨by omega, by omega⟩) ?_
      have := H _ (hsm.trans hg) e2.symm h23
      rw [e1] at this
      rw [e23]
      exact ⟨rfl, _, rfl, this⟩
    by_cases hq : (2 : Int) ≤ d_what s
    · refine ifT hq ⟨hwr, ifT (show (4 : Int) ≤ d_what s by omega) (mk 2 (Or.inr rfl) ?_)⟩
      unfold d_chgA
      rw [if_neg q5, if_neg (by omega), if_neg hn, if_neg (by omega), hr1, hr2, if_neg (by omega)]
    · refine ifF hq (mk 1 (Or.inl rfl) ?_)
      unfold d_chgA
      rw [if_neg q5, if_neg (by omega), if_neg hn, if_pos (by omega), hr1, hr2, if_pos (by omega)]
  -- the walk
  refine e_X2_drawChange _ (t_X2_drawChange_0 hm ?_)
  rw [tw_set_at]
  refine m_draw_ok hm (by omega) ⟨by omega, by omega⟩ ?_
  have hs9 : (tw_set S 9 A).1 35 = s := hs
  rw [hs9, tw_set_sf]
  refine m_draw_ok hm (by omega) ⟨by omega, by omega⟩ ?_
  have hs9 : (tw_set (tw_sf S 35 (d_next s)) 9 A).1 35 = d_next s := rfl
  rw [hs9, tw_set_sf]
  have q1 : d_val s (A 0) = d_doc A s := rfl
  have q2 : d_val (d_next s) 6 = d_what s := rfl
  rw [q1, q2]
  refine m_versions_ok hm (by omega) hd4 ?_
  rw [tw_set_at]
  refine m_longOf_ok hm (by omega) hd4 ⟨by omega, by omega⟩ ?_
  rw [tw_set_at]
  refine m_firstToken_ok hm (by omega) (rI_small (by omega) (by omega)) ?_ ?_ ?_
  · rw [tw_set_at]; omega
  · rw [tw_set_at]
    intro t ht0 ht1
    have := (v.2.2.2.1 t ht0 ht1).1
    omega
  rw [tw_set_at, tw_set_sa10, tw_set_sf]
  generalize hS2 : tw_sf (tw_sa (tw_sf (tw_sf S 35 (d_next s)) 35 (d_next (d_next s))) 10 0 (d_doc A s)) 21 0 = S2
  have g35 : S2.1 35 = d_next (d_next s) := by rw [← hS2]; rfl
  have g23 : S2.1 23 = S.1 23 := by rw [← hS2]; rfl
  have g10 : S2.2.2 10 0 = d_doc A s := by rw [← hS2]; rfl
  have gsm : tw_same S S2 := by
    rw [← hS2]
    exact ((tw_same.sf S _ _).trans (tw_same.sf _ _ _)).trans ((tw_same.sa _ _ _ rfl).trans (tw_same.sf _ _ _))
  have g21 : S2.1 21 = 0 := by rw [← hS2]; rfl
  clear hS2
  have hfr2 : rI (d_first A (d_doc A s)) := rI_small (by omega) (by omega)
  have hlr : rI (a_long A (d_doc A s) (a_many A (d_doc A s) - 1)) := rI_small (by omega) (by omega)
  refine ⟨hwr, ?_⟩
  by_cases w5 : d_what s = 5
  · refine ifT w5 (m_versions_ok hm (by omega) hd4 ?_)
    rw [tw_set_at]
    refine m_draw_ok hm (by omega) ⟨by omega, by omega⟩ ?_
    have g35' : (tw_set S2 9 A).1 35 = d_next (d_next s) := g35
    rw [g35', tw_set_sf, tw_set_sa10]
    have hr1r := d_val_r (s := d_next (d_next s)) (n := a_many A (d_doc A s)) ⟨by omega, by omega⟩
    have hg : tw_same S2 (tw_sa (tw_sf S2 35 (d_next (d_next (d_next s)))) 10 1 (d_val (d_next (d_next s)) (a_many A (d_doc A s)))) := (tw_same.sf S2 _ _).trans (tw_same.sa _ _ _ rfl)
    refine m_makes_ok (r0 := d_doc A s) (r1 := d_val (d_next (d_next s)) (a_many A (d_doc A s))) (r2 := 0) (ws := []) hm v.1 (by omega) ⟨by omega, by omega⟩ ?_ ?_ (fun h => by omega) (fun h => by omega) ?_ (fun h => by omega) (fun h => by omega) hd4 hm1 ⟨hr1r.1, by omega⟩ (fun h => by omega) (fun h => by omega) ?_
    · show (if (10 : Nat) = 10 ∧ 0 = 1 then d_val (d_next (d_next s)) (a_many A (d_doc A s)) else S2.2.2 10 0) = _
      rw [if_neg (by omega), g10]
    · show (if (10 : Nat) = 10 ∧ 1 = 1 then d_val (d_next (d_next s)) (a_many A (d_doc A s)) else S2.2.2 10 1) = _
      exact if_pos ⟨rfl, rfl⟩
    · show 0 ≤ S2.1 21 ∧ S2.1 21 ≤ 300
      omega
    · have e1 : d_chgA A s (S.1 23) = g_makes A 3 (d_doc A s) (d_val (d_next (d_next s)) (a_many A (d_doc A s))) 0 [] (S.1 23) := by
        unfold d_chgA
        rw [if_pos w5]
      have e2 : d_chgS A s = d_next (d_next (d_next s)) := by
        unfold d_chgS
        rw [if_pos w5]
      have := H _ (gsm.trans hg) (by rw [e2]; rfl) g23
      rw [e1] at this
      have e23 : (tw_sa (tw_sf S2 35 (d_next (d_next (d_next s)))) 10 1 (d_val (d_next (d_next s)) (a_many A (d_doc A s)))).1 23 = S.1 23 := g23
      rw [e23]
      exact ⟨rfl, _, rfl, this⟩
  · refine ifF w5 ⟨hwr, ?_⟩
    -- nothing drawn
    have non1 : d_what s = 2 ∨ d_what s = 3 → d_first A (d_doc A s) = -1 → c_v (t_u w0 m K) (.inl none) (tw w0 m (tw_set S2 9 A)) := by
      intro hq hf
      have e1 : d_chgA A s (S.1 23) = A := by unfold d_chgA; rw [if_neg w5, if_pos hq, if_pos hf]
      have e2 : d_chgS A s = d_next (d_next s) := by unfold d_chgS; rw [if_neg w5, if_pos hq, if_pos hf]
      have := H _ gsm (by rw [e2]; exact g35) g23
      rw [e1] at this
      exact ⟨rfl, _, rfl, this⟩
    have non2 : ¬ (d_what s = 2 ∨ d_what s = 3) → a_long A (d_doc A s) (a_many A (d_doc A s) - 1) = 0 → c_v (t_u w0 m K) (.inl none) (tw w0 m (tw_set S2 9 A)) := by
      intro hq hf
      have e1 : d_chgA A s (S.1 23) = A := by unfold d_chgA; rw [if_neg w5, if_neg hq, if_pos hf]
      have e2 : d_chgS A s = d_next (d_next s) := by unfold d_chgS; rw [if_neg w5, if_neg hq, if_pos hf]
      have := H _ gsm (by rw [e2]; exact g35) g23
      rw [e1] at this
      exact ⟨rfl, _, rfl, this⟩
    have e10 : ∀ (S3 : tw_S) (z : Int), (tw_sa (tw_sa S3 10 1 z) 10 2 (-1)).2.2 10 0 = S3.2.2 10 0 := fun _ _ => rfl
    -- a place is drawn, and what else
    have go : (d_what s = 2 ∨ d_what s = 3 → d_first A (d_doc A s) ≠ -1) → (¬ (d_what s = 2 ∨ d_what s = 3) → a_long A (d_doc A s) (a_many A (d_doc A s) - 1) ≠ 0) → pw_Wp E m_X2_drawChange (e + 1) 100 [some (va_rf (some m)), none, some (.int (iI (d_what s))), some (.int (iI (a_long A (d_doc A s) (a_many A (d_doc A s) - 1)))), some (.int (iI (d_first A (d_doc A s))))] [] (tw w0 m (tw_set S2 9 A)) (c_v (t_u w0 m K)) := by
      intro hf hn
      refine t_X2_drawChange_100 hm _ _ _ ⟨hwr, ?_⟩
      have g35' : (tw_set S2 9 A).1 35 = d_next (d_next s) := g35
      have pt : d_what s = 2 ∨ d_what s = 3 → ∀ z, z = d_val (d_next (d_next s)) (a_long A (d_doc A s) (a_many A (d_doc A s) - 1) + 1) → pw_Wp E m_X2_drawChange (e + 1) 155 [some (va_rf (some m)), none, some (.int (iI (d_what s))), none, some (.int (iI (d_first A (d_doc A s))))] [.int (iI (-1)), .int (iI 2), va_rf (some (m + 10))] (tw w0 m (tw_set (tw_sa (tw_sf S2 35 (d_next (d_next (d_next s)))) 10 1 z) 9 A)) (c_v (t_u w0 m K)) := by
        intro hq z hz
        refine t_X2_drawChange_155 hm _ _ _ _ 10 rfl ⟨by omega, by decide, hwr, ?_⟩
        rw [tw_set_sa10]
        have := put (tw_sa (tw_sa (tw_sf S2 35 (d_next (d_next (d_next s)))) 10 1 z) 10 (Int.toNat 2) (-1)) z hq (gsm.trans (((tw_same.sf S2 _ _).trans (tw_same.sa _ _ _ rfl)).trans (tw_same.sa _ _ _ rfl))) g23 rfl g10 rfl hz (hf hq)
        rcases hq with hq | hq
        · exact ifT hq this
        · exact ifF (by omega) ⟨hwr, ifT hq this⟩
      by_cases w2 : d_what s = 2
      · refine ifT w2 (m_draw_ok hm (by omega) ⟨by omega, by omega⟩ ?_)
        rw [g35', tw_set_sf]
        refine ⟨hwr, ifT (by omega) ⟨hwr, ifF (by omega) ?_⟩⟩
        rw [tw_set_sa10]
        exact pt (Or.inl w2) _ rfl
      · refine ifF w2 ⟨hwr, ?_⟩
        by_cases w3 : d_what s = 3
        · refine ifT w3 (m_draw_ok hm (by omega) ⟨by omega, by omega⟩ ?_)
          rw [g35', tw_set_sf]
          refine ⟨hwr, ifT (by omega) ⟨hwr, ifF (by omega) ?_⟩⟩
          rw [tw_set_sa10]
          exact pt (Or.inr w3) _ rfl
        · have hn := hn (by omega)
          refine ifF w3 (m_draw_ok hm (by omega) ⟨by omega, by omega⟩ ?_)
          rw [g35', tw_set_sf]
          refine ⟨hwr, ?_⟩
          by_cases w4 : (2 : Int) ≤ d_what s
          · have w44 : d_what s = 4 := by omega
            refine ifT w4 ⟨hwr, ifT w44 ?_⟩
            rw [tw_set_sa10]
            refine m_draw_ok hm (by omega) ⟨by omega, by omega⟩ ?_
            refine t_X2_drawChange_155 hm _ _ _ _ 10 rfl ⟨by omega, by decide, hwr, ifF w2 ⟨hwr, ifF w3 ?_⟩⟩
            rw [tw_set_sf, tw_set_sa10]
            refine oth _ _ _ w2 w3 w5 (gsm.trans (((tw_same.sf S2 _ _).trans (tw_same.sa _ _ _ rfl)).trans ((tw_same.sf _ _ _).trans (tw_same.sa _ _ _ rfl)))) g23 ?_ g10 rfl rfl rfl ?_ hn
            · rw [if_pos w44]; rfl
            · rw [if_neg (by omega)]; rfl
          · refine ifF w4 ?_
            rw [tw_set_sa10]
            refine t_X2_drawChange_155 hm _ _ _ _ 10 rfl ⟨by omega, by decide, hwr, ifF w2 ⟨hwr, ifF w3 ?_⟩⟩
            rw [tw_set_sa10]
            refine oth _ _ _ w2 w3 w5 (gsm.trans (((tw_same.sf S2 _ _).trans (tw_same.sa _ _ _ rfl)).trans (tw_same.sa _ _ _ rfl))) g23 ?_ g10 rfl rfl rfl ?_ hn
            · rw [if_neg (by omega)]; rfl
            · rw [if_pos (by omega)]; rfl
    by_cases w2 : d_what s = 2
    · refine ifT w2 ⟨hfr2, ?_⟩
      by_cases hf : d_first A (d_doc A s) = -1
      · exact ifT hf (non1 (Or.inl w2) hf)
      · exact ifF hf (go (fun _ => hf) (fun h => absurd (Or.inl w2) h))
    · refine ifF w2 ⟨hwr, ?_⟩
      by_cases w3 : d_what s = 3
      · refine ifT w3 ⟨hfr2, ?_⟩
        by_cases hf : d_first A (d_doc A s) = -1
        · exact ifT hf (non1 (Or.inr w3) hf)
        · exact ifF hf (go (fun _ => hf) (fun h => absurd (Or.inr w3) h))
      · refine ifF w3 ⟨hlr, ?_⟩
        by_cases hf : a_long A (d_doc A s) (a_many A (d_doc A s) - 1) = 0
        · exact ifT hf (non2 (by omega) hf)
        · exact ifF hf (go (fun h => absurd h (by omega)) (fun _ => hf))
end
