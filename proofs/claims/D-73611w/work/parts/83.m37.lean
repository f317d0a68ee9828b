set_option maxRecDepth 100000
/-! the twin: changes of an archive -/
theorem r_wsg {T : Nat → Int} {L most : Int} : ∀ (u q n : Nat) (f : Int × Int) (g : Bool), (r_wsF T L most u q n f g).2.2.1 = true → g = true := by
  intro u
  induction u with
  | zero => intro q n f g h; exact h
  | succ u ih =>
    intro q n f g h
    unfold r_wsF at h
    split at h
    · have := ih _ _ _ _ h
      cases g
      · simp at this
      · rfl
    · exact h
theorem k_in_r {T : Nat → Int} {L : Int} {q : Nat} {lo hi : Int} (h : k_in T L q lo hi = true) : lo ≤ k_val T L q ∧ k_val T L q ≤ hi := of_decide_eq_true h
/-- what is known of a change that was read -/
def rc_ok (T : Nat → Int) (L c : Int) (A : Nat → Int) (q : Nat) (f : Int × Int) : rc_T → Prop
  | .inl p => (p : Int) ≤ L
  | .inr (q', f', g', r0, r1, r2, ws) => ((q' : Int) ≤ L ∧ q ≤ q' ∧ (ws ≠ [] → q + 2 + 2 * ws.length ≤ q' + 1)) ∧ ((0 ≤ r0 ∧ r0 ≤ 99) ∧ (0 ≤ r1 ∧ r1 ≤ 99) ∧ (0 ≤ r2 ∧ r2 ≤ 99)) ∧ (g' = true → r0 ≤ 3 ∧ r1 ≤ 20 ∧ (c = 3 → r1 ≤ 9)) ∧ (f'.1 = 0 → f.1 = 0 ∧ g' = true ∧ (c ≠ 0 → ws = []) ∧ (ws = [] ∨ rc_had A true r0 + ws.length ≤ 20) ∧ ∀ w ∈ ws, 1 ≤ w ∧ w < 531441)
theorem rc_two_ok {T : Nat → Int} {L c : Int} {A : Nat → Int} {q0 q : Nat} {f0 f : Int × Int} {g : Bool} {r0 r1 lo hi : Int} (hq : (q : Int) ≤ L) (h0 : q0 ≤ q) (hr0 : 0 ≤ r0 ∧ r0 ≤ 99) (hr1 : 0 ≤ r1 ∧ r1 ≤ 99) (hc : c ≠ 3) (hg : g = true → r0 ≤ 3 ∧ r1 ≤ 20) (hf : f.1 = 0 → f0.1 = 0 ∧ g = true) : rc_ok T L c A q0 f0 (rc_two T L q f g r0 r1 lo hi) := by
  unfold rc_two
  have hgo := k_go_le (T := T) (L := L) (q := q) hq
  split
  · rename_i hs
    refine ⟨⟨hgo.2.1, by omega, fun h => absurd rfl h⟩, ⟨hr0, hr1, k_val_r hs⟩, fun h => ?_, fun h => ?_⟩
    · have hgt : g = true := by
        cases g
        · simp at h
        · rfl
      exact ⟨(hg hgt).1, (hg hgt).2, fun h => absurd h hc⟩
    · obtain ⟨h1, h2⟩ := r_tkF_0 h
      obtain ⟨h3, h4⟩ := hf h2
      exact ⟨h3, by rw [h4, h1]; rfl, fun _ => rfl, Or.inl rfl, fun w hw => by cases hw⟩
  · exact hq
theorem rc_read_ok {T : Nat → Int} {L c : Int} {A : Nat → Int} {q : Nat} {f : Int × Int} (hq : (q : Int) ≤ L) (hc : 0 ≤ c ∧ c ≤ 3) : rc_ok T L c A q f (rc_read T L c A q f) := by
  unfold rc_read
  have hgo := k_go_le (T := T) (L := L) (q := q) hq
  have hgo2 := k_go_le (T := T) (L := L) (q := k_go T L q) hgo.2.1
  split
  · rename_i hs
    have hv := k_val_r hs
    have hp := hgo.2.2 (k_sort_pos (by omega))
    split
    · rename_i hs2
      have hv2 := k_val_r hs2
      have hp2 := hgo2.2.2 (k_sort_pos (by omega))
      have fz : ∀ hi : Int, (r_tkF T L (k_go T L q) 0 hi (r_tkF T L q 0 3 f)).1 = 0 → f.1 = 0 ∧ (true && k_in T L q 0 3 && k_in T L (k_go T L q) 0 hi) = true := by
        intro hi h
        obtain ⟨h1, h2⟩ := r_tkF_0 h
        obtain ⟨h3, h4⟩ := r_tkF_0 h2
        exact ⟨h4, by rw [h1, h3]; rfl⟩
      have gz : ∀ hi : Int, (true && k_in T L q 0 3 && k_in T L (k_go T L q) 0 hi) = true → k_val T L q ≤ 3 ∧ k_val T L (k_go T L q) ≤ hi := by
        intro hi h
        simp only [Bool.and_eq_true] at h
        exact ⟨(k_in_r h.1.2).2, (k_in_r h.2).2⟩
      split
      · rename_i c0
        have hwq := r_wsq (T := T) (L := L) (most := 20 - rc_had A (true && k_in T L q 0 3 && k_in T L (k_go T L q) 0 20) (k_val T L q)) 601 (k_go T L (k_go T L q)) 0 (r_tkF T L (k_go T L q) 0 20 (r_tkF T L q 0 3 f)) (true && k_in T L q 0 3 && k_in T L (k_go T L q) 0 20) hgo2.2.1
        refine ⟨⟨hwq.2.1, by omega, fun h => ?_⟩, ⟨hv, hv2, by omega, by omega⟩, fun h => ?_, fun h => ?_⟩
        · have := (hwq.2.2 h).2
          omega
        · have := gz 20 (r_wsg _ _ _ _ _ h)
          exact ⟨this.1, this.2, fun h => by omega⟩
        · obtain ⟨h1, h2, h3, h4⟩ := r_ws0 _ _ _ _ _ h
          obtain ⟨h5, h6⟩ := fz 20 h1
          refine ⟨h5, h3.trans h6, fun h => absurd c0 h, ?_, h4⟩
          rcases h2 with h2 | h2
          · exact Or.inl h2
          · refine Or.inr ?_
            rw [h6] at h2 ⊢
            omega
      · split
        · rename_i c0 c1
          exact rc_two_ok hgo2.2.1 (by omega) hv hv2 (by omega) (fun h => by have := gz 19 h; omega) (fz 19)
        · split
          · rename_i c0 c1 c2
            exact rc_two_ok hgo2.2.1 (by omega) hv hv2 (by omega) (fun h => by have := gz 19 h; omega) (fz 19)
          · rename_i c0 c1 c2
            refine ⟨⟨hgo2.2.1, by omega, fun h => absurd rfl h⟩, ⟨hv, hv2, by omega, by omega⟩, fun h => ?_, fun h => ?_⟩
            · have := gz 9 h
              exact ⟨this.1, by omega, fun _ => this.2⟩
            · obtain ⟨h5, h6⟩ := fz 9 h
              exact ⟨h5, h6, fun _ => rfl, Or.inl rfl, fun w hw => by cases hw⟩
    · exact hgo.2.1
  · exact hq
def cl_f (A : Nat → Int) (c : Int) (q0 : Nat) (f : Int × Int) (g : Bool) (r0 r1 r2 : Int) : Int × Int := if g = true then (if A 0 ≤ r0 then addsF f 4 q0 else if a_many A r0 = 10 then addsF f 3 q0 else if g_there A c r0 r1 r2 = true then f else addsF f 4 q0) else f
def cl_post (T : Nat → Int) (L c : Int) (A : Nat → Int) (q0 : Nat) (S : tw_S) (K : Bool → tw_S → Prop) : rc_T → Prop
  | .inl p => ∀ S' : tw_S, S'.1 15 = (p : Int) → l_fr S S' → K false S'
  | .inr (q, f, g, r0, r1, r2, ws) => ∀ S' : tw_S, r_at T L S' q (cl_f A c q0 f g r0 r1 r2) g → l_fr S S' → S'.2.2 9 = (if (cl_f A c q0 f g r0 r1 r2).1 = 0 then g_make A c r0 r1 r2 ws (S.1 23) else A) → K true S'
section
variable {E : pw_E} {w0 : pw_W} {m d : Nat} {S : tw_S} {T : Nat → Int} {L : Int}
theorem m_changeLine_ok {A : Nat → Int} {q : Nat} {f : Int × Int} {c : Int} {K : Bool → tw_S → Prop} (hm : pw_base E ≤ m) (hd : 7 ≤ d) (hl : 0 ≤ L ∧ L ≤ 600) (hq : (q : Int) ≤ L) (h : r_at T L S q f true) (e9 : S.2.2 9 = A) (hA : g_val A) (hF : ∀ e, 0 ≤ e → e < A 0 → 1 ≤ a_many A e) (hc : 0 ≤ c ∧ c ≤ 3) (h21 : S.1 21 = 0) (H : cl_post T L c A q S K (rc_read T L c A (k_go T L q) f)) : pw_Cl E m_X2_changeLine d [va_rf (some m), .int (iI c), .int (iI q)] (tw w0 m S) (c_z (t_b w0 m K)) := by
  obtain ⟨e, rfl, he⟩ := pw_d1 hd
  have hgo := k_go_le (T := T) (L := L) (q := q) hq
  have hA0 := hA.2.1
  obtain ⟨⟨a1, a2, a3, a4, a5, a6, a7⟩, b12, b3, b4⟩ := h
  refine e_X2_changeLine _ _ _ (t_X2_changeLine_0 hm _ _ (m_token_r (q := q) hm (by omega) hl hq a1 a2 a4 b12 b3 b4 (fun S1 y1 y2 => ?_)))
  have e9' : S1.2.2 9 = A := by rw [y2.2]; exact e9
  have h21' : S1.1 21 = 0 := by rw [y2.1 21 rfl]; exact h21
  have hrc := rc_read_ok (T := T) (L := L) (c := c) (A := A) (f := f) hgo.2.1 hc
  refine m_readChange_ok hm (by omega) hl hgo.2.1 y1 e9' hA hF hc h21' ?_
  rcases hres : rc_read T L c A (k_go T L q) f with p | ⟨q', f', g', r0, r1, r2, ws⟩
  · rw [hres] at H
    intro S2 z1 z2
    rw [if_neg (by decide)]
    exact ⟨false, rfl, S2, rfl, H S2 z1 (y2.r.trans z2).l⟩
  · rw [hres] at H hrc
    intro S2 z1 z2 z3 z4 z5 z6 z7
    obtain ⟨⟨p1, p2, p3⟩, ⟨p4, p5, p6⟩, p7, p8⟩ := hrc
    have hfr : r_fr S S2 := y2.r.trans z2
    have e9'' : S2.2.2 9 = A := by rw [z2.2 9 (by omega) (by omega)]; exact e9'
    have e22 : S2.1 22 = b01 g' := z1.2.2.1
    have hqL : (0 : Int) ≤ (q : Int) ∧ (q : Int) ≤ 600 := ⟨by omega, by omega⟩
    rw [if_pos rfl]
    -- what comes at the end
    have fin : ∀ S3 : tw_S, r_at T L S3 q' (cl_f A c q f' g' r0 r1 r2) g' → r_fr S S3 → S3.2.2 9 = A → S3.2.2 10 = S2.2.2 10 → S3.2.2 11 = S2.2.2 11 → S3.1 21 = S2.1 21 → (rI (S3.1 16) ∧ if S3.1 16 = 0 then pw_Cl E m_X2_makeVersion e [va_rf (some m), .int (iI c)] (tw w0 m S3) (c_v (t_u w0 m (fun S4 => (c_z (t_b w0 m K)) (.inl (some (.int (iI 1)))) (tw w0 m S4)))) else (c_z (t_b w0 m K)) (.inl (some (.int (iI 1)))) (tw w0 m S3)) := by
      intro S3 x1 x2 x3 x4 x5 x6
      have e16 : S3.1 16 = (cl_f A c q f' g' r0 r1 r2).1 := x1.2.1.1
      have hfk : f_ok (cl_f A c q f' g' r0 r1 r2) := x1.2.2.2
      rw [e16]
      refine ⟨rI_small (by have := hfk.1; omega) (by have := hfk.1; omega), ?_⟩
      by_cases h0 : (cl_f A c q f' g' r0 r1 r2).1 = 0
      · refine ifT h0 ?_
        have hf0 : f'.1 = 0 ∧ (g' = true → r0 < A 0 ∧ a_many A r0 ≠ 10 ∧ g_there A c r0 r1 r2 = true) := by
          unfold cl_f at h0
          cases g' with
          | false => exact ⟨by simpa using h0, fun h => by cases h⟩
          | true =>
            rw [if_pos rfl] at h0
            split at h0
            · exact absurd h0 (addsF_ne (by omega))
            · split at h0
              · exact absurd h0 (addsF_ne (by omega))
              · split at h0
                · exact ⟨h0, fun _ => ⟨by omega, by assumption, by assumption⟩⟩
                · exact absurd h0 (addsF_ne (by omega))
        obtain ⟨u1, u2, u3, u4, u5⟩ := p8 hf0.1
        obtain ⟨v1, v2, v3⟩ := hf0.2 u2
        obtain ⟨t1, t2, t3⟩ := p7 u2
        have hr4 : 0 ≤ r0 ∧ r0 < 4 := ⟨p4.1, by omega⟩
        have hm10 := hA.1.2.1 r0 hr4.1 hr4.2
        have hm1 := hF r0 hr4.1 v1
        have hlast := hA.1.last hr4 hm1
        have hhad : 0 ≤ rc_had A true r0 := by
          unfold rc_had
          rw [if_pos rfl]
          split
          · omega
          · exact (hA.1.2.2 (g_last A r0) (by omega) (by omega)).1
        have hlen : ws.length ≤ 20 := by
          rcases u4 with u4 | u4
          · rw [u4]; simp
          · omega
        rw [tw_self9 x3]
        have e23 : S3.1 23 = S.1 23 := x2.1 23 rfl
        refine m_makeVersion_ok (r0 := r0) (r1 := r1) (r2 := r2) (ws := ws) hm hA.1 (by omega) hc (by rw [x4]; exact z3) (by rw [x4]; exact z4) (fun h => by rw [x4]; exact z5 h) (fun _ => by rw [x6]; exact z6) (by rw [x6, z6]; omega) (fun _ => by omega) (fun _ i x hx => by rw [x5]; exact z7 i x hx) hr4 ⟨hm1, by omega⟩ ⟨p5.1, t2⟩ (fun h => by have := t3 h; omega) (fun _ => ⟨by omega, by omega⟩) ⟨true, rfl, _, rfl, ?_⟩
        rw [e23]
        refine H _ x1 (x2.l.trans (l_fr.set S3 _)) ?_
        rw [tw_set_at, if_pos h0]
      · refine ifF h0 ⟨true, rfl, S3, rfl, H S3 x1 x2.l ?_⟩
        rw [if_neg h0]
        exact x3
    have flt : ∀ k : Int, 1 ≤ k ∧ k ≤ 4 → addsF f' k q = cl_f A c q f' g' r0 r1 r2 → pw_Cl E m_X2_addsFault e [va_rf (some m), .int (iI k), .int (iI q)] (tw w0 m S2) (c_v (t_u w0 m (fun S3 => rI (S3.1 16) ∧ if S3.1 16 = 0 then pw_Cl E m_X2_makeVersion e [va_rf (some m), .int (iI c)] (tw w0 m S3) (c_v (t_u w0 m (fun S4 => (c_z (t_b w0 m K)) (.inl (some (.int (iI 1)))) (tw w0 m S4)))) else (c_z (t_b w0 m K)) (.inl (some (.int (iI 1)))) (tw w0 m S3)))) := by
      intro k hk he9
      refine m_adds_r hm (by omega) z1 hk hqL (fun S3 x1 x2 x3 x4 => fin S3 ?_ (hfr.trans x2) ?_ ?_ ?_ ?_)
      · rw [he9] at x1; exact x1
      · rw [x3]; exact e9''
      · rw [x3]
      · rw [x3]
      · exact x4 21 (by omega) (by omega)
    refine ⟨by rw [e22]; exact b01_rI _, ?_⟩
    cases hg : g' with
    | false =>
      rw [hg] at e22
      refine ifT e22 (fin S2 ?_ hfr e9'' rfl rfl rfl)
      have : cl_f A c q f' g' r0 r1 r2 = f' := by unfold cl_f; rw [hg, if_neg (by decide)]
      rw [this]
      exact z1
    | true =>
      rw [hg] at e22
      refine ifF (by rw [e22]; decide) ?_
      obtain ⟨t1, t2, t3⟩ := p7 hg
      have hr4 : 0 ≤ r0 ∧ r0 < 4 := ⟨p4.1, by omega⟩
      have hm10 := hA.1.2.1 r0 hr4.1 hr4.2
      have hclf : cl_f A c q f' g' r0 r1 r2 = (if A 0 ≤ r0 then addsF f' 4 q else if a_many A r0 = 10 then addsF f' 3 q else if g_there A c r0 r1 r2 = true then f' else addsF f' 4 q) := by unfold cl_f; rw [if_pos hg]
      rw [e9'', z3]
      refine ⟨rI_small (by omega) (by omega), rI_small (by omega) (by omega), ?_⟩
      by_cases hge : A 0 ≤ r0
      · rw [if_pos hge] at hclf
        refine ifT hge (t_X2_changeLine_73 hm _ _ _ ⟨rI_small (by omega) (by omega), ifT rfl (flt 4 ⟨by omega, by omega⟩ hclf.symm)⟩)
      · rw [if_neg hge] at hclf
        have hm1 := hF r0 hr4.1 (by omega)
        refine ifF hge ⟨by omega, by omega, rI_small (by show -1000000000 ≤ a_many A r0; omega) (by show a_many A r0 ≤ 1000000000; omega), ?_⟩
        by_cases h10 : a_many A r0 = 10
        · rw [if_pos h10] at hclf
          exact ifT h10 (flt 3 ⟨by omega, by omega⟩ hclf.symm)
        · rw [if_neg h10] at hclf
          refine ifF h10 (t_X2_changeLine_73 hm _ _ _ ⟨rI_small (by omega) (by omega), ifF (by omega) ?_⟩)
          have hA' : g_ok (S2.2.2 9) := by rw [e9'']; exact hA.1
          refine m_isThere_ok (r2 := r2) hm hA' (by omega) (rI_small (by omega) (by omega)) z3 z4 z5 hr4 (by rw [e9'']; exact hm1) ⟨by omega, by omega⟩ (fun _ => ⟨by omega, by omega⟩) ?_
          rw [e9'']
          by_cases hth : g_there A c r0 r1 r2 = true
          · rw [if_pos hth] at hclf
            refine ifT hth (fin S2 ?_ hfr e9'' rfl rfl rfl)
            rw [hclf]
            exact z1
          · rw [if_neg hth] at hclf
            exact ifF hth (flt 4 ⟨by omega, by omega⟩ hclf.symm)
end
