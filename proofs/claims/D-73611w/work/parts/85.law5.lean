set_option maxRecDepth 100000
/-! a line of an archive leaves one (plain) -/
theorem rc_f_ok {T : Nat → Int} {L c : Int} {A : Nat → Int} {q : Nat} {f : Int × Int} (hq : (q : Int) ≤ L) (hl : L ≤ 600) (hf : f_ok f) : match rc_read T L c A q f with | .inl _ => True | .inr (_, f', _) => f_ok f' := by
  have hgo := k_go_le (T := T) (L := L) (q := q) hq
  have hgo2 := k_go_le (T := T) (L := L) (q := k_go T L q) hgo.2.1
  have t1 : ∀ hi : Int, f_ok (r_tkF T L (k_go T L q) 0 hi (r_tkF T L q 0 3 f)) := fun hi => r_tkF_ok (r_tkF_ok hf (by omega)) (by omega)
  have two : ∀ (f1 : Int × Int) (g : Bool) (r0 r1 lo hi : Int), f_ok f1 → match rc_two T L (k_go T L (k_go T L q)) f1 g r0 r1 lo hi with | .inl _ => True | .inr (_, f', _) => f_ok f' := by
    intro f1 g r0 r1 lo hi h
    unfold rc_two
    by_cases hs : k_sort T L (k_go T L (k_go T L q)) = 3
    · rw [if_pos hs]
      exact r_tkF_ok h (by omega)
    · rw [if_neg hs]
      trivial
  unfold rc_read
  by_cases h1 : k_sort T L q = 3
  · rw [if_pos h1]
    by_cases h2 : k_sort T L (k_go T L q) = 3
    · rw [if_pos h2]
      by_cases c0 : c = 0
      · rw [if_pos c0]
        exact r_wsf hl _ _ _ _ _ hgo2.2.1 (t1 20)
      · rw [if_neg c0]
        by_cases c1 : c = 1
        · rw [if_pos c1]
          exact two _ _ _ _ _ _ (t1 19)
        · rw [if_neg c1]
          by_cases c2 : c = 2
          · rw [if_pos c2]
            exact two _ _ _ _ _ _ (t1 19)
          · rw [if_neg c2]
            exact t1 9
    · rw [if_neg h2]
      trivial
  · rw [if_neg h1]
    trivial
theorem cl_f_ok {A : Nat → Int} {c : Int} {q0 : Nat} {f : Int × Int} {g : Bool} {r0 r1 r2 : Int} (hf : f_ok f) (hq : (q0 : Int) ≤ 600) : f_ok (cl_f A c q0 f g r0 r1 r2) := by
  have h4 := (hf.adds (k := 4) (pl := q0) ⟨by omega, by omega⟩ ⟨by omega, hq⟩).1
  have h3 := (hf.adds (k := 3) (pl := q0) ⟨by omega, by omega⟩ ⟨by omega, hq⟩).1
  unfold cl_f
  split
  · split
    · exact h4
    · split
      · exact h3
      · split
        · exact hf
        · exact h4
  · exact hf
theorem cl_f_0 {A : Nat → Int} {c : Int} {q0 : Nat} {f : Int × Int} {g : Bool} {r0 r1 r2 : Int} (h0 : (cl_f A c q0 f g r0 r1 r2).1 = 0) : f.1 = 0 ∧ (g = true → r0 < A 0 ∧ a_many A r0 ≠ 10 ∧ g_there A c r0 r1 r2 = true) := by
  unfold cl_f at h0
  cases g with
  | false => exact ⟨by simpa using h0, fun h => by cases h⟩
  | true =>
    rw [if_pos rfl] at h0
    split at h0
    · exact absurd h0 (addsF_ne (by omega))
    · split at h0
      · exact absurd h0 (addsF_ne (by omega))
      · split at h0
        · exact ⟨h0, fun _ => ⟨by omega, by assumption, by assumption⟩⟩
        · exact absurd h0 (addsF_ne (by omega))
theorem ch_by_0 {w : Int64} (h : ch_by w = 0) : w = 7370100 := by
  unfold ch_by at h
  split at h
  · assumption
  · split at h
    · omega
    · split at h
      · omega
      · split at h <;> omega
theorem ln_arch_ok {T : Nat → Int} {L line : Int} {A : Nat → Int} {q : Nat} {f : Int × Int} (hl : 0 ≤ L ∧ L ≤ 600) (hq : (q : Int) ≤ L) (hA : tx_ok A q) (hf : f_ok f) (hline : rI line) : ln_ok L (ln_arch T L line (if k_sort T L q = 2 then k_long (k_let T L q) else 0) A q f) := by
  obtain ⟨hv, hF, h5⟩ := hA
  have hA0 := hv.2.1
  have hA5 := hv.1.1
  have hgo := k_go_le (T := T) (L := L) (q := q) hq
  have hnx := k_next_le (T := T) (L := L) (q := q)
  have hns := k_skip_le T L (L.toNat - k_next T L q) (k_next T L q)
  have hng : k_next T L q ≤ k_go T L q := hns.1
  have same : ∀ q' : Nat, q ≤ q' → tx_okE A q' := fun q' h => ⟨hv, hF, by omega⟩
  unfold ln_arch
  by_cases hdoc : (if k_sort T L q = 2 then k_long (k_let T L q) else 0) = 6582115
  · rw [if_pos hdoc]
    by_cases hs : k_sort T L q = 2
    · rw [if_pos hs] at hdoc
      have hk := (k_key hs [100, 111, 99] ⟨by decide, by decide⟩ (fun x hx => by simp at hx; omega) (hdoc.trans (by decide))).2
      have hk : k_next T L q = q + 3 := hk
      have hfd : f_ok (dl_f A f q) := by
        unfold dl_f
        split
        · exact (hf.adds ⟨by omega, by omega⟩ ⟨by omega, by omega⟩).1
        · exact hf
      have hwq := r_wsq (T := T) (L := L) (most := 20) 601 (k_go T L q) 0 (dl_f A f q) true hgo.2.1
      have hwf := r_wsf (T := T) (L := L) (most := 20) hl.2 601 (k_go T L q) 0 (dl_f A f q) true hgo.2.1 hfd
      have hw0 := r_ws0 (T := T) (L := L) (most := 20) 601 (k_go T L q) 0 (dl_f A f q) true
      have hR : r_wsF T L 20 601 (k_go T L q) 0 (dl_f A f q) true = dl_R T L A q f := rfl
      rw [hR] at hwq hwf hw0
      generalize dl_R T L A q f = R at *
      obtain ⟨q', f', g', ws⟩ := R
      refine ⟨hwq.2.1, hwf, ?_⟩
      show tx_okE (if f'.1 = 0 then g_doc A ws line else A) q'
      have hq' : k_go T L q ≤ q' := hwq.1
      by_cases h0 : f'.1 = 0
      · rw [if_pos h0]
        obtain ⟨u1, u2, u3, u4⟩ := hw0 h0
        have u2 : ws = [] ∨ ((0 : Nat) : Int) + ws.length ≤ 20 := u2
        have hlen : ws.length ≤ 20 := by
          rcases u2 with h | h
          · rw [h]; simp
          · omega
        have hne : A 0 ≠ 4 := by
          intro h4
          unfold dl_f at u1
          rw [if_pos h4] at u1
          exact addsF_ne (by omega) u1
        have hpot : 11 * (A 5 + ws.length) ≤ 5 * (q' + 1 : Int) := by
          by_cases hws : ws = []
          · rw [hws, List.length_nil]; omega
          · obtain ⟨x1, x2⟩ := hwq.2.2 hws
            have x2 : k_go T L q + 2 * ws.length ≤ q' + 1 := x2
            have := k_next_go hs x1
            omega
        have hq9 : (q' : Int) ≤ L := hwq.2.1
        obtain ⟨y1, y2, y3, y4⟩ := g_doc_val (ws := ws) (date := line) hv (by omega) (by omega) hlen u4 hline
        refine ⟨y1, fun e he0 he1 => ?_, by rw [y2]; exact hpot⟩
        rw [y3] at he1
        rw [y4 e he0 (by omega)]
        split
        · omega
        · exact hF e he0 (by omega)
      · rw [if_neg h0]
        exact same q' (by omega)
    · rw [if_neg hs] at hdoc
      exact absurd hdoc (by decide)
  · rw [if_neg hdoc]
    by_cases h1 : ch_by (if k_sort T L q = 2 then k_long (k_let T L q) else 0) = -1
    · rw [if_pos h1]
      exact hq
    · rw [if_neg h1]
      have hcr := ch_by_r (if k_sort T L q = 2 then k_long (k_let T L q) else 0)
      have hput : ch_by (if k_sort T L q = 2 then k_long (k_let T L q) else 0) = 0 → k_next T L q = q + 3 := by
        intro h
        have hw := ch_by_0 h
        by_cases hs : k_sort T L q = 2
        · rw [if_pos hs] at hw
          exact (k_key hs [112, 117, 116] ⟨by decide, by decide⟩ (fun x hx => by simp at hx; omega) (hw.trans (by decide))).2
        · rw [if_neg hs] at hw
          exact absurd hw (by decide)
      generalize ch_by (if k_sort T L q = 2 then k_long (k_let T L q) else 0) = c at *
      have hrc := rc_read_ok (T := T) (L := L) (c := c) (A := A) (f := f) hgo.2.1 ⟨by omega, hcr.2⟩
      have hrf := rc_f_ok (T := T) (L := L) (c := c) (A := A) (f := f) hgo.2.1 hl.2 hf
      rcases hres : rc_read T L c A (k_go T L q) f with p | ⟨q', f', g', r0, r1, r2, ws⟩
      · rw [hres] at hrc
        exact hrc
      · rw [hres] at hrc hrf
        obtain ⟨⟨p1, p2, p3⟩, ⟨p4, p5, p6⟩, p7, p8⟩ := hrc
        refine ⟨p1, cl_f_ok hrf (by omega), ?_⟩
        by_cases h0 : (cl_f A c q f' g' r0 r1 r2).1 = 0
        · rw [if_pos h0]
          obtain ⟨hf0, hf1⟩ := cl_f_0 h0
          obtain ⟨u1, u2, u3, u4, u5⟩ := p8 hf0
          obtain ⟨v1, v2, v3⟩ := hf1 u2
          obtain ⟨t1, t2, t3⟩ := p7 u2
          have hr4 : 0 ≤ r0 ∧ r0 < 4 := ⟨p4.1, by omega⟩
          have hm10 := hv.1.2.1 r0 hr4.1 hr4.2
          have hm1 := hF r0 hr4.1 v1
          have hlast := hv.1.last hr4 hm1
          have hlg := hv.1.2.2 (g_last A r0) (by omega) (by omega)
          have hhad : rc_had A true r0 = a_long A r0 (a_many A r0 - 1) := by
            unfold rc_had
            rw [if_pos rfl, if_neg (by omega)]
            rfl
          have hlg : 0 ≤ a_long A r0 (a_many A r0 - 1) ∧ a_long A r0 (a_many A r0 - 1) ≤ 20 := hlg
          rw [hhad] at u4
          have hlen : c = 0 → a_long A r0 (a_many A r0 - 1) + ws.length ≤ 20 := by
            intro _
            rcases u4 with h | h
            · rw [h, List.length_nil]; omega
            · exact h
          have hpot : c = 0 → 11 * (A 5 + ws.length) ≤ 5 * (q' + 1 : Int) := by
            intro hc0
            have hk := hput hc0
            have := hlen hc0
            by_cases hws : ws = []
            · rw [hws, List.length_nil]; omega
            · have x2 := p3 hws
              omega
          obtain ⟨y1, y2, y3, y4⟩ := g_make_val (ws := ws) (date := line) hv (fun h => by have := hpot h; omega) ⟨hr4.1, v1⟩ ⟨hm1, by omega⟩ ⟨by omega, hcr.2⟩ p5.1 (fun _ => p6.1) v3 hlen u5 hline
          refine ⟨y1, fun e he0 he1 => ?_, ?_⟩
          · rw [y3] at he1
            rw [y4 e he0 (by omega)]
            split
            · omega
            · exact hF e he0 he1
          · rw [y2]
            by_cases hc0 : c = 0
            · rw [if_pos hc0]; exact hpot hc0
            · rw [if_neg hc0]
              omega
        · rw [if_neg h0]
          exact same q' (by omega)
