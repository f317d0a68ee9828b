set_option maxRecDepth 100000
/-! the twin: numbers and words of a line -/
def addsF (f : Int × Int) (k pl : Int) : Int × Int := if f.1 = 0 then (k, pl) else if pl < f.2 then (k, pl) else if pl = f.2 then (if f.1 ≤ k then f else (k, pl)) else f
def f_ok (f : Int × Int) : Prop := (0 ≤ f.1 ∧ f.1 ≤ 4) ∧ (f.1 ≠ 0 → 0 ≤ f.2 ∧ f.2 ≤ 600)
theorem f_ok.adds {f : Int × Int} {k pl : Int} (h : f_ok f) (hk : 1 ≤ k ∧ k ≤ 4) (hp : 0 ≤ pl ∧ pl ≤ 600) : f_ok (addsF f k pl) ∧ (addsF f k pl).1 ≠ 0 := by
  have h1 : f_ok (k, pl) := ⟨⟨by show 0 ≤ k; omega, hk.2⟩, fun _ => hp⟩
  have h2 : (k, pl).1 ≠ 0 := by show k ≠ 0; omega
  unfold addsF
  split
  · exact ⟨h1, h2⟩
  · rename_i h0
    split
    · exact ⟨h1, h2⟩
    · split
      · split
        · exact ⟨h, h0⟩
        · exact ⟨h1, h2⟩
      · exact ⟨h, h0⟩
/-- a line's reading leaves the rest the same -/
def r_fr (S S' : tw_S) : Prop := (∀ i : Nat, (decide (i = 9) || decide (i = 11) || decide (i = 12) || decide (i = 13) || decide (i = 15) || decide (i = 16) || decide (i = 17) || decide (i = 21) || decide (i = 22)) = false → S'.1 i = S.1 i) ∧ ∀ q : Nat, q ≠ 10 → q ≠ 11 → S'.2.2 q = S.2.2 q
theorem r_fr.refl (S : tw_S) : r_fr S S := ⟨fun _ _ => rfl, fun _ _ _ => rfl⟩
theorem r_fr.trans {S S' S'' : tw_S} (h : r_fr S S') (h' : r_fr S' S'') : r_fr S S'' := ⟨fun i hi => (h'.1 i hi).trans (h.1 i hi), fun q h1 h2 => (h'.2 q h1 h2).trans (h.2 q h1 h2)⟩
theorem r_fr.sf (S : tw_S) (j : Nat) (x : Int) (hj : (decide (j = 9) || decide (j = 11) || decide (j = 12) || decide (j = 13) || decide (j = 15) || decide (j = 16) || decide (j = 17) || decide (j = 21) || decide (j = 22)) = true) : r_fr S (tw_sf S j x) := by
  refine ⟨fun i hi => ?_, fun _ _ _ => rfl⟩
  show (if i = j then x else S.1 i) = _
  rw [if_neg]
  rintro rfl
  rw [hj] at hi
  cases hi
theorem r_fr.sa (S : tw_S) (k i : Nat) (x : Int) (hk : k = 10 ∨ k = 11) : r_fr S (tw_sa S k i x) := by
  refine ⟨fun _ _ => rfl, fun q h1 h2 => funext fun n => ?_⟩
  show (if q = k ∧ n = i then x else S.2.2 q n) = _
  rw [if_neg]
  rintro ⟨rfl, -⟩
  omega
theorem k_fr.r {S S' : tw_S} (h : k_fr S S') : r_fr S S' := by
  refine ⟨fun i hi => h.1 i ?_, fun q _ _ => by rw [h.2]⟩
  simp only [Bool.or_eq_false_iff] at hi ⊢
  exact hi.1.1.1.1.1
/-- a line is read: at the token, with these faults, all of it can be or not -/
def r_at (T : Nat → Int) (L : Int) (S : tw_S) (q : Nat) (f : Int × Int) (g : Bool) : Prop := k_at T L S q ∧ (S.1 16 = f.1 ∧ S.1 17 = f.2) ∧ S.1 22 = b01 g ∧ f_ok f
def k_go (T : Nat → Int) (L : Int) (q : Nat) : Nat := k_skip T L (k_next T L q)
theorem k_go_le {T : Nat → Int} {L : Int} {q : Nat} (h : (q : Int) ≤ L) : q ≤ k_go T L q ∧ (k_go T L q : Int) ≤ L ∧ (0 ≤ c_at T L q → q < k_go T L q) := by
  have h1 := k_next_le (T := T) (L := L) (q := q)
  have h2 := k_skip_le T L (L.toNat - k_next T L q) (k_next T L q)
  have h3 : k_next T L q ≤ k_go T L q ∧ k_go T L q ≤ k_next T L q + (L.toNat - k_next T L q) := h2
  omega
theorem k_sort_pos {T : Nat → Int} {L : Int} {q : Nat} (h : k_sort T L q ≠ 0) : 0 ≤ c_at T L q := by
  apply Classical.byContradiction
  intro h0
  unfold k_sort at h
  rw [if_neg h0] at h
  exact h rfl
theorem k_sort_let {T : Nat → Int} {L : Int} {q : Nat} (h : k_sort T L q = 2) : 97 ≤ c_at T L q ∧ c_at T L q ≤ 122 := by
  apply Classical.byContradiction
  intro h0
  unfold k_sort at h
  rw [if_neg h0] at h
  split at h
  · split at h
    · split at h <;> omega
    · split at h <;> omega
  · omega
theorem k_run_stop {T : Nat → Int} {L lo hi : Int} (h0 : 0 ≤ lo) : ∀ (ls : List Int) (p : Nat), k_run T L lo hi p = ls → ¬ (lo ≤ c_at T L (p + ls.length) ∧ c_at T L (p + ls.length) ≤ hi) := by
  intro ls
  induction ls with
  | nil =>
    intro p hr h
    rw [List.length_nil, Nat.add_zero] at h
    rw [k_run_c h0 h] at hr
    cases hr
  | cons c ls ih =>
    intro p hr
    by_cases h : lo ≤ c_at T L p ∧ c_at T L p ≤ hi
    · rw [k_run_c h0 h] at hr
      have := ih (p + 1) (List.cons.inj hr).2
      rw [List.length_cons, show p + (ls.length + 1) = p + 1 + ls.length by omega]
      exact this
    · rw [k_run_n h] at hr
      cases hr
theorem k_run_all {T : Nat → Int} {L lo hi : Int} : ∀ (f p : Nat), ∀ x ∈ k_runF T L lo hi f p, lo ≤ x ∧ x ≤ hi
  | 0, _, x, h => by cases h
  | f + 1, p, x, h => by
    unfold k_runF at h
    split at h
    · rename_i hc
      rcases List.mem_cons.mp h with rfl | h
      · exact hc
      · exact k_run_all f (p + 1) x h
    · cases h
/-- two words stand apart -/
theorem k_sep {T : Nat → Int} {L : Int} {q : Nat} (h : k_sort T L q = 2) (h2 : k_sort T L (k_go T L q) = 2) : q + 2 ≤ k_go T L q := by
  have hl := k_sort_let h
  have hn : k_next T L q = q + (k_run T L 97 122 q).length := by unfold k_next; rw [if_pos (by omega), if_pos hl]
  have hst := k_run_stop (T := T) (L := L) (lo := 97) (hi := 122) (by omega) _ q rfl
  rw [← hn] at hst
  have h1 : 1 ≤ (k_run T L 97 122 q).length := by rw [k_run_c (by omega) hl]; simp
  have h3 := k_skip_le T L (L.toNat - k_next T L q) (k_next T L q)
  have h3 : k_next T L q ≤ k_go T L q := h3.1
  have hne : k_go T L q ≠ k_next T L q := by
    intro he
    rw [he] at h2
    exact hst (k_sort_let h2)
  omega
theorem k_val_r {T : Nat → Int} {L : Int} {q : Nat} (h : k_sort T L q = 3) : 0 ≤ k_val T L q ∧ k_val T L q ≤ 99 := by
  have hlen : (k_run T L 48 57 q).length ≤ 2 := by
    unfold k_sort at h
    split at h
    · split at h
      · omega
      · split at h
        · split at h
          · assumption
          · omega
        · split at h <;> omega
    · omega
  have hall := k_run_all (T := T) (L := L) (lo := 48) (hi := 57) (L.toNat - q) q
  have hall : ∀ x ∈ k_run T L 48 57 q, 48 ≤ x ∧ x ≤ 57 := hall
  unfold k_val
  generalize k_run T L 48 57 q = ls at *
  match ls, hlen, hall with
  | [], _, _ => exact ⟨by show (0 : Int) ≤ 0; omega, by show (0 : Int) ≤ 99; omega⟩
  | [a], _, hall =>
    have := hall a (by simp)
    show 0 ≤ (if 2 ≤ 0 then (0 : Int) else 10 * 0 + a - 48) ∧ (if 2 ≤ 0 then (0 : Int) else 10 * 0 + a - 48) ≤ 99
    rw [if_neg (by omega)]
    omega
  | [a, b], _, hall =>
    have h1 := hall a (by simp)
    have h2 := hall b (by simp)
    show 0 ≤ (if 2 ≤ 0 + 1 then (if 2 ≤ 0 then (0 : Int) else 10 * 0 + a - 48) else 10 * (if 2 ≤ 0 then (0 : Int) else 10 * 0 + a - 48) + b - 48) ∧ (if 2 ≤ 0 + 1 then (if 2 ≤ 0 then (0 : Int) else 10 * 0 + a - 48) else 10 * (if 2 ≤ 0 then (0 : Int) else 10 * 0 + a - 48) + b - 48) ≤ 99
    rw [if_neg (by omega), if_neg (by omega)]
    omega
def n_ofF (w : Int64) : Nat → Int → Int → Int
  | 0, _, n => n
  | f + 1, k, n => n_ofF w f (k + (-8)) (if Int32.toInt (((w >>> ((iI k).toInt64 &&& 63)) &&& 255).toInt32) = 0 then n else 27 * n + Int32.toInt (((w >>> ((iI k).toInt64 &&& 63)) &&& 255).toInt32) - 96)
def n_of (w : Int64) : Int := n_ofF w 4 24 0
/-- the number of the word at q -/
def k_num (T : Nat → Int) (L : Int) (q : Nat) : Int := n_of (k_long (k_let T L q))
/-- a word of few letters -/
def k_few (T : Nat → Int) (L : Int) (q : Nat) : Bool := decide (k_next T L q - (q : Int) ≤ 4)
def r_wdF (T : Nat → Int) (L : Int) (q : Nat) (f : Int × Int) : Int × Int := if k_few T L q = true then f else addsF f 2 q
def r_tkF (T : Nat → Int) (L : Int) (q : Nat) (lo hi : Int) (f : Int × Int) : Int × Int := if decide (lo ≤ k_val T L q ∧ k_val T L q ≤ hi) = true then f else addsF f 2 q
def r_wsF (T : Nat → Int) (L most : Int) : Nat → Nat → Nat → Int × Int → Bool → Nat × (Int × Int) × Bool × List Int
  | 0, q, _, f, g => (q, f, g, [])
  | u + 1, q, n, f, g => if k_sort T L q = 2 then ((r_wsF T L most u (k_go T L q) (n + 1) (r_wdF T L q (if (n : Int) < most then f else addsF f 3 q)) (g && k_few T L q)).1, (r_wsF T L most u (k_go T L q) (n + 1) (r_wdF T L q (if (n : Int) < most then f else addsF f 3 q)) (g && k_few T L q)).2.1, (r_wsF T L most u (k_go T L q) (n + 1) (r_wdF T L q (if (n : Int) < most then f else addsF f 3 q)) (g && k_few T L q)).2.2.1, k_num T L q :: (r_wsF T L most u (k_go T L q) (n + 1) (r_wdF T L q (if (n : Int) < most then f else addsF f 3 q)) (g && k_few T L q)).2.2.2) else (q, f, g, [])
section
variable {E : pw_E} {w0 : pw_W} {m d : Nat} {S : tw_S} {T : Nat → Int} {L : Int}
theorem m_fails_ok {K : Bool → tw_S → Prop} (hm : pw_base E ≤ m) (hd : 1 ≤ d) (H : K false (tw_sf S 15 (S.1 11))) : pw_Cl E m_X2_fails d [va_rf (some m)] (tw w0 m S) (c_z (t_b w0 m K)) := by
  obtain ⟨e, rfl, he⟩ := pw_d1 hd
  exact e_X2_fails _ (t_X2_fails_0 hm ⟨false, rfl, _, rfl, H⟩)
theorem m_addsFault_ok {f : Int × Int} {k pl : Int} {K : tw_S → Prop} (hm : pw_base E ≤ m) (hd : 1 ≤ d) (h16 : S.1 16 = f.1) (h17 : S.1 17 = f.2) (hf : f_ok f) (hk : 1 ≤ k ∧ k ≤ 4) (hp : 0 ≤ pl ∧ pl ≤ 600) (H : ∀ S', S'.1 16 = (addsF f k pl).1 → S'.1 17 = (addsF f k pl).2 → (∀ i, i ≠ 16 → i ≠ 17 → S'.1 i = S.1 i) → S'.2 = S.2 → K S') : pw_Cl E m_X2_addsFault d [va_rf (some m), .int (iI k), .int (iI pl)] (tw w0 m S) (c_v (t_u w0 m K)) := by
  obtain ⟨e, rfl, he⟩ := pw_d1 hd
  have hkr : rI k := rI_small (by omega) (by omega)
  have hpr : rI pl := rI_small (by omega) (by omega)
  have h1r : rI f.1 := rI_small (by have := hf.1; omega) (by have := hf.1; omega)
  have new : addsF f k pl = (k, pl) → c_v (t_u w0 m K) (.inl none) (tw w0 m (tw_sf (tw_sf S 16 k) 17 pl)) := by
    intro h
    refine ⟨rfl, _, rfl, H _ ?_ ?_ (fun i h1 h2 => ?_) rfl⟩
    · rw [h]; rfl
    · rw [h]; rfl
    · show (if i = 17 then pl else if i = 16 then k else S.1 i) = _
      rw [if_neg h2, if_neg h1]
  have old : addsF f k pl = f → c_v (t_u w0 m K) (.inl none) (tw w0 m S) := fun h => ⟨rfl, _, rfl, H S (by rw [h]; exact h16) (by rw [h]; exact h17) (fun _ _ _ => rfl) rfl⟩
  refine e_X2_addsFault _ _ _ (t_X2_addsFault_0 hm _ _ ?_)
  rw [h16, h17]
  refine ⟨h1r, ?_⟩
  unfold addsF at new old
  by_cases h0 : f.1 = 0
  · rw [if_pos h0] at new
    exact ifT h0 (new rfl)
  · rw [if_neg h0] at new old
    have h2 := hf.2 h0
    have h2r : rI f.2 := rI_small (by omega) (by omega)
    refine ifF h0 ⟨hpr, h2r, ?_⟩
    by_cases h3 : pl < f.2
    · rw [if_pos h3] at new
      exact ifT h3 (new rfl)
    · rw [if_neg h3] at new old
      refine ifF h3 ⟨hpr, h2r, ?_⟩
      by_cases h4 : pl = f.2
      · rw [if_pos h4] at new old
        refine ifT h4 ⟨h1r, hkr, ?_⟩
        by_cases h5 : f.1 ≤ k
        · rw [if_pos h5] at old
          exact ifT h5 (old rfl)
        · rw [if_neg h5] at new
          exact ifF h5 (new rfl)
      · rw [if_neg h4] at old
        exact ifF h4 (old rfl)
/-- faults are added while a line is read -/
theorem m_adds_r {q : Nat} {f : Int × Int} {g : Bool} {k pl : Int} {K : tw_S → Prop} (hm : pw_base E ≤ m) (hd : 1 ≤ d) (h : r_at T L S q f g) (hk : 1 ≤ k ∧ k ≤ 4) (hp : 0 ≤ pl ∧ pl ≤ 600) (H : ∀ S', r_at T L S' q (addsF f k pl) g → r_fr S S' → S'.2 = S.2 → (∀ i, i ≠ 16 → i ≠ 17 → S'.1 i = S.1 i) → K S') : pw_Cl E m_X2_addsFault d [va_rf (some m), .int (iI k), .int (iI pl)] (tw w0 m S) (c_v (t_u w0 m K)) := by
  obtain ⟨⟨a1, a2, a3, a4, a5, a6, a7⟩, ⟨b1, b2⟩, b3, b4⟩ := h
  refine m_addsFault_ok hm hd b1 b2 b4 hk hp (fun S' y1 y2 y3 y4 => H S' ⟨⟨by rw [y4]; exact a1, by rw [y3 10 (by omega) (by omega)]; exact a2, by rw [y3 11 (by omega) (by omega)]; exact a3, by rw [y3 9 (by omega) (by omega)]; exact a4, by rw [y3 12 (by omega) (by omega)]; exact a5, fun hq => by rw [y3 13 (by omega) (by omega)]; exact a6 hq, fun hq => by rw [y4]; exact a7 hq⟩, ⟨y1, y2⟩, by rw [y3 22 (by omega) (by omega)]; exact b3, (b4.adds hk hp).1⟩ ⟨fun i hi => y3 i (by rintro rfl; cases hi) (by rintro rfl; cases hi), fun q _ _ => by rw [y4]⟩ y4 y3)
/-- the next token, while a line is read -/
theorem m_token_r {q : Nat} {f : Int × Int} {g : Bool} {K : tw_S → Prop} (hm : pw_base E ≤ m) (hd : 2 ≤ d) (hl : 0 ≤ L ∧ L ≤ 600) (hq : (q : Int) ≤ L) (hT : S.2.2 1 = T) (hL : S.1 10 = L) (h9 : S.1 9 = k_next T L q) (h16 : S.1 16 = f.1 ∧ S.1 17 = f.2) (h22 : S.1 22 = b01 g) (hf : f_ok f) (H : ∀ S', r_at T L S' (k_go T L q) f g → k_fr S S' → K S') : pw_Cl E m_X2_token d [va_rf (some m)] (tw w0 m S) (c_v (t_u w0 m K)) := by
  have hn := (k_next_le (T := T) (L := L) (q := q)).2.1 hq
  refine m_token_ok hm hd hT hL hl h9 hn (fun S' y1 y2 => H S' ⟨y1, ⟨?_, ?_⟩, ?_, hf⟩ y2)
  · rw [y2.1 16 rfl]; exact h16.1
  · rw [y2.1 17 rfl]; exact h16.2
  · rw [y2.1 22 rfl]; exact h22
theorem m_take_ok {q : Nat} {f : Int × Int} {g : Bool} {k : Nat} {lo hi : Int} {K : Bool → tw_S → Prop} (hm : pw_base E ≤ m) (hd : 3 ≤ d) (hl : 0 ≤ L ∧ L ≤ 600) (hq : (q : Int) ≤ L) (h : r_at T L S q f g) (hk : k < 4) (hlo : rI lo) (hhi : rI hi) (H : (k_sort T L q = 3 → ∀ S', r_at T L S' (k_go T L q) (r_tkF T L q lo hi f) (g && decide (lo ≤ k_val T L q ∧ k_val T L q ≤ hi)) → r_fr S S' → S'.2.2 10 = (fun j => if j = k then k_val T L q else S.2.2 10 j) → S'.2.2 11 = S.2.2 11 → S'.1 21 = S.1 21 → K true S') ∧ (k_sort T L q ≠ 3 → ∀ S' : tw_S, S'.1 15 = (q : Int) → r_fr S S' → K false S')) : pw_Cl E m_X2_take d [va_rf (some m), .int (iI k), .int (iI lo), .int (iI hi)] (tw w0 m S) (c_z (t_b w0 m K)) := by
  obtain ⟨e, rfl, he⟩ := pw_d1 hd
  have hA := h
  obtain ⟨⟨a1, a2, a3, a4, a5, a6, a7⟩, ⟨b1, b2⟩, b3, b4⟩ := h
  refine e_X2_take _ _ _ _ (t_X2_take_0 hm _ _ _ ?_)
  have hsr : rI (S.1 12) := by
    rw [a5]
    unfold k_sort
    split
    · split
      · exact rI_small (by omega) (by omega)
      · split
        · split <;> exact rI_small (by omega) (by omega)
        · split <;> exact rI_small (by omega) (by omega)
    · exact rI_small (by omega) (by omega)
  refine ⟨hsr, ?_⟩
  by_cases hs : k_sort T L q = 3
  · have hv := k_val_r hs
    have H := H.1 hs
    rw [a6 hs]
    refine ifT (by rw [a5]; exact hs) ⟨by omega, by omega, m_in_ok hm (by omega) (rI_small (by omega) (by omega)) hlo hhi ?_⟩
    have ek : Int.toNat (k : Int) = k := by omega
    rw [ek]
    have arr : (tw_sa S 10 k (k_val T L q)).2.2 10 = fun j => if j = k then k_val T L q else S.2.2 10 j := by
      funext j
      show (if (10 : Nat) = 10 ∧ j = k then k_val T L q else S.2.2 10 j) = _
      by_cases hj : j = k
      · rw [if_pos ⟨rfl, hj⟩, if_pos hj]
      · rw [if_neg (fun h => hj h.2), if_neg hj]
    unfold r_tkF at H
    by_cases hin : lo ≤ k_val T L q ∧ k_val T L q ≤ hi
    · rw [decide_eq_true hin] at H ⊢
      rw [if_pos rfl] at H ⊢
      rw [Bool.and_true] at H
      refine m_token_r (q := q) (f := f) (g := g) hm (by omega) hl hq ?_ a2 a4 ⟨b1, b2⟩ b3 b4 (fun S' y1 y2 => ⟨true, rfl, S', rfl, H S' y1 ((r_fr.sa S 10 k _ (Or.inl rfl)).trans y2.r) ?_ ?_ ?_⟩)
      · exact a1
      · rw [y2.2]; exact arr
      · rw [y2.2]; rfl
      · rw [y2.1 21 rfl]; rfl
    · rw [decide_eq_false hin] at H ⊢
      rw [if_neg (by decide)] at H ⊢
      rw [Bool.and_false] at H
      have e11 : (tw_sa S 10 k (k_val T L q)).1 11 = q := a3
      rw [e11]
      have hA1 : r_at T L (tw_sa S 10 k (k_val T L q)) q f g := ⟨⟨a1, a2, a3, a4, a5, a6, a7⟩, ⟨b1, b2⟩, b3, b4⟩
      refine m_adds_r hm (by omega) hA1 ⟨by omega, by omega⟩ ⟨by omega, by omega⟩ (fun S1 y1 y2 y3 y4 => ?_)
      obtain ⟨⟨c1, c2, c3, c4, c5, c6, c7⟩, c8, c9, c10⟩ := y1
      refine m_token_r (q := q) (f := addsF f 2 q) (g := false) hm (by omega) hl hq c1 c2 c4 c8 rfl c10 (fun S' z1 z2 => ⟨true, rfl, S', rfl, H S' z1 ((r_fr.sa S 10 k _ (Or.inl rfl)).trans ((y2.trans (r_fr.sf S1 22 0 rfl)).trans z2.r)) ?_ ?_ ?_⟩)
      · rw [z2.2]
        show S1.2.2 10 = _
        rw [y3]; exact arr
      · rw [z2.2]
        show S1.2.2 11 = _
        rw [y3]; rfl
      · rw [z2.1 21 rfl]
        show S1.1 21 = _
        rw [y4 21 (by omega) (by omega)]; rfl
  · refine ifF (by rw [a5]; exact hs) (m_fails_ok hm (by omega) ⟨false, rfl, _, rfl, H.2 hs _ ?_ (r_fr.sf S 15 _ rfl)⟩)
    show S.1 11 = _
    exact a3
theorem m_numberOf_ok {w : Int64} {K : Int → tw_S → Prop} (hm : pw_base E ≤ m) (hd : 1 ≤ d) (H : K (n_of w) S) : pw_Cl E m_X2_numberOf d [.long w] (tw w0 m S) (c_i (t_i w0 m K)) := by
  obtain ⟨e, rfl, he⟩ := pw_d1 hd
  have loop : ∀ (f : Nat) (k n : Int), k = 8 * f - 8 → f ≤ 4 → K (n_ofF w f k n) S → pw_Wp E m_X2_numberOf (e + 1) 5 [some (.long w), none, some (.int (iI n)), some (.int (iI k)), none] [] (tw w0 m S) (c_i (t_i w0 m K)) := by
    intro f
    induction f with
    | zero =>
      intro k n hk hf H
      exact t_X2_numberOf_5 hm _ _ _ ⟨rI_small (by omega) (by omega), ifT (by omega) ⟨_, rfl, _, _, rfl, rfl, H⟩⟩
    | succ f ih =>
      intro k n hk hf H
      unfold n_ofF at H
      refine t_X2_numberOf_5 hm _ _ _ ⟨rI_small (by omega) (by omega), ifF (by omega) ?_⟩
      by_cases hc : Int32.toInt (((w >>> ((iI k).toInt64 &&& 63)) &&& 255).toInt32) = 0
      · rw [if_pos hc] at H
        exact ifT hc (ih _ _ (by omega) (by omega) H)
      · rw [if_neg hc] at H
        exact ifF hc (ih _ _ (by omega) (by omega) H)
  exact e_X2_numberOf _ (t_X2_numberOf_0 hm _ (loop 4 24 0 (by omega) (by omega) H))
end
