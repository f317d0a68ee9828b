set_option maxRecDepth 100000
/-! the twin: a text's tokens -/
def c_at (T : Nat → Int) (L : Int) (p : Nat) : Int := if L ≤ (p : Int) then -1 else Int32.toInt (iI (T p) &&& 255)
theorem c_and (x : Int32) : 0 ≤ (x &&& 255).toInt ∧ (x &&& 255).toInt ≤ 255 := by
  have e : (x &&& 255).toInt = (x.toBitVec &&& 255#32).toInt := rfl
  have hn : (x.toBitVec &&& 255#32).toNat ≤ 255 := by
    rw [BitVec.toNat_and]
    exact Nat.and_le_right
  rw [e, BitVec.toInt_eq_toNat_of_lt (by omega)]
  omega
theorem c_at_r (T : Nat → Int) (L : Int) (p : Nat) : -1 ≤ c_at T L p ∧ c_at T L p ≤ 255 := by
  have := c_and (iI (T p))
  unfold c_at
  split <;> omega
theorem c_at_lt {T : Nat → Int} {L : Int} {p : Nat} (h : 0 ≤ c_at T L p) : (p : Int) < L := by
  unfold c_at at h
  split at h
  · omega
  · omega
def k_skipF (T : Nat → Int) (L : Int) : Nat → Nat → Nat
  | 0, p => p
  | f + 1, p => if c_at T L p = 10 ∨ c_at T L p = 32 then k_skipF T L f (p + 1) else p
def k_skip (T : Nat → Int) (L : Int) (p : Nat) : Nat := k_skipF T L (L.toNat - p) p
def k_runF (T : Nat → Int) (L lo hi : Int) : Nat → Nat → List Int
  | 0, _ => []
  | f + 1, p => if lo ≤ c_at T L p ∧ c_at T L p ≤ hi then c_at T L p :: k_runF T L lo hi f (p + 1) else []
def k_run (T : Nat → Int) (L lo hi : Int) (p : Nat) : List Int := k_runF T L lo hi (L.toNat - p) p
theorem k_skip_s {T : Nat → Int} {L : Int} {p : Nat} (h : c_at T L p = 10 ∨ c_at T L p = 32) : k_skip T L p = k_skip T L (p + 1) := by
  have := c_at_lt (T := T) (L := L) (p := p) (by omega)
  unfold k_skip
  obtain ⟨f, hf⟩ : ∃ f, L.toNat - p = f + 1 := ⟨L.toNat - p - 1, by omega⟩
  rw [hf, show L.toNat - (p + 1) = f by omega]
  show (if _ then _ else _) = _
  rw [if_pos h]
theorem k_skip_0 {T : Nat → Int} {L : Int} {p : Nat} (h : ¬ (c_at T L p = 10 ∨ c_at T L p = 32)) : k_skip T L p = p := by
  unfold k_skip
  cases hf : L.toNat - p with
  | zero => rfl
  | succ f =>
    show (if _ then _ else _) = _
    rw [if_neg h]
theorem k_run_c {T : Nat → Int} {L lo hi : Int} {p : Nat} (h0 : 0 ≤ lo) (h : lo ≤ c_at T L p ∧ c_at T L p ≤ hi) : k_run T L lo hi p = c_at T L p :: k_run T L lo hi (p + 1) := by
  have := c_at_lt (T := T) (L := L) (p := p) (by omega)
  unfold k_run
  obtain ⟨f, hf⟩ : ∃ f, L.toNat - p = f + 1 := ⟨L.toNat - p - 1, by omega⟩
  rw [hf, show L.toNat - (p + 1) = f by omega]
  show (if _ then _ else _) = _
  rw [if_pos h]
theorem k_run_n {T : Nat → Int} {L lo hi : Int} {p : Nat} (h : ¬ (lo ≤ c_at T L p ∧ c_at T L p ≤ hi)) : k_run T L lo hi p = [] := by
  unfold k_run
  cases hf : L.toNat - p with
  | zero => rfl
  | succ f =>
    show (if _ then _ else _) = _
    rw [if_neg h]
theorem k_run_le (T : Nat → Int) (L lo hi : Int) : ∀ (f p : Nat), (k_runF T L lo hi f p).length ≤ f
  | 0, _ => Nat.le_refl 0
  | f + 1, p => by
    unfold k_runF
    split
    · exact Nat.succ_le_succ (k_run_le T L lo hi f (p + 1))
    · exact Nat.zero_le _
theorem k_skip_le (T : Nat → Int) (L : Int) : ∀ (f p : Nat), p ≤ k_skipF T L f p ∧ k_skipF T L f p ≤ p + f
  | 0, p => ⟨Nat.le_refl p, Nat.le_refl p⟩
  | f + 1, p => by
    have := k_skip_le T L f (p + 1)
    unfold k_skipF
    split <;> omega
def k_put8 (w : Int64) (c : Int) : Int64 := (w <<< ((8 : Int32).toInt64 &&& 63)) ||| (iI c).toInt64
def k_fold (w : Int64) (ls : List Int) : Int64 := ls.foldl k_put8 w
def k_long (ls : List Int) : Int64 := if ls.length ≤ 8 then k_fold 0 ls else 0
def k_valF : Nat → Int → List Int → Int
  | _, v, [] => v
  | n, v, c :: ds => k_valF (n + 1) (if 2 ≤ n then v else 10 * v + c - 48) ds
/-- the token at p: its sort, where it begins, what is reached, a number's value, a word's letters -/
def k_sort (T : Nat → Int) (L : Int) (q : Nat) : Int := if 0 ≤ c_at T L q then (if 97 ≤ c_at T L q ∧ c_at T L q ≤ 122 then 2 else if 48 ≤ c_at T L q ∧ c_at T L q ≤ 57 then (if (k_run T L 48 57 q).length ≤ 2 then 3 else 1) else if c_at T L q = 59 then 4 else 1) else 0
def k_next (T : Nat → Int) (L : Int) (q : Nat) : Nat := if 0 ≤ c_at T L q then (if 97 ≤ c_at T L q ∧ c_at T L q ≤ 122 then q + (k_run T L 97 122 q).length else if 48 ≤ c_at T L q ∧ c_at T L q ≤ 57 then q + (k_run T L 48 57 q).length else q + 1) else q
def k_val (T : Nat → Int) (L : Int) (q : Nat) : Int := k_valF 0 0 (k_run T L 48 57 q)
def k_let (T : Nat → Int) (L : Int) (q : Nat) : List Int := k_run T L 97 122 q
theorem k_next_le {T : Nat → Int} {L : Int} {q : Nat} : q ≤ k_next T L q ∧ ((q : Int) ≤ L → (k_next T L q : Int) ≤ L) ∧ (0 ≤ c_at T L q → q < k_next T L q) := by
  have h1 := k_run_le T L 97 122 (L.toNat - q) q
  have h2 := k_run_le T L 48 57 (L.toNat - q) q
  unfold k_next
  by_cases h : 0 ≤ c_at T L q
  · have hl := c_at_lt h
    rw [if_pos h]
    split
    · rename_i h9
      have := k_run_c (T := T) (L := L) (p := q) (by omega) h9
      have h3 : (k_run T L 97 122 q).length = (k_run T L 97 122 (q + 1)).length + 1 := by rw [this]; rfl
      have h4 : (k_run T L 97 122 q).length ≤ L.toNat - q := h1
      omega
    · split
      · rename_i h8 h9
        have := k_run_c (T := T) (L := L) (p := q) (by omega) h9
        have h3 : (k_run T L 48 57 q).length = (k_run T L 48 57 (q + 1)).length + 1 := by rw [this]; rfl
        have h4 : (k_run T L 48 57 q).length ≤ L.toNat - q := h2
        omega
      · omega
  · rw [if_neg h]
    omega
/-- the twin's fields stand at the token that begins at q -/
def k_at (T : Nat → Int) (L : Int) (S : tw_S) (q : Nat) : Prop := S.2.2 1 = T ∧ S.1 10 = L ∧ S.1 11 = q ∧ S.1 9 = k_next T L q ∧ S.1 12 = k_sort T L q ∧ (k_sort T L q = 3 → S.1 13 = k_val T L q) ∧ (k_sort T L q = 2 → S.2.1 = k_long (k_let T L q))
/-- but for the token the same -/
def k_fr (S S' : tw_S) : Prop := (∀ i : Nat, (decide (i = 9) || decide (i = 11) || decide (i = 12) || decide (i = 13)) = false → S'.1 i = S.1 i) ∧ S'.2.2 = S.2.2
theorem k_fr.refl (S : tw_S) : k_fr S S := ⟨fun _ _ => rfl, rfl⟩
theorem k_fr.trans {S S' S'' : tw_S} (h : k_fr S S') (h' : k_fr S' S'') : k_fr S S'' := ⟨fun i hi => (h'.1 i hi).trans (h.1 i hi), h'.2.trans h.2⟩
theorem k_fr.sf (S : tw_S) (j : Nat) (x : Int) (hj : (decide (j = 9) || decide (j = 11) || decide (j = 12) || decide (j = 13)) = true) : k_fr S (tw_sf S j x) := by
  refine ⟨fun i hi => ?_, rfl⟩
  show (if i = j then x else S.1 i) = _
  rw [if_neg]
  rintro rfl
  rw [hj] at hi
  cases hi
theorem k_fr.sl (S : tw_S) (x : Int64) : k_fr S (tw_sl S x) := ⟨fun _ _ => rfl, rfl⟩
section
variable {E : pw_E} {w0 : pw_W} {m d : Nat} {S : tw_S} {T : Nat → Int} {L : Int}
theorem m_see_ok {p : Nat} {K : Int → tw_S → Prop} (hm : pw_base E ≤ m) (hd : 1 ≤ d) (hT : S.2.2 1 = T) (hL : S.1 10 = L) (h9 : S.1 9 = p) (hl : 0 ≤ L ∧ L ≤ 600) (hp : (p : Int) ≤ L) (H : K (c_at T L p) S) : pw_Cl E m_X2_see d [va_rf (some m)] (tw w0 m S) (c_i (t_i w0 m K)) := by
  obtain ⟨e, rfl, he⟩ := pw_d1 hd
  refine e_X2_see _ (t_X2_see_0 hm ?_)
  rw [hT, hL, h9]
  unfold c_at at H
  refine ⟨rI_small (by omega) (by omega), rI_small (by omega) (by omega), ifS2 H (fun h H => ⟨_, rfl, _, _, rfl, rfl, H⟩) (fun h H => ⟨by omega, by omega, _, rfl, _, _, rfl, rfl, H⟩)⟩
theorem m_tokenLet {K : tw_S → Prop} (hm : pw_base E ≤ m) (hd : 1 ≤ d) (hl : 0 ≤ L ∧ L ≤ 600) : ∀ (ls : List Int) (p n : Nat) (S : tw_S), k_run T L 97 122 p = ls → S.2.2 1 = T → S.1 10 = L → S.1 9 = p → (p : Int) ≤ L → n ≤ p → (∀ S', k_fr S S' → S'.1 11 = S.1 11 → S'.1 13 = S.1 13 → S'.1 9 = (p + ls.length : Nat) → S'.1 12 = 2 → S'.2.1 = (if n + ls.length ≤ 8 then k_fold S.2.1 ls else 0) → K S') → pw_Wp E m_X2_token (d + 1) 74 [some (va_rf (some m)), none, some (.int (iI n))] [] (tw w0 m S) (c_v (t_u w0 m K)) := by
  intro ls
  induction ls with
  | nil =>
    intro p n S hr hT hL h9 hp hn H
    have hc := c_at_r T L p
    have hno : ¬ (97 ≤ c_at T L p ∧ c_at T L p ≤ 122) := by
      intro h
      rw [k_run_c (by omega) h] at hr
      cases hr
    refine t_X2_token_74 hm _ (m_see_ok hm hd hT hL h9 hl hp (m_in_ok hm hd (rI_small (by omega) (by omega)) (rI_small (by omega) (by omega)) (rI_small (by omega) (by omega)) ?_))
    rw [if_neg (fun h => hno (of_decide_eq_true h))]
    refine ⟨rI_small (by omega) (by omega), ?_⟩
    by_cases h8 : n ≤ 8
    · refine ifT (by omega) ⟨rfl, _, rfl, H _ ((k_fr.sl S _).trans (k_fr.sf _ 12 2 rfl)) rfl rfl h9 rfl ?_⟩
      show S.2.1 = if n + 0 ≤ 8 then S.2.1 else 0
      rw [if_pos (by omega)]
    · refine ifF (by omega) ⟨rfl, _, rfl, H _ ((k_fr.sl S _).trans (k_fr.sf _ 12 2 rfl)) rfl rfl h9 rfl ?_⟩
      show 0 = if n + 0 ≤ 8 then S.2.1 else 0
      rw [if_neg (by omega)]
  | cons c ls ih =>
    intro p n S hr hT hL h9 hp hn H
    have hc := c_at_r T L p
    have hyes : 97 ≤ c_at T L p ∧ c_at T L p ≤ 122 := by
      apply Classical.byContradiction
      intro h
      rw [k_run_n h] at hr
      cases hr
    have hlt := c_at_lt (T := T) (L := L) (p := p) (by omega)
    rw [k_run_c (by omega) hyes] at hr
    obtain ⟨hc1, hr1⟩ := List.cons.inj hr
    refine t_X2_token_74 hm _ (m_see_ok hm hd hT hL h9 hl hp (m_in_ok hm hd (rI_small (by omega) (by omega)) (rI_small (by omega) (by omega)) (rI_small (by omega) (by omega)) ?_))
    rw [if_pos (decide_eq_true hyes)]
    refine m_see_ok hm hd hT hL h9 hl hp ?_
    have e9 : (tw_sf (tw_sl S (S.2.1 <<< ((8 : Int32).toInt64 &&& 63) ||| (iI (c_at T L p)).toInt64)) 9 (S.1 9 + 1)).1 9 = ((p + 1 : Nat) : Int) := by
      show S.1 9 + 1 = _
      omega
    refine ih (p + 1) (n + 1) _ hr1 hT hL e9 (by omega) (by omega) (fun S' q1 q2 q3 q4 q5 q6 => ?_)
    refine H S' (((k_fr.sl S _).trans (k_fr.sf _ 9 _ rfl)).trans q1) q2 q3 ?_ q5 ?_
    · rw [q4, List.length_cons, show p + 1 + ls.length = p + (ls.length + 1) by omega]
    · rw [q6, List.length_cons, show n + 1 + ls.length = n + (ls.length + 1) by omega, ← hc1]
      rfl
theorem m_tokenNum {K : tw_S → Prop} (hm : pw_base E ≤ m) (hd : 1 ≤ d) (hl : 0 ≤ L ∧ L ≤ 600) : ∀ (ls : List Int) (p n : Nat) (S : tw_S), k_run T L 48 57 p = ls → S.2.2 1 = T → S.1 10 = L → S.1 9 = p → (p : Int) ≤ L → n ≤ p → (∀ S', k_fr S S' → S'.1 11 = S.1 11 → S'.1 13 = k_valF n (S.1 13) ls → S'.1 9 = (p + ls.length : Nat) → S'.1 12 = (if n + ls.length ≤ 2 then 3 else 1) → S'.2.1 = S.2.1 → K S') → pw_Wp E m_X2_token (d + 1) 163 [some (va_rf (some m)), none, some (.int (iI n))] [] (tw w0 m S) (c_v (t_u w0 m K)) := by
  intro ls
  induction ls with
  | nil =>
    intro p n S hr hT hL h9 hp hn H
    have hc := c_at_r T L p
    have hno : ¬ (48 ≤ c_at T L p ∧ c_at T L p ≤ 57) := by
      intro h
      rw [k_run_c (by omega) h] at hr
      cases hr
    refine t_X2_token_163 hm _ (m_see_ok hm hd hT hL h9 hl hp (m_in_ok hm hd (rI_small (by omega) (by omega)) (rI_small (by omega) (by omega)) (rI_small (by omega) (by omega)) ?_))
    rw [if_neg (fun h => hno (of_decide_eq_true h))]
    refine ⟨rI_small (by omega) (by omega), ?_⟩
    by_cases h8 : n ≤ 2
    · refine ifT (by omega) ⟨rfl, _, rfl, H _ (k_fr.sf S 12 3 rfl) rfl rfl h9 ?_ rfl⟩
      show (3 : Int) = if n + 0 ≤ 2 then 3 else 1
      rw [if_pos (by omega)]
    · refine ifF (by omega) ⟨rfl, _, rfl, H _ (k_fr.sf S 12 1 rfl) rfl rfl h9 ?_ rfl⟩
      show (1 : Int) = if n + 0 ≤ 2 then 3 else 1
      rw [if_neg (by omega)]
  | cons c ls ih =>
    intro p n S hr hT hL h9 hp hn H
    have hc := c_at_r T L p
    have hyes : 48 ≤ c_at T L p ∧ c_at T L p ≤ 57 := by
      apply Classical.byContradiction
      intro h
      rw [k_run_n h] at hr
      cases hr
    have hlt := c_at_lt (T := T) (L := L) (p := p) (by omega)
    rw [k_run_c (by omega) hyes] at hr
    obtain ⟨hc1, hr1⟩ := List.cons.inj hr
    refine t_X2_token_163 hm _ (m_see_ok hm hd hT hL h9 hl hp (m_in_ok hm hd (rI_small (by omega) (by omega)) (rI_small (by omega) (by omega)) (rI_small (by omega) (by omega)) ?_))
    rw [if_pos (decide_eq_true hyes)]
    have go : ∀ x : Int, x = (if 2 ≤ n then S.1 13 else 10 * S.1 13 + c - 48) → pw_Wp E m_X2_token (d + 1) 163 [some (va_rf (some m)), none, some (.int (iI ((n : Int) + 1)))] [] (tw w0 m (tw_sf (tw_sf S 13 x) 9 (S.1 9 + 1))) (c_v (t_u w0 m K)) := by
      intro x hx
      have e9 : (tw_sf (tw_sf S 13 x) 9 (S.1 9 + 1)).1 9 = ((p + 1 : Nat) : Int) := by
        show S.1 9 + 1 = _
        omega
      refine ih (p + 1) (n + 1) _ hr1 hT hL e9 (by omega) (by omega) (fun S' q1 q2 q3 q4 q5 q6 => ?_)
      refine H S' (((k_fr.sf S _ _ rfl).trans (k_fr.sf _ 9 _ rfl)).trans q1) q2 ?_ ?_ ?_ q6
      · rw [q3]
        show k_valF (n + 1) x ls = k_valF (n + 1) (if 2 ≤ n then S.1 13 else 10 * S.1 13 + c - 48) ls
        rw [hx]
      · rw [q4, List.length_cons, show p + 1 + ls.length = p + (ls.length + 1) by omega]
      · rw [q5, List.length_cons, show n + 1 + ls.length = n + (ls.length + 1) by omega]
    refine ⟨rI_small (by omega) (by omega), ?_⟩
    by_cases h2 : 2 ≤ n
    · exact ifT (by omega) (go _ (by rw [if_pos h2]))
    · refine ifF (by omega) (m_see_ok hm hd hT hL h9 hl hp (go _ ?_))
      rw [if_neg h2, hc1]
theorem m_token_ok {p : Nat} {K : tw_S → Prop} (hm : pw_base E ≤ m) (hd : 2 ≤ d) (hT : S.2.2 1 = T) (hL : S.1 10 = L) (hl : 0 ≤ L ∧ L ≤ 600) (h9 : S.1 9 = p) (hp : (p : Int) ≤ L) (H : ∀ S', k_at T L S' (k_skip T L p) → k_fr S S' → K S') : pw_Cl E m_X2_token d [va_rf (some m)] (tw w0 m S) (c_v (t_u w0 m K)) := by
  obtain ⟨e, rfl, he⟩ := pw_d1 hd
  refine e_X2_token _ ?_
  have loop : ∀ (f p : Nat) (S : tw_S), p + f = L.toNat → S.2.2 1 = T → S.1 10 = L → S.1 9 = p → (∀ S', k_at T L S' (k_skip T L p) → k_fr S S' → K S') → pw_Wp E m_X2_token (e + 1) 0 [some (va_rf (some m)), none, none] [] (tw w0 m S) (c_v (t_u w0 m K)) := by
    intro f
    induction f with
    | zero =>
      intro p S hf hT hL h9 H
      have hc : c_at T L p = -1 := by unfold c_at; rw [if_pos (by omega)]
      rw [k_skip_0 (by omega)] at H
      refine t_X2_token_0 hm (m_see_ok hm (by omega) hT hL h9 hl (by omega) ?_)
      rw [hc]
      refine ⟨rI_small (by omega) (by omega), ifF (by omega) (m_see_ok hm (by omega) hT hL h9 hl (by omega) ?_)⟩
      rw [hc]
      refine ⟨rI_small (by omega) (by omega), ifF (by omega) (m_see_ok (p := p) hm (by omega) hT hL h9 hl (by omega) ?_)⟩
      rw [hc]
      refine ⟨rI_small (by omega) (by omega), ifF (by omega) ⟨rfl, _, rfl, H _ ⟨hT, hL, h9, ?_, ?_, ?_, ?_⟩ (((k_fr.sf S 11 _ rfl).trans (k_fr.sl _ _)).trans (k_fr.sf _ 12 0 rfl))⟩⟩
      · show S.1 9 = _
        unfold k_next
        rw [if_neg (by omega), h9]
      · show (0 : Int) = _
        unfold k_sort
        rw [if_neg (by omega)]
      · unfold k_sort
        rw [if_neg (by omega)]
        intro h; omega
      · unfold k_sort
        rw [if_neg (by omega)]
        intro h; omega
    | succ f ih =>
      intro p S hf hT hL h9 H
      have hc := c_at_r T L p
      have hcr : rI (c_at T L p) := rI_small (by omega) (by omega)
      have e9 : (tw_sf S 9 (S.1 9 + 1)).1 9 = ((p + 1 : Nat) : Int) := by
        show S.1 9 + 1 = _
        omega
      refine t_X2_token_0 hm (m_see_ok hm (by omega) hT hL h9 hl (by omega) ⟨hcr, ?_⟩)
      by_cases h10 : c_at T L p = 10
      · refine ifT h10 (ih (p + 1) _ (by omega) hT hL e9 (fun S' q1 q2 => H S' ?_ ((k_fr.sf S 9 _ rfl).trans q2)))
        rw [k_skip_s (Or.inl h10)]
        exact q1
      · refine ifF h10 (m_see_ok hm (by omega) hT hL h9 hl (by omega) ⟨hcr, ?_⟩)
        by_cases h32 : c_at T L p = 32
        · refine ifT h32 (ih (p + 1) _ (by omega) hT hL e9 (fun S' q1 q2 => H S' ?_ ((k_fr.sf S 9 _ rfl).trans q2)))
          rw [k_skip_s (Or.inr h32)]
          exact q1
        · rw [k_skip_0 (by omega)] at H
          refine ifF h32 (m_see_ok (p := p) hm (by omega) hT hL h9 hl (by omega) ⟨hcr, ?_⟩)
          have hlt : (p : Int) < L := by omega
          have h0 : 0 ≤ c_at T L p := by
            have := c_and (iI (T p))
            unfold c_at
            rw [if_neg (by omega)]
            exact this.1
          refine ifT h0 (m_in_ok hm (by omega) hcr (rI_small (by omega) (by omega)) (rI_small (by omega) (by omega)) ?_)
          by_cases hlet : 97 ≤ c_at T L p ∧ c_at T L p ≤ 122
          · rw [if_pos (decide_eq_true hlet)]
            have hs : k_sort T L p = 2 := by unfold k_sort; rw [if_pos h0, if_pos hlet]
            have hn : k_next T L p = p + (k_let T L p).length := by unfold k_next; rw [if_pos h0, if_pos hlet]; rfl
            refine m_tokenLet hm (by omega) hl (k_let T L p) p 0 _ rfl hT hL h9 (by omega) (by omega) (fun S' q1 q2 q3 q4 q5 q6 => H S' ⟨?_, ?_, ?_, ?_, ?_, ?_, ?_⟩ (((k_fr.sf S 11 _ rfl).trans (k_fr.sl _ _)).trans q1))
            · rw [q1.2]; exact hT
            · rw [q1.1 10 rfl]; exact hL
            · rw [q2]; exact h9
            · rw [q4, hn]
            · rw [q5, hs]
            · intro h; rw [hs] at h; omega
            · intro _
              rw [q6, Nat.zero_add]
              rfl
          · rw [if_neg (fun h => hlet (of_decide_eq_true h))]
            refine m_in_ok hm (by omega) hcr (rI_small (by omega) (by omega)) (rI_small (by omega) (by omega)) ?_
            by_cases hdig : 48 ≤ c_at T L p ∧ c_at T L p ≤ 57
            · rw [if_pos (decide_eq_true hdig)]
              have hs : k_sort T L p = if (k_run T L 48 57 p).length ≤ 2 then 3 else 1 := by unfold k_sort; rw [if_pos h0, if_neg hlet, if_pos hdig]
              have hn : k_next T L p = p + (k_run T L 48 57 p).length := by unfold k_next; rw [if_pos h0, if_neg hlet, if_pos hdig]
              refine m_tokenNum hm (by omega) hl (k_run T L 48 57 p) p 0 _ rfl hT hL h9 (by omega) (by omega) (fun S' q1 q2 q3 q4 q5 q6 => H S' ⟨?_, ?_, ?_, ?_, ?_, ?_, ?_⟩ ((((k_fr.sf S 11 _ rfl).trans (k_fr.sl _ _)).trans (k_fr.sf _ 13 0 rfl)).trans q1))
              · rw [q1.2]; exact hT
              · rw [q1.1 10 rfl]; exact hL
              · rw [q2]; exact h9
              · rw [q4, hn]
              · rw [q5, hs, Nat.zero_add]
              · intro _; rw [q3]; rfl
              · intro h
                rw [hs] at h
                split at h <;> omega
            · rw [if_neg (fun h => hdig (of_decide_eq_true h))]
              have hn : k_next T L p = p + 1 := by unfold k_next; rw [if_pos h0, if_neg hlet, if_neg hdig]
              have hs : k_sort T L p = if c_at T L p = 59 then 4 else 1 := by unfold k_sort; rw [if_pos h0, if_neg hlet, if_neg hdig]
              refine ⟨hcr, ?_⟩
              by_cases h59 : c_at T L p = 59
              · rw [if_pos h59] at hs
                refine ifT h59 ⟨rfl, _, rfl, H _ ⟨hT, hL, h9, ?_, hs.symm, ?_, ?_⟩ ((((k_fr.sf S 11 _ rfl).trans (k_fr.sl _ _)).trans (k_fr.sf _ 9 _ rfl)).trans (k_fr.sf _ 12 _ rfl))⟩
                · rw [hn]
                  show S.1 9 + 1 = _
                  omega
                · intro h; rw [hs] at h; omega
                · intro h; rw [hs] at h; omega
              · rw [if_neg h59] at hs
                refine ifF h59 ⟨rfl, _, rfl, H _ ⟨hT, hL, h9, ?_, hs.symm, ?_, ?_⟩ ((((k_fr.sf S 11 _ rfl).trans (k_fr.sl _ _)).trans (k_fr.sf _ 9 _ rfl)).trans (k_fr.sf _ 12 _ rfl))⟩
                · rw [hn]
                  show S.1 9 + 1 = _
                  omega
                · intro h; rw [hs] at h; omega
                · intro h; rw [hs] at h; omega
  exact loop (L.toNat - p) p S (by omega) hT hL h9 H
end
