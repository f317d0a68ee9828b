set_option maxRecDepth 100000
/-! the twin: passages -/
/-- the token behind t in a version -/
def a_then (A : Nat → Int) (d v t : Int) : Int := if a_place A d v t = -1 then -1 else if a_place A d v t + 1 < a_long A d v then a_tok A d v (a_place A d v t + 1) else -1
def a_bl (A : Nat → Int) (d t s : Int) : Nat → Nat → Int → Int
  | 0, _, b => if b ≠ -1 ∧ a_where A b = s then b else -1
  | n + 1, v, b => if s_has s v = true then (if a_then A d v t = -1 ∨ (b ≠ -1 ∧ a_then A d v t ≠ b) then -1 else a_bl A d t s n (v + 1) (a_then A d v t)) else a_bl A d t s n (v + 1) b
def a_behind (A : Nat → Int) (d t s : Int) : Int := a_bl A d t s (a_many A d).toNat 0 (-1)
theorem a_then_r {A : Nat → Int} {n d v t : Int} (hA : a_ok A n) (hd : 0 ≤ d ∧ d < 4) (hv : 0 ≤ v ∧ v < a_many A d) : a_then A d v t = -1 ∨ (0 ≤ a_then A d v t ∧ a_then A d v t < n) := by
  have hp := a_place_r A d v t
  unfold a_then
  split
  · exact Or.inl rfl
  · split
    · rename_i h1 h2
      exact Or.inr (hA.2.2.2.2.1 d v _ hd.1 hd.2 hv.1 hv.2 (by omega) h2)
    · exact Or.inl rfl
theorem a_bl_r {A : Nat → Int} {N d t s : Int} (hA : a_ok A N) (hd : 0 ≤ d ∧ d < 4) : ∀ (n v : Nat) (b : Int), (v : Int) + n = a_many A d → (b = -1 ∨ (0 ≤ b ∧ b < N)) → (a_bl A d t s n v b = -1 ∨ (0 ≤ a_bl A d t s n v b ∧ a_bl A d t s n v b < N)) := by
  intro n
  induction n with
  | zero =>
    intro v b _ hb
    unfold a_bl
    split
    · exact hb
    · exact Or.inl rfl
  | succ n ih =>
    intro v b hv hb
    unfold a_bl
    split
    · split
      · exact Or.inl rfl
      · exact ih _ _ (by omega) (a_then_r hA hd ⟨by omega, by omega⟩)
    · exact ih _ _ (by omega) hb
theorem a_behind_r {A : Nat → Int} {N d t s : Int} (hA : a_ok A N) (hd : 0 ≤ d ∧ d < 4) : a_behind A d t s = -1 ∨ (0 ≤ a_behind A d t s ∧ a_behind A d t s < N) := by
  have := hA.2.2.1 d hd.1 hd.2
  exact a_bl_r hA hd _ 0 _ (by omega) (Or.inl rfl)
section
variable {E : pw_E} {w0 : pw_W} {m d : Nat} {S : tw_S}
theorem m_behindOf_ok {a t s : Int} {K : Int → tw_S → Prop} (hm : pw_base E ≤ m) (hA : a_ok (S.2.2 9) (S.1 24)) (hd : 5 ≤ d) (ha : 0 ≤ a ∧ a < 4) (ht : rI t) (hs : rI s) (H : K (a_behind (S.2.2 9) a t s) S) : pw_Cl E m_X2_behindOf d [va_rf (some m), .int (iI a), .int (iI t), .int (iI s)] (tw w0 m S) (c_i (t_i w0 m K)) := by
  obtain ⟨e, rfl, he⟩ := pw_d1 hd
  have hn := hA.2.1
  have hv10 := hA.2.2.1 a ha.1 ha.2
  have loop : ∀ (n v : Nat) (b : Int), (v : Int) + n = a_many (S.2.2 9) a → (b = -1 ∨ (0 ≤ b ∧ b < S.1 24)) → K (a_bl (S.2.2 9) a t s n v b) S → pw_Wp E m_X2_behindOf (e + 1) 6 [some (va_rf (some m)), some (.int (iI a)), some (.int (iI t)), some (.int (iI s)), some (.int (iI b)), some (.int (iI v)), none, none] [] (tw w0 m S) (c_i (t_i w0 m K)) := by
    intro n
    induction n with
    | zero =>
      intro v b hv hb H
      refine t_X2_behindOf_6 hm _ _ _ _ _ (m_versions_ok hm (by omega) ha ⟨rI_small (by omega) (by omega), rI_small (by omega) (by omega), ?_⟩)
      rw [if_pos (by omega)]
      refine ⟨rI_small (by omega) (by omega), ?_⟩
      unfold a_bl at H
      by_cases h1 : b = -1
      · rw [if_pos h1]
        rw [if_neg (fun q => q.1 h1)] at H
        exact ⟨_, rfl, _, S, rfl, rfl, H⟩
      · rw [if_neg h1]
        refine m_whereIs_ok hm hA (by omega) (by omega) ⟨a_where_r _ _, hs, ?_⟩
        by_cases h2 : a_where (S.2.2 9) b = s
        · rw [if_pos h2]
          rw [if_pos ⟨h1, h2⟩] at H
          exact ⟨_, rfl, _, S, rfl, rfl, H⟩
        · rw [if_neg h2]
          rw [if_neg (fun q => h2 q.2)] at H
          exact ⟨_, rfl, _, S, rfl, rfl, H⟩
    | succ n ih =>
      intro v b hv hb H
      have hvv : (0 : Int) ≤ v ∧ (v : Int) < a_many (S.2.2 9) a := ⟨by omega, by omega⟩
      have hp := a_place_r (S.2.2 9) a v t
      have hl := hA.2.2.2.1 a v ha.1 ha.2 hvv.1 (by omega)
      have hth := a_then_r (t := t) hA ha hvv
      -- with `then` on the stack
      have mid : ∀ u : Int, (u = -1 ∨ (0 ≤ u ∧ u < S.1 24)) → (s_has s v = true → u = a_then (S.2.2 9) a v t) → pw_Wp E m_X2_behindOf (e + 1) 74 [some (va_rf (some m)), some (.int (iI a)), some (.int (iI t)), some (.int (iI s)), some (.int (iI b)), some (.int (iI v)), none, none] [.int (iI u)] (tw w0 m S) (c_i (t_i w0 m K)) := by
        intro u hu hq
        refine t_X2_behindOf_74 hm _ _ _ _ _ _ (m_has_ok (by omega) ?_)
        unfold a_bl at H
        cases hh : s_has s v with
        | false =>
          rw [if_neg (by decide)]
          refine m_has_ok (by omega) ?_
          rw [if_neg (by rw [hh]; decide)] at H ⊢
          exact ih (v + 1) b (by omega) hb H
        | true =>
          rw [if_pos rfl]
          rw [if_pos hh, ← hq hh] at H
          refine ⟨rI_small (by omega) (by omega), ?_⟩
          by_cases h1 : u = -1
          · rw [if_pos h1]
            rw [if_pos (Or.inl h1)] at H
            exact ⟨_, rfl, _, S, rfl, rfl, H⟩
          · rw [if_neg h1]
            refine ⟨rI_small (by omega) (by omega), ?_⟩
            by_cases h2 : b = -1
            · rw [if_pos h2]
              refine m_has_ok (by omega) ?_
              rw [if_neg (fun q => q.elim h1 (fun q => q.1 h2))] at H
              rw [if_pos hh]
              exact ih (v + 1) u (by omega) hu H
            · rw [if_neg h2]
              refine ⟨rI_small (by omega) (by omega), rI_small (by omega) (by omega), ?_⟩
              by_cases h3 : u = b
              · rw [if_pos h3]
                refine m_has_ok (by omega) ?_
                rw [if_neg (fun q => q.elim h1 (fun q => q.2 h3))] at H
                rw [if_pos hh]
                exact ih (v + 1) u (by omega) hu H
              · rw [if_neg h3]
                rw [if_pos (Or.inr ⟨h2, h3⟩)] at H
                exact ⟨_, rfl, _, S, rfl, rfl, H⟩
      refine t_X2_behindOf_6 hm _ _ _ _ _ (m_versions_ok hm (by omega) ha ⟨rI_small (by omega) (by omega), rI_small (by omega) (by omega), ?_⟩)
      rw [if_neg (by omega)]
      refine m_has_ok (by omega) ?_
      cases hh : s_has s v with
      | false =>
        rw [if_neg (by decide)]
        exact mid (-1) (Or.inl rfl) (fun q => by rw [hh] at q; cases q)
      | true =>
        rw [if_pos rfl]
        refine m_placeOf_ok hm hA (by omega) ha hvv ht ⟨rI_small (by omega) (by omega), ?_⟩
        unfold a_then at hth mid
        by_cases h1 : a_place (S.2.2 9) a v t = -1
        · rw [if_pos h1]
          exact mid (-1) (Or.inl rfl) (fun _ => by rw [if_pos h1])
        · rw [if_neg h1]
          rw [if_neg h1] at hth
          refine m_longOf_ok hm (by omega) ha ⟨hvv.1, by omega⟩ ⟨rI_small (by omega) (by omega), rI_small (by omega) (by omega), ?_⟩
          by_cases h2 : a_place (S.2.2 9) a v t + 1 < a_long (S.2.2 9) a v
          · rw [if_pos h2]
            rw [if_pos h2] at hth
            refine m_tokenAt_ok hm (by omega) ha ⟨hvv.1, by omega⟩ ⟨by omega, by omega⟩ ?_
            exact mid _ hth (fun _ => by rw [if_neg h1, if_pos h2])
          · rw [if_neg h2]
            exact mid (-1) (Or.inl rfl) (fun _ => by rw [if_neg h1, if_neg h2])
  exact e_X2_behindOf _ _ _ _ (t_X2_behindOf_0 hm _ _ _ (loop (a_many (S.2.2 9) a).toNat 0 (-1) (by omega) (Or.inl rfl) H))
end
