set_option maxRecDepth 100000
/-! the twin: passages and their lengths -/
theorem upto_last {c : Nat → Prop} [∀ k, Decidable (c k)] (n : Nat) (x : Int) {p : Nat} (hp : p < n) (hc : c p) : (p : Int) ≤ upto n (fun k (r : Int) => if c k then (k : Int) else r) x := by
  induction n with
  | zero => omega
  | succ n ih =>
    rw [upto_s]
    split
    · omega
    · rename_i h
      exact ih (by
        by_cases e : p = n
        · subst e; exact absurd hc h
        · omega)
theorem a_place_ge {A : Nat → Int} {d v u : Int} {p : Nat} (hp : (p : Int) < a_long A d v) (h : a_tok A d v p = u) : (p : Int) ≤ a_place A d v u := by
  unfold a_place
  exact upto_last (c := fun p => a_tok A d v p = u) _ _ (by omega) h
theorem a_bl_spec {A : Nat → Int} {d t s : Int} : ∀ (n v : Nat) (b u : Int), a_bl A d t s n v b = u → u ≠ -1 → a_where A u = s ∧ (b ≠ -1 → b = u) ∧ ∀ w : Nat, v ≤ w → w < v + n → s_has s w = true → a_then A d w t = u := by
  intro n
  induction n with
  | zero =>
    intro v b u h hu
    unfold a_bl at h
    split at h
    · rename_i q
      rw [h] at q
      exact ⟨q.2, fun _ => h, fun w h1 h2 => by omega⟩
    · exact absurd h.symm hu
  | succ n ih =>
    intro v b u h hu
    unfold a_bl at h
    split at h
    · rename_i hs
      split at h
      · exact absurd h.symm hu
      · rename_i q
        obtain ⟨q1, q2, q3⟩ := ih _ _ _ h hu
        have e := q2 (fun z => q (Or.inl z))
        refine ⟨q1, fun hb => ?_, fun w h1 h2 hw => ?_⟩
        · rcases Classical.em (a_then A d v t = b) with z | z
          · rw [← z]; exact e
          · exact absurd (Or.inr ⟨hb, z⟩) q
        · by_cases z : w = v
          · subst z; exact e
          · exact q3 w (by omega) (by omega) hw
    · rename_i hs
      obtain ⟨q1, q2, q3⟩ := ih _ _ _ h hu
      refine ⟨q1, q2, fun w h1 h2 hw => ?_⟩
      by_cases z : w = v
      · subst z; exact absurd hw hs
      · exact q3 w (by omega) (by omega) hw
/-- behind stands further on -/
theorem a_behind_up {A : Nat → Int} {n d t s u : Int} (hA : a_ok A n) (hd : 0 ≤ d ∧ d < 4) (h : a_behind A d t s = u) (hu : u ≠ -1) {v : Nat} (hv : (v : Int) < a_many A d) (hs : s_has s v = true) : a_place A d v t + 1 ≤ a_place A d v u := by
  have hv10 := hA.2.2.1 d hd.1 hd.2
  obtain ⟨-, -, q⟩ := a_bl_spec _ _ _ _ h hu
  have e := q v (by omega) (by omega) hs
  have hp := a_place_r A d v t
  unfold a_then at e
  split at e
  · exact absurd e.symm hu
  · split at e
    · rename_i h1 h2
      have hnn : ((a_place A d v t + 1).toNat : Int) = a_place A d v t + 1 := by omega
      have := a_place_ge (u := u) (p := (a_place A d v t + 1).toNat) (by rw [hnn]; exact h2) (by rw [hnn]; exact e)
      omega
    · exact absurd e.symm hu
/-- the length of the chain from t -/
def a_chain (A : Nat → Int) (d s : Int) : Nat → Int → Int
  | 0, _ => 0
  | f + 1, t => if t = -1 then 0 else 1 + a_chain A d s f (a_behind A d t s)
theorem a_chain_r (A : Nat → Int) (d s : Int) : ∀ (f : Nat) (t : Int), 0 ≤ a_chain A d s f t ∧ a_chain A d s f t ≤ f := by
  intro f
  induction f with
  | zero => intro t; exact ⟨Int.le_refl 0, Int.le_refl 0⟩
  | succ f ih =>
    intro t
    unfold a_chain
    split
    · omega
    · have := ih (a_behind A d t s)
      omega
/-- does a passage begin at t -/
def a_begins (A : Nat → Int) (n d t : Int) : Bool := decide (a_whose A t = d) && (!decide (a_where A t = 0) && !a_hasAhead A n d t (a_where A t))
def a_passN (A : Nat → Int) (n d : Int) : Int := upto n.toNat (fun t (c : Int) => if a_begins A n d t = true then c + 1 else c) 0
def a_passL (A : Nat → Int) (n d : Int) : Int := upto n.toNat (fun t (c : Int) => if a_begins A n d t = true then max c (a_chain A d (a_where A t) 21 t) else c) 0
section
variable {E : pw_E} {w0 : pw_W} {m d : Nat} {S : tw_S}
theorem m_chain {a s v3 v4 v5 : Int} {v2 : Bool} {Q : pw_R → pw_W → Prop} {v : Nat} {e : Nat} (hm : pw_base E ≤ m) (hA : a_ok (S.2.2 9) (S.1 24)) (he : 5 ≤ e) (ha : 0 ≤ a ∧ a < 4) (hs : rI s) (hv : (v : Int) < a_many (S.2.2 9) a) (hsv : s_has s v = true) (h4 : 0 ≤ v4 ∧ v4 ≤ 1000) : ∀ (f : Nat) (t c : Int), (t = -1 ∨ (0 ≤ t ∧ t < S.1 24 ∧ 20 ≤ a_place (S.2.2 9) a v t + f ∧ 0 < f)) → 0 ≤ c ∧ c + f ≤ 1000 →
    pw_Wp E m_X2_passages (e + 1) 8 [some (va_rf (some m)), some (.int (iI a)), some (.int (bI v2)), some (.int (iI v3)), some (.int (iI (max v4 (c + a_chain (S.2.2 9) a s f t)))), some (.int (iI (v5 + 1))), none, none, none] [] (tw w0 m S) Q →
    pw_Wp E m_X2_passages (e + 1) 71 [some (va_rf (some m)), some (.int (iI a)), some (.int (bI v2)), some (.int (iI v3)), some (.int (iI v4)), some (.int (iI v5)), some (.int (iI s)), some (.int (iI c)), some (.int (iI t))] [] (tw w0 m S) Q := by
  have hn := hA.2.1
  have hv10 := hA.2.2.1 a ha.1 ha.2
  have hl := hA.2.2.2.1 a v ha.1 ha.2 (by omega) (by omega)
  intro f
  induction f with
  | zero =>
    intro t c ht hc H
    have ht : t = -1 := by
      rcases ht with h | h
      · exact h
      · omega
    refine t_X2_passages_71 hm _ _ _ _ _ _ _ _ ⟨rI_small (by omega) (by omega), ?_⟩
    rw [if_pos ht]
    refine m_greater_ok hm (by omega) (rI_small (by omega) (by omega)) (rI_small (by omega) (by omega)) ?_
    unfold a_chain at H
    rw [Int.add_zero] at H
    exact H
  | succ f ih =>
    intro t c ht hc H
    refine t_X2_passages_71 hm _ _ _ _ _ _ _ _ ⟨rI_small (by omega) (by omega), ?_⟩
    unfold a_chain at H
    by_cases h1 : t = -1
    · rw [if_pos h1]
      rw [if_pos h1, Int.add_zero] at H
      exact m_greater_ok hm (by omega) (rI_small (by omega) (by omega)) (rI_small (by omega) (by omega)) H
    · rw [if_neg h1]
      rw [if_neg h1] at H
      have ht := ht.resolve_left h1
      refine m_behindOf_ok hm hA (by omega) ha (rI_small (by omega) (by omega)) hs ?_
      refine ih _ _ ?_ ⟨by omega, by omega⟩ (by rw [Int.add_assoc]; exact H)
      rcases a_behind_r (t := t) (s := s) hA ha with hb | hb
      · exact Or.inl hb
      · refine Or.inr ⟨hb.1, hb.2, ?_, ?_⟩
        · have := a_behind_up hA ha rfl (by omega) hv hsv (u := a_behind (S.2.2 9) a t s)
          omega
        · have := a_behind_up hA ha rfl (by omega) hv hsv (u := a_behind (S.2.2 9) a t s)
          have := a_place_r (S.2.2 9) a v (a_behind (S.2.2 9) a t s)
          omega
end
