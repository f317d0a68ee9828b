set_option maxRecDepth 100000
/-! the twin: versions are made -/
def g_set (A : Nat → Int) (i x : Int) : Nat → Int := fun j => if j = Int.toNat i then x else A j
theorem g_set_at (A : Nat → Int) (i x : Int) : g_set A i x (Int.toNat i) = x := if_pos rfl
theorem g_set_ne {A : Nat → Int} {i x : Int} {j : Nat} (h : j ≠ Int.toNat i) : g_set A i x j = A j := if_neg h
def g_last (A : Nat → Int) (d : Int) : Int := 10 * d + (a_many A d - 1)
def g_beg0 (A : Nat → Int) (d : Int) : Nat → Int := g_set A (1 + d) (a_many A d + 1)
def g_begin (A : Nat → Int) (d date : Int) : Nat → Int := g_set (g_set (g_beg0 A d) (46 + g_last (g_beg0 A d) d) 0) (6 + g_last (g_beg0 A d) d) date
def g_add (A : Nat → Int) (d t : Int) : Nat → Int := if 20 ≤ A (Int.toNat (46 + g_last A d)) then A else g_set (g_set A (86 + 20 * g_last A d + A (Int.toNat (46 + g_last A d))) t) (46 + g_last A d) (A (Int.toNat (46 + g_last A d)) + 1)
def g_new (A : Nat → Int) (d w : Int) : Nat → Int := g_set (g_set (g_set A (886 + A 5) w) (1206 + A 5) d) 5 (min 319 (A 5 + 1))
def g_there (A : Nat → Int) (c r0 r1 r2 : Int) : Bool := if c = 0 then !decide (A (Int.toNat (46 + g_last A r0)) < r1) else if c = 1 then !decide (A (Int.toNat (46 + g_last A r0)) < r1 + r2) else if c = 2 then (if A (Int.toNat (46 + g_last A r0)) ≤ r1 then false else !decide (A (Int.toNat (46 + g_last A r0)) ≤ r2)) else !decide (a_many A r0 ≤ r1)
/-- what stays so while versions are made -/
def g_ok (A : Nat → Int) : Prop := (0 ≤ A 5 ∧ A 5 ≤ 319) ∧ (∀ d : Int, 0 ≤ d → d < 4 → 0 ≤ a_many A d ∧ a_many A d ≤ 10) ∧ ∀ l : Int, 0 ≤ l → l < 40 → 0 ≤ A (Int.toNat (46 + l)) ∧ A (Int.toNat (46 + l)) ≤ 20
theorem g_ok.last {A : Nat → Int} (h : g_ok A) {d : Int} (hd : 0 ≤ d ∧ d < 4) (h1 : 1 ≤ a_many A d) : 10 * d ≤ g_last A d ∧ g_last A d < 10 * d + 10 := by
  have := h.2.1 d hd.1 hd.2
  unfold g_last
  omega
theorem g_add_many {A : Nat → Int} (h : g_ok A) {d t e : Int} (hd : 0 ≤ d ∧ d < 4) (h1 : 1 ≤ a_many A d) (he : e < 4) : a_many (g_add A d t) e = a_many A e := by
  have hl := h.last hd h1
  have hn := h.2.2 (g_last A d) (by omega) (by omega)
  unfold g_add
  split
  · rfl
  · unfold a_many
    rw [g_set_ne (by omega), g_set_ne (by omega)]
theorem g_add_ok {A : Nat → Int} (h : g_ok A) {d t : Int} (hd : 0 ≤ d ∧ d < 4) (h1 : 1 ≤ a_many A d) : g_ok (g_add A d t) := by
  have hl := h.last hd h1
  have hn := h.2.2 (g_last A d) (by omega) (by omega)
  refine ⟨?_, fun e he1 he2 => ?_, fun l hl1 hl2 => ?_⟩
  · unfold g_add
    split
    · exact h.1
    · rw [g_set_ne (by omega), g_set_ne (by omega)]; exact h.1
  · rw [g_add_many h hd h1 he2]; exact h.2.1 e he1 he2
  · have hb := h.2.2 l hl1 hl2
    unfold g_add
    split
    · exact hb
    · by_cases hq : l = g_last A d
      · subst hq
        rw [g_set_at]
        omega
      · rw [g_set_ne (by omega), g_set_ne (by omega)]; exact hb
theorem g_new_many {A : Nat → Int} (h : g_ok A) {d w e : Int} (he : e < 4) : a_many (g_new A d w) e = a_many A e := by
  have h5 := h.1
  unfold g_new a_many
  rw [g_set_ne (by omega), g_set_ne (by omega), g_set_ne (by omega)]
theorem g_new_ok {A : Nat → Int} (h : g_ok A) (d w : Int) : g_ok (g_new A d w) := by
  have h5 := h.1
  refine ⟨?_, fun e he1 he2 => ?_, fun l hl1 hl2 => ?_⟩
  · show 0 ≤ g_set (g_set (g_set A (886 + A 5) w) (1206 + A 5) d) 5 (min 319 (A 5 + 1)) (Int.toNat 5) ∧ g_set (g_set (g_set A (886 + A 5) w) (1206 + A 5) d) 5 (min 319 (A 5 + 1)) (Int.toNat 5) ≤ 319
    rw [g_set_at]
    omega
  · rw [g_new_many h he2]; exact h.2.1 e he1 he2
  · have hb := h.2.2 l hl1 hl2
    unfold g_new
    rw [g_set_ne (by omega), g_set_ne (by omega), g_set_ne (by omega)]
    exact hb
theorem g_beg0_many {A : Nat → Int} {d : Int} (hd : 0 ≤ d) : a_many (g_beg0 A d) d = a_many A d + 1 := by
  unfold g_beg0
  show g_set A (1 + d) (a_many A d + 1) (Int.toNat (1 + d)) = _
  rw [g_set_at]
theorem g_begin_many {A : Nat → Int} (h : g_ok A) {d date e : Int} (hd : 0 ≤ d ∧ d < 4) (h9 : a_many A d ≤ 9) (he : 0 ≤ e ∧ e < 4) : a_many (g_begin A d date) e = if e = d then a_many A d + 1 else a_many A e := by
  have hb := g_beg0_many (A := A) hd.1
  have hm := h.2.1 d hd.1 hd.2
  have hl : 10 * d ≤ g_last (g_beg0 A d) d ∧ g_last (g_beg0 A d) d < 10 * d + 10 := by unfold g_last; omega
  have e1 : a_many (g_begin A d date) e = a_many (g_beg0 A d) e := by
    unfold g_begin a_many
    rw [g_set_ne (by omega), g_set_ne (by omega)]
  rw [e1]
  split
  · rename_i h; rw [h, hb]
  · unfold g_beg0 a_many
    rw [g_set_ne (by omega)]
theorem g_begin_ok {A : Nat → Int} (h : g_ok A) {d date : Int} (hd : 0 ≤ d ∧ d < 4) (h9 : a_many A d ≤ 9) : g_ok (g_begin A d date) := by
  have hb := g_beg0_many (A := A) hd.1
  have hm := h.2.1 d hd.1 hd.2
  have hl : 10 * d ≤ g_last (g_beg0 A d) d ∧ g_last (g_beg0 A d) d < 10 * d + 10 := by unfold g_last; omega
  refine ⟨?_, fun e he1 he2 => ?_, fun l hl1 hl2 => ?_⟩
  · unfold g_begin
    rw [g_set_ne (by omega), g_set_ne (by omega)]
    unfold g_beg0
    rw [g_set_ne (by omega)]
    exact h.1
  · rw [g_begin_many h hd h9 ⟨he1, he2⟩]
    split
    · omega
    · exact h.2.1 e he1 he2
  · have hq := h.2.2 l hl1 hl2
    unfold g_begin
    rw [g_set_ne (by omega)]
    by_cases hz : l = g_last (g_beg0 A d) d
    · rw [hz, g_set_at]; omega
    · rw [g_set_ne (by omega)]
      unfold g_beg0
      rw [g_set_ne (by omega)]
      exact hq
theorem tw_set_set (S : tw_S) (k : Nat) (X Y : Nat → Int) : tw_set (tw_set S k X) k Y = tw_set S k Y := by
  refine Prod.ext rfl (Prod.ext rfl (funext fun q => ?_))
  show (if q = k then Y else if q = k then X else S.2.2 q) = if q = k then Y else S.2.2 q
  split <;> rfl
theorem tw_sa_set (S : tw_S) (k i : Nat) (x : Int) : tw_sa S k i x = tw_set S k (fun j => if j = i then x else S.2.2 k j) := by
  refine Prod.ext rfl (Prod.ext rfl (funext fun q => funext fun n => ?_))
  show (if q = k ∧ n = i then x else S.2.2 q n) = (if q = k then fun j => if j = i then x else S.2.2 k j else S.2.2 q) n
  by_cases h : q = k
  · subst h
    simp
  · simp [h]
/-- the told archive set -/
theorem tw_sa9 (S : tw_S) (A : Nat → Int) (i x : Int) : tw_sa (tw_set S 9 A) 9 (Int.toNat i) x = tw_set S 9 (g_set A i x) := tw_set_sa S 9 A _ x
section
variable {E : pw_E} {w0 : pw_W} {m d : Nat} {S : tw_S}
theorem m_latest_ok {a : Int} {K : Int → tw_S → Prop} (hm : pw_base E ≤ m) (hd : 2 ≤ d) (ha : 0 ≤ a ∧ a < 4) (H : K (g_last (S.2.2 9) a) S) : pw_Cl E m_X2_latest d [va_rf (some m), .int (iI a)] (tw w0 m S) (c_i (t_i w0 m K)) := by
  obtain ⟨e, rfl, he⟩ := pw_d1 hd
  exact e_X2_latest _ _ (t_X2_latest_0 hm _ ⟨by omega, by omega, m_at_ok hm (by omega) ⟨_, rfl, _, _, rfl, rfl, H⟩⟩)
theorem m_beginVersion_ok {a : Int} {A : Nat → Int} {K : tw_S → Prop} (hm : pw_base E ≤ m) (hA : g_ok A) (hd : 3 ≤ d) (ha : 0 ≤ a ∧ a < 4) (h9 : a_many A a ≤ 9) (H : K (tw_set S 9 (g_begin A a (S.1 23)))) : pw_Cl E m_X2_beginVersion d [va_rf (some m), .int (iI a)] (tw w0 m (tw_set S 9 A)) (c_v (t_u w0 m K)) := by
  obtain ⟨e, rfl, he⟩ := pw_d1 hd
  have hm1 := hA.2.1 a ha.1 ha.2
  have hb := g_beg0_many (A := A) ha.1
  have hl : 10 * a ≤ g_last (g_beg0 A a) a ∧ g_last (g_beg0 A a) a < 10 * a + 10 := by unfold g_last; omega
  refine e_X2_beginVersion _ _ (t_X2_beginVersion_0 hm _ ⟨by omega, by omega, by omega, by omega, ?_⟩)
  rw [tw_sa9]
  refine m_latest_ok hm (by omega) ha ?_
  have e1 : (tw_set S 9 (g_set A (1 + a) ((tw_set S 9 A).2.2 9 (Int.toNat (1 + a)) + 1))) = tw_set S 9 (g_beg0 A a) := rfl
  rw [e1, tw_set_at]
  refine ⟨by omega, by omega, ?_⟩
  rw [tw_sa9]
  refine m_latest_ok hm (by omega) ha ?_
  rw [tw_set_at]
  have e2 : g_last (g_set (g_beg0 A a) (46 + g_last (g_beg0 A a) a) 0) a = g_last (g_beg0 A a) a := by
    have : a_many (g_set (g_beg0 A a) (46 + g_last (g_beg0 A a) a) 0) a = a_many (g_beg0 A a) a := by
      unfold a_many
      rw [g_set_ne (by omega)]
    show 10 * a + (a_many (g_set (g_beg0 A a) (46 + g_last (g_beg0 A a) a) 0) a - 1) = 10 * a + (a_many (g_beg0 A a) a - 1)
    rw [this]
  rw [e2]
  refine ⟨by omega, by omega, ?_⟩
  rw [tw_sa9]
  exact ⟨rfl, _, rfl, H⟩
theorem m_addWord_ok {a t : Int} {A : Nat → Int} {K : tw_S → Prop} (hm : pw_base E ≤ m) (hA : g_ok A) (hd : 3 ≤ d) (ha : 0 ≤ a ∧ a < 4) (h1 : 1 ≤ a_many A a) (H : K (tw_set S 9 (g_add A a t))) : pw_Cl E m_X2_addWord d [va_rf (some m), .int (iI a), .int (iI t)] (tw w0 m (tw_set S 9 A)) (c_v (t_u w0 m K)) := by
  obtain ⟨e, rfl, he⟩ := pw_d1 hd
  have hl := hA.last ha h1
  have hn := hA.2.2 (g_last A a) (by omega) (by omega)
  refine e_X2_addWord _ _ _ (t_X2_addWord_0 hm _ _ (m_latest_ok hm (by omega) ha ?_))
  rw [tw_set_at]
  refine ⟨by omega, by omega, rI_small (by omega) (by omega), ?_⟩
  unfold g_add at H
  by_cases h : 20 ≤ A (Int.toNat (46 + g_last A a))
  · rw [if_pos h] at H ⊢
    exact ⟨rfl, _, rfl, H⟩
  · rw [if_neg h] at H ⊢
    refine ⟨by omega, by omega, by omega, by omega, by omega, by omega, ?_⟩
    rw [tw_sa9, tw_sa9]
    refine ⟨rfl, _, rfl, ?_⟩
    rw [tw_set_at]
    have e1 : g_set A (86 + 20 * g_last A a + A (Int.toNat (46 + g_last A a))) t (Int.toNat (46 + g_last A a)) = A (Int.toNat (46 + g_last A a)) := g_set_ne (by omega)
    rw [e1]
    exact H
theorem m_newToken_ok {a w : Int} {A : Nat → Int} {K : Int → tw_S → Prop} (hm : pw_base E ≤ m) (hA : g_ok A) (hd : 2 ≤ d) (H : K (A 5) (tw_set S 9 (g_new A a w))) : pw_Cl E m_X2_newToken d [va_rf (some m), .int (iI a), .int (iI w)] (tw w0 m (tw_set S 9 A)) (c_i (t_i w0 m K)) := by
  obtain ⟨e, rfl, he⟩ := pw_d1 hd
  have h5 := hA.1
  refine e_X2_newToken _ _ _ (t_X2_newToken_0 hm _ _ ?_)
  rw [tw_set_at]
  refine ⟨by omega, by omega, by omega, by omega, ?_⟩
  rw [tw_sa9, tw_sa9]
  refine m_lesser_ok hm (by omega) (rI_small (by omega) (by omega)) (rI_small (by omega) (by omega)) ?_
  have := tw_sa9 S (g_set (g_set A (886 + A 5) w) (1206 + A 5) a) 5 (min 319 (A 5 + 1))
  rw [show Int.toNat 5 = 5 from rfl] at this
  rw [this]
  exact ⟨_, rfl, _, _, rfl, rfl, H⟩
theorem m_isThere_ok {c r0 r1 r2 : Int} {K : Bool → tw_S → Prop} (hm : pw_base E ≤ m) (hA : g_ok (S.2.2 9)) (hd : 3 ≤ d) (hc : rI c) (e0 : S.2.2 10 0 = r0) (e1 : S.2.2 10 1 = r1) (e2 : c = 1 ∨ c = 2 → S.2.2 10 2 = r2) (ha : 0 ≤ r0 ∧ r0 < 4) (h1 : 1 ≤ a_many (S.2.2 9) r0) (hr1 : -1 ≤ r1 ∧ r1 ≤ 1000) (hr2 : c = 1 ∨ c = 2 → -1 ≤ r2 ∧ r2 ≤ 1000) (H : K (g_there (S.2.2 9) c r0 r1 r2) S) : pw_Cl E m_X2_isThere d [va_rf (some m), .int (iI c)] (tw w0 m S) (c_z (t_b w0 m K)) := by
  obtain ⟨e, rfl, he⟩ := pw_d1 hd
  have hl := hA.last ha h1
  have hn := hA.2.2 (g_last (S.2.2 9) r0) (by omega) (by omega)
  have hm1 := hA.2.1 r0 ha.1 ha.2
  have hnr : rI (S.2.2 9 (Int.toNat (46 + g_last (S.2.2 9) r0))) := rI_small (by omega) (by omega)
  refine e_X2_isThere _ _ (t_X2_isThere_0 hm _ ?_)
  rw [e0]
  refine m_latest_ok hm (by omega) ha ⟨by omega, by omega, hc, ?_⟩
  rw [e0, e1]
  unfold g_there at H
  refine ifS2 H (fun h H => ⟨hnr, rI_small (by omega) (by omega), ?_⟩) (fun h H => ⟨hc, ifS2 H (fun h H => ⟨hnr, ?_, ?_⟩) (fun h H => ⟨hc, ifS2 H (fun h H => ?_) (fun h H => ⟨by omega, by omega, rI_small (by show -1000000000 ≤ a_many _ _; omega) (by show a_many _ _ ≤ 1000000000; omega), rI_small (by omega) (by omega), ?_⟩)⟩)⟩)
  · by_cases h9 : S.2.2 9 (Int.toNat (46 + g_last (S.2.2 9) r0)) < r1
    · rw [decide_eq_true h9] at H; rw [if_pos h9]; exact ⟨false, rfl, _, rfl, H⟩
    · rw [decide_eq_false h9] at H; rw [if_neg h9]; exact ⟨true, rfl, _, rfl, H⟩
  · have := hr2 (Or.inl h)
    rw [e2 (Or.inl h)]
    exact rI_small (by omega) (by omega)
  · rw [e2 (Or.inl h)]
    by_cases h9 : S.2.2 9 (Int.toNat (46 + g_last (S.2.2 9) r0)) < r1 + r2
    · rw [decide_eq_true h9] at H; rw [if_pos h9]; exact ⟨false, rfl, _, rfl, H⟩
    · rw [decide_eq_false h9] at H; rw [if_neg h9]; exact ⟨true, rfl, _, rfl, H⟩
  · have := hr2 (Or.inr h)
    rw [e2 (Or.inr h)]
    refine ⟨hnr, rI_small (by omega) (by omega), ifS2 H (fun h H => ⟨false, rfl, _, rfl, H⟩) (fun h H => ⟨hnr, rI_small (by omega) (by omega), ?_⟩)⟩
    by_cases h9 : S.2.2 9 (Int.toNat (46 + g_last (S.2.2 9) r0)) ≤ r2
    · rw [decide_eq_true h9] at H; rw [if_pos h9]; exact ⟨false, rfl, _, rfl, H⟩
    · rw [decide_eq_false h9] at H; rw [if_neg h9]; exact ⟨true, rfl, _, rfl, H⟩
  · show if a_many (S.2.2 9) r0 ≤ r1 then _ else _
    by_cases h9 : a_many (S.2.2 9) r0 ≤ r1
    · rw [decide_eq_true h9] at H; rw [if_pos h9]; exact ⟨false, rfl, _, rfl, H⟩
    · rw [decide_eq_false h9] at H; rw [if_neg h9]; exact ⟨true, rfl, _, rfl, H⟩
end
