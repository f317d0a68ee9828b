set_option maxRecDepth 100000
/-! the twin: common, word -/
def a_lcsR (A : Nat → Int) (a v b u : Int) (i : Nat) (r : Nat → Int) : Nat → Int
  | 0 => 0
  | j + 1 => if a_wordAt A a v i = a_wordAt A b u j then r j + 1 else max (r (j + 1)) (a_lcsR A a v b u i r j)
/-- the longest row that is left of the first i words of one, the first j of the other -/
def a_lcs (A : Nat → Int) (a v b u : Int) : Nat → Nat → Int
  | 0 => fun _ => 0
  | i + 1 => a_lcsR A a v b u i (a_lcs A a v b u i)
theorem a_lcs_r (A : Nat → Int) (a v b u : Int) : ∀ i j : Nat, 0 ≤ a_lcs A a v b u i j ∧ a_lcs A a v b u i j ≤ i := by
  intro i
  induction i with
  | zero => intro j; exact ⟨Int.le_refl 0, Int.le_refl 0⟩
  | succ i ih =>
    intro j
    induction j with
    | zero => exact ⟨Int.le_refl 0, by show (0 : Int) ≤ _; omega⟩
    | succ j ij =>
      show 0 ≤ (if a_wordAt A a v i = a_wordAt A b u j then a_lcs A a v b u i j + 1 else max (a_lcs A a v b u i (j + 1)) (a_lcs A a v b u (i + 1) j)) ∧ _ ≤ ((i + 1 : Nat) : Int)
      have h1 := ih j
      have h2 := ih (j + 1)
      split
      · rename_i h
        show _ ∧ (if a_wordAt A a v i = a_wordAt A b u j then a_lcs A a v b u i j + 1 else max (a_lcs A a v b u i (j + 1)) (a_lcs A a v b u (i + 1) j)) ≤ _
        rw [if_pos h]
        omega
      · rename_i h
        show _ ∧ (if a_wordAt A a v i = a_wordAt A b u j then a_lcs A a v b u i j + 1 else max (a_lcs A a v b u i (j + 1)) (a_lcs A a v b u (i + 1) j)) ≤ _
        rw [if_neg h]
        omega
theorem a_lcs_s (A : Nat → Int) (a v b u : Int) (i j : Nat) : a_lcs A a v b u (i + 1) (j + 1) = if a_wordAt A a v i = a_wordAt A b u j then a_lcs A a v b u i j + 1 else max (a_lcs A a v b u i (j + 1)) (a_lcs A a v b u (i + 1) j) := rfl
theorem a_times_r (A : Nat → Int) (d v w : Int) : 0 ≤ a_times A d v w ∧ a_times A d v w ≤ (a_long A d v).toNat := upto_cnt (c := fun p => a_wordAt A d v p = w) _
def a_nOf (A : Nat → Int) (w : Int) (i : Nat) : Int := if a_isVer A (i / 10 : Nat) (i % 10 : Nat) = true then a_times A (i / 10 : Nat) (i % 10 : Nat) w else 0
def a_ofW (A : Nat → Int) (w : Int) (n : Nat) : Int × Int × Int × Int := upto n (fun i p => (p.1 + (if a_nOf A w i ≤ 0 then 0 else 1), s_or p.2.1 (if a_nOf A w i ≤ 0 then 0 else s_bit (i / 10 : Nat)), if a_nOf A w i ≤ 0 then p.2.2.1 else min p.2.2.1 (A (6 + i)), max p.2.2.2 (a_nOf A w i))) (0, 0, 1000000, 0)
theorem a_nOf_r {A : Nat → Int} {n : Int} (hA : a_ok A n) (w : Int) (i : Nat) : 0 ≤ a_nOf A w i ∧ a_nOf A w i ≤ 20 := by
  unfold a_nOf
  split
  · rename_i h
    obtain ⟨h1, h2⟩ := a_isVer_r hA h
    have hv10 := (hA.2.2.1 _ h1.1 h1.2).2
    have hl := hA.2.2.2.1 _ _ h1.1 h1.2 h2.1 (by omega)
    have := a_times_r A (i / 10 : Nat) (i % 10 : Nat) w
    omega
  · omega
theorem a_ofW_r {A : Nat → Int} {n : Int} (hA : a_ok A n) (hD : ∀ i : Nat, i < 40 → rI (A (6 + i))) (w : Int) : ∀ k : Nat, k ≤ 40 → (0 ≤ (a_ofW A w k).1 ∧ (a_ofW A w k).1 ≤ k) ∧ rI (a_ofW A w k).2.1 ∧ rI (a_ofW A w k).2.2.1 ∧ 0 ≤ (a_ofW A w k).2.2.2 ∧ (a_ofW A w k).2.2.2 ≤ 20 := by
  intro k
  induction k with
  | zero => intro _; exact ⟨⟨Int.le_refl 0, Int.le_refl 0⟩, rI_small (x := 0) (by omega) (by omega), rI_small (x := 1000000) (by omega) (by omega), Int.le_refl 0, (show (0 : Int) ≤ 20 by omega)⟩
  | succ k ih =>
    intro hk
    obtain ⟨⟨h1, h2⟩, h3, h4, h5, h6⟩ := ih (by omega)
    have hn := a_nOf_r hA w k
    have hd := hD k (by omega)
    have e : a_ofW A w (k + 1) = ((a_ofW A w k).1 + (if a_nOf A w k ≤ 0 then 0 else 1), s_or (a_ofW A w k).2.1 (if a_nOf A w k ≤ 0 then 0 else s_bit (k / 10 : Nat)), if a_nOf A w k ≤ 0 then (a_ofW A w k).2.2.1 else min (a_ofW A w k).2.2.1 (A (6 + k)), max (a_ofW A w k).2.2.2 (a_nOf A w k)) := rfl
    rw [e]
    refine ⟨?_, rI_or _ _, ?_, ?_, ?_⟩
    · show 0 ≤ (a_ofW A w k).1 + (if a_nOf A w k ≤ 0 then 0 else 1) ∧ (a_ofW A w k).1 + (if a_nOf A w k ≤ 0 then 0 else 1) ≤ _
      split <;> omega
    · show rI (if a_nOf A w k ≤ 0 then (a_ofW A w k).2.2.1 else min (a_ofW A w k).2.2.1 (A (6 + k)))
      unfold rI at *
      split <;> omega
    · show 0 ≤ max (a_ofW A w k).2.2.2 (a_nOf A w k)
      omega
    · show max (a_ofW A w k).2.2.2 (a_nOf A w k) ≤ 20
      omega
def a_ofWord (A : Nat → Int) (w q : Int) : Int := if q = 0 then w else if q = 1 then (a_ofW A w 40).1 else if q = 2 then (a_ofW A w 40).2.1 else if q = 3 then (a_ofW A w 40).2.2.1 else if q = 4 then (a_ofW A w 40).2.2.2 else -1
section
variable {E : pw_E} {w0 : pw_W} {m d : Nat} {S : tw_S}
theorem m_common_ok {x a v b u : Int} {K : Int → tw_S → Prop} (hm : pw_base E ≤ m) (hI : tw_arok S) (hd : 5 ≤ d) (hx : rI x) (ha : rI a) (hv : rI v) (hb : rI b) (hu : rI u) (H : tq S K (if tw_isAr S x = true then (if a_isVer (tw_ar S x) a v = true then (if a_isVer (tw_ar S x) b u = true then a_lcs (tw_ar S x) a v b u (a_long (tw_ar S x) a v).toNat (a_long (tw_ar S x) b u).toNat else -1) else -1) else -1)) : pw_Cl E m_X2_common d [va_rf (some m), .int (iI x), .int (iI a), .int (iI v), .int (iI b), .int (iI u)] (tw w0 m S) (c_i (t_i w0 m K)) := by
  obtain ⟨e, rfl, he⟩ := pw_d1 hd
  refine e_X2_common _ _ _ _ _ _ (t_X2_common_0 hm _ _ _ _ _ (m_hand_k hm (by omega) hx (hI.same (tw_same.sf S 0 0)) ⟨fun h hA => ?_, fun h => ?_⟩))
  · have h : tw_isAr S x = true := h
    rw [tw_ar_sf] at hA
    rw [if_pos h] at H
    rw [if_pos rfl]
    have hs : tw_same S (tw_h (tw_sf S 0 0) x) := (tw_same.sf S 0 0).trans (tw_same.h _ x)
    have hA0 : a_ok ((tw_h (tw_sf S 0 0) x).2.2 9) ((tw_h (tw_sf S 0 0) x).1 24) := hA.ok
    refine m_isVersion_ok hm hA0 (by omega) ha hv (ifS H (fun h H => ?_) (fun h H => ⟨_, rfl, _, _, rfl, rfl, H _ hs⟩))
    obtain ⟨h1, h2⟩ := a_isVer_r hA0 h
    refine m_isVersion_ok hm hA0 (by omega) hb hu (ifS H (fun h H => ?_) (fun h H => ⟨_, rfl, _, _, rfl, rfl, H _ hs⟩))
    obtain ⟨h3, h4⟩ := a_isVer_r hA0 h
    have hv10 := (hA0.2.2.1 a h1.1 h1.2).2
    have hu10 := (hA0.2.2.1 b h3.1 h3.2).2
    have hl : 0 ≤ a_long (tw_ar S x) a v ∧ a_long (tw_ar S x) a v ≤ 20 := hA0.2.2.2.1 a v h1.1 h1.2 h2.1 (by omega)
    have hk : 0 ≤ a_long (tw_ar S x) b u ∧ a_long (tw_ar S x) b u ≤ 20 := hA0.2.2.2.1 b u h3.1 h3.2 h4.1 (by omega)
    generalize hSg : tw_h (tw_sf S 0 0) x = S0 at *
    have hS9 : S0.2.2 9 = tw_ar S x := by rw [← hSg]; rfl
    generalize hAg : tw_ar S x = A at *
    -- zeros
    refine (fun (main : ∀ (i : Nat), i ≤ 441 → ∀ Y : Nat → Int, (∀ j, j < i → Y j = 0) → pw_Wp E m_X2_common (e + 1) 38 [some (va_rf (some m)), none, some (.int (iI a)), some (.int (iI v)), some (.int (iI b)), some (.int (iI u)), some (.int (iI i)), none, none, none, none, none] [] (tw w0 m (tw_set S0 13 Y)) (c_i (t_i w0 m K))) => by
      have := main 0 (by omega) (S0.2.2 13) (fun j hj => absurd hj (Nat.not_lt_zero j))
      rw [tw_set_self] at this
      exact this) ?_
    refine loop_up (n := 441) (P := fun i => ∀ Y : Nat → Int, (∀ j, j < i → Y j = 0) → pw_Wp E m_X2_common (e + 1) 38 [some (va_rf (some m)), none, some (.int (iI a)), some (.int (iI v)), some (.int (iI b)), some (.int (iI u)), some (.int (iI i)), none, none, none, none, none] [] (tw w0 m (tw_set S0 13 Y)) (c_i (t_i w0 m K))) ?_ ?_
    · intro i hi ih Y hY
      refine t_X2_common_38 hm _ _ _ _ _ ⟨rI_small (by omega) (by omega), ?_⟩
      rw [if_neg (by omega)]
      refine ⟨by omega, by omega, ?_⟩
      rw [tw_set_sa]
      refine ih _ (fun j hj => ?_)
      show (if j = Int.toNat (i : Int) then 0 else Y j) = 0
      split
      · rfl
      · exact hY j (by omega)
    · intro Y hY
      refine t_X2_common_38 hm _ _ _ _ _ ⟨rI_small (by omega) (by omega), ?_⟩
      rw [if_pos (by omega)]
      have hS0 : ∀ Y, (tw_set S0 13 Y).2.2 9 = A := fun Y => hS9
      have hA1 : ∀ Y, a_ok ((tw_set S0 13 Y).2.2 9) ((tw_set S0 13 Y).1 24) := fun Y => hA0
      refine m_longOf_ok hm (by omega) h1 ⟨h2.1, by omega⟩ (m_longOf_ok hm (by omega) h3 ⟨h4.1, by omega⟩ ?_)
      rw [hS0]
      obtain ⟨n, hn⟩ : ∃ n : Nat, a_long A a v = n := ⟨(a_long A a v).toNat, by omega⟩
      obtain ⟨k, hkk⟩ : ∃ k : Nat, a_long A b u = k := ⟨(a_long A b u).toNat, by omega⟩
      have hn20 : n ≤ 20 := by omega
      have hk20 : k ≤ 20 := by omega
      rw [hn, hkk]
      rw [hn, hkk, Int.toNat_natCast, Int.toNat_natCast] at H
      -- rows
      refine loop_up (n := n) (P := fun i => ∀ Y : Nat → Int, (∀ p q : Nat, p ≤ 20 → q ≤ k → Y (21 * p + q) = if p < i + 1 then a_lcs A a v b u p q else 0) → pw_Wp E m_X2_common (e + 1) 81 [some (va_rf (some m)), none, some (.int (iI a)), some (.int (iI v)), some (.int (iI b)), some (.int (iI u)), some (.int (iI n)), some (.int (iI k)), some (.int (iI ((i : Int) + 1))), none, none, none] [] (tw w0 m (tw_set S0 13 Y)) (c_i (t_i w0 m K))) ?_ ?_ 0 (by omega) Y (fun p q hp hq => ?_)
      · intro i hi ih Y hY
        refine t_X2_common_81 hm _ _ _ _ _ _ _ ⟨rI_small (by omega) (by omega), rI_small (by omega) (by omega), ?_⟩
        rw [if_neg (by omega)]
        refine loop_up (n := k) (P := fun j => ∀ Y : Nat → Int, (∀ p q : Nat, p ≤ 20 → q ≤ k → Y (21 * p + q) = if p < i + 1 ∨ (p = i + 1 ∧ q < j + 1) then a_lcs A a v b u p q else 0) → pw_Wp E m_X2_common (e + 1) 91 [some (va_rf (some m)), none, some (.int (iI a)), some (.int (iI v)), some (.int (iI b)), some (.int (iI u)), some (.int (iI n)), some (.int (iI k)), some (.int (iI ((i : Int) + 1))), some (.int (iI ((j : Int) + 1))), none, none] [] (tw w0 m (tw_set S0 13 Y)) (c_i (t_i w0 m K))) ?_ ?_ 0 (by omega) Y (fun p q hp hq => ?_)
        · intro j hj ij Y hY
          have r1 := a_lcs_r A a v b u i j
          have r2 := a_lcs_r A a v b u i (j + 1)
          have r3 := a_lcs_r A a v b u (i + 1) j
          have y1 : Y (Int.toNat (21 * ((i : Int) + 1) - 21 + ((j : Int) + 1))) = a_lcs A a v b u i (j + 1) := by
            rw [show Int.toNat (21 * ((i : Int) + 1) - 21 + ((j : Int) + 1)) = 21 * i + (j + 1) by omega, hY i (j + 1) (by omega) (by omega), if_pos (by omega)]
          have y2 : Y (Int.toNat (21 * ((i : Int) + 1) + ((j : Int) + 1) - 1)) = a_lcs A a v b u (i + 1) j := by
            rw [show Int.toNat (21 * ((i : Int) + 1) + ((j : Int) + 1) - 1) = 21 * (i + 1) + j by omega, hY (i + 1) j (by omega) (by omega), if_pos (by omega)]
          have y3 : Y (Int.toNat (21 * ((i : Int) + 1) - 22 + ((j : Int) + 1))) = a_lcs A a v b u i j := by
            rw [show Int.toNat (21 * ((i : Int) + 1) - 22 + ((j : Int) + 1)) = 21 * i + j by omega, hY i j (by omega) (by omega), if_pos (by omega)]
          have step : ∀ z : Int, z = a_lcs A a v b u (i + 1) (j + 1) → pw_Wp E m_X2_common (e + 1) 91 [some (va_rf (some m)), none, some (.int (iI a)), some (.int (iI v)), some (.int (iI b)), some (.int (iI u)), some (.int (iI n)), some (.int (iI k)), some (.int (iI ((i : Int) + 1))), some (.int (iI ((j : Int) + 1 + 1))), none, none] [] (tw w0 m (tw_sa (tw_set S0 13 Y) 13 (Int.toNat (21 * ((i : Int) + 1) + ((j : Int) + 1))) z)) (c_i (t_i w0 m K)) := by
            intro z hz
            rw [tw_set_sa]
            refine ij _ (fun p q hp hq => ?_)
            show (if 21 * p + q = Int.toNat (21 * ((i : Int) + 1) + ((j : Int) + 1)) then z else Y (21 * p + q)) = _
            by_cases h : p = i + 1 ∧ q = j + 1
            · rw [if_pos (by omega), if_pos (by omega), hz, h.1, h.2]
            · rw [if_neg (by omega), hY p q hp hq]
              by_cases h2 : p < i + 1 ∨ (p = i + 1 ∧ q < j + 1)
              · rw [if_pos h2, if_pos (by omega)]
              · rw [if_neg h2, if_neg (by omega)]
          refine t_X2_common_91 hm _ _ _ _ _ _ _ _ ⟨rI_small (by omega) (by omega), rI_small (by omega) (by omega), ?_⟩
          rw [if_neg (by omega), show (i : Int) + 1 - 1 = i by omega, show (j : Int) + 1 - 1 = j by omega]
          have q1 : 0 ≤ (i : Int) ∧ (i : Int) < a_long ((tw_set S0 13 Y).2.2 9) a v := ⟨by omega, by rw [hS0, hn]; omega⟩
          have q2 : 0 ≤ (j : Int) ∧ (j : Int) < a_long ((tw_set S0 13 Y).2.2 9) b u := ⟨by omega, by rw [hS0, hkk]; omega⟩
          refine m_wordAt_ok hm (hA1 Y) (by omega) h1 (by rw [hS0, ← hS9]; exact h2) q1 (m_wordAt_ok hm (hA1 Y) (by omega) h3 (by rw [hS0, ← hS9]; exact h4) q2 ⟨a_wordAt_r (hA1 Y) h1 (by rw [hS0, ← hS9]; exact h2) q1, a_wordAt_r (hA1 Y) h3 (by rw [hS0, ← hS9]; exact h4) q2, ?_⟩)
          rw [hS0]
          have hss := a_lcs_s A a v b u i j
          by_cases hw : a_wordAt A a v i = a_wordAt A b u j
          · rw [if_pos hw]
            rw [if_pos hw] at hss
            refine ⟨by omega, by omega, by omega, by omega, ?_⟩
            rw [tw_set_at, y1, y2]
            refine m_greater_ok hm (by omega) (rI_small (by omega) (by omega)) (rI_small (by omega) (by omega)) ⟨by omega, by omega, by omega, by omega, ?_⟩
            rw [tw_set_at, y3]
            exact step _ hss.symm
          · rw [if_neg hw]
            rw [if_neg hw] at hss
            refine ⟨by omega, by omega, by omega, by omega, ?_⟩
            rw [tw_set_at, y1, y2]
            exact m_greater_ok hm (by omega) (rI_small (by omega) (by omega)) (rI_small (by omega) (by omega)) ⟨by omega, by omega, step _ hss.symm⟩
        · intro Y hY
          refine t_X2_common_91 hm _ _ _ _ _ _ _ _ ⟨rI_small (by omega) (by omega), rI_small (by omega) (by omega), ?_⟩
          rw [if_pos (by omega)]
          refine ih Y (fun p q hp hq => ?_)
          rw [hY p q hp hq]
          by_cases h2 : p < i + 1 ∨ (p = i + 1 ∧ q < k + 1)
          · rw [if_pos h2, if_pos (by omega)]
          · rw [if_neg h2, if_neg (by omega)]
        · rw [hY p q hp hq]
          by_cases h2 : p < i + 1
          · rw [if_pos h2, if_pos (by omega)]
          · rw [if_neg h2]
            by_cases h3 : p = i + 1 ∧ q < 0 + 1
            · rw [if_pos (Or.inr h3), h3.1, show q = 0 by omega]
              rfl
            · rw [if_neg (by omega)]
      · intro Y hY
        refine t_X2_common_81 hm _ _ _ _ _ _ _ ⟨rI_small (by omega) (by omega), rI_small (by omega) (by omega), ?_⟩
        rw [if_pos (by omega)]
        refine ⟨by omega, by omega, ?_⟩
        have e1 : (tw_set S0 13 Y).2.2 13 (Int.toNat (21 * (n : Int) + (k : Int))) = a_lcs A a v b u n k := by
          rw [tw_set_at, show Int.toNat (21 * (n : Int) + (k : Int)) = 21 * n + k by omega, hY n k (by omega) (by omega), if_pos (by omega)]
        rw [e1]
        exact ⟨_, rfl, _, _, rfl, rfl, H _ (hs.trans (tw_same.set _ 13 Y rfl))⟩
      · rw [hY (21 * p + q) (by omega)]
        split
        · rename_i h9
          have : p = 0 := by omega
          subst this
          rfl
        · rfl
  · have h : tw_isAr S x = false := h
    rw [if_neg (by rw [h]; decide)] at H
    rw [if_neg (by decide)]
    exact ⟨_, rfl, _, _, rfl, rfl, H _ (tw_same.sf S 0 0)⟩
theorem m_ofWord_ok {w q : Int} {K : Int → tw_S → Prop} (hm : pw_base E ≤ m) (hA : a_ok (S.2.2 9) (S.1 24)) (hD : ∀ i : Nat, i < 40 → rI (S.2.2 9 (6 + i))) (hd : 5 ≤ d) (hw : rI w) (hq : rI q) (H : K (a_ofWord (S.2.2 9) w q) S) : pw_Cl E m_X2_ofWord d [va_rf (some m), .int (iI w), .int (iI q)] (tw w0 m S) (c_i (t_i w0 m K)) := by
  obtain ⟨e, rfl, he⟩ := pw_d1 hd
  refine e_X2_ofWord _ _ _ (t_X2_ofWord_0 hm _ _ (loop_up (n := 40) (P := fun k => pw_Wp E m_X2_ofWord (e + 1) 16 [some (va_rf (some m)), some (.int (iI w)), some (.int (iI q)), some (.int (iI (a_ofW (S.2.2 9) w k).1)), some (.int (iI (a_ofW (S.2.2 9) w k).2.1)), some (.int (iI (a_ofW (S.2.2 9) w k).2.2.1)), some (.int (iI (a_ofW (S.2.2 9) w k).2.2.2)), some (.int (iI k)), none, none, none] [] (tw w0 m S) (c_i (t_i w0 m K))) ?_ ?_ 0 (by omega)))
  · intro k hk ih
    obtain ⟨⟨r1, r2⟩, r3, r4, r5, r6⟩ := a_ofW_r hA hD w k (by omega)
    have hn := a_nOf_r hA w k
    have e1 : a_ofW (S.2.2 9) w (k + 1) = ((a_ofW (S.2.2 9) w k).1 + (if a_nOf (S.2.2 9) w k ≤ 0 then 0 else 1), s_or (a_ofW (S.2.2 9) w k).2.1 (if a_nOf (S.2.2 9) w k ≤ 0 then 0 else s_bit (k / 10 : Nat)), if a_nOf (S.2.2 9) w k ≤ 0 then (a_ofW (S.2.2 9) w k).2.2.1 else min (a_ofW (S.2.2 9) w k).2.2.1 (S.2.2 9 (6 + k)), max (a_ofW (S.2.2 9) w k).2.2.2 (a_nOf (S.2.2 9) w k)) := rfl
    rw [e1] at ih
    dsimp only at ih
    generalize hp : a_ofW (S.2.2 9) w k = p at *
    have rest : ∀ u0 : Int, u0 = (if a_nOf (S.2.2 9) w k ≤ 0 then 0 else 1) → pw_Wp E m_X2_ofWord (e + 1) 74 [some (va_rf (some m)), some (.int (iI w)), some (.int (iI q)), none, some (.int (iI p.2.1)), some (.int (iI p.2.2.1)), some (.int (iI p.2.2.2)), some (.int (iI k)), some (.int (iI (k / 10 : Nat))), none, some (.int (iI (a_nOf (S.2.2 9) w k)))] [.int (iI u0), .int (iI p.1)] (tw w0 m S) (c_i (t_i w0 m K)) := by
      intro u0 hu
      rw [← hu] at ih
      have ek : Int.toNat (6 + (k : Int)) = 6 + k := by omega
      refine t_X2_ofWord_74 hm _ _ _ _ _ _ _ _ _ _ ⟨rI_small (by omega) (by omega), ?_⟩
      by_cases h : a_nOf (S.2.2 9) w k ≤ 0
      · rw [if_pos h]
        rw [if_pos h, if_pos h] at ih
        refine ⟨rI_small (by omega) (by omega), ?_⟩
        rw [if_pos h]
        exact m_greater_ok hm (by omega) (rI_small (by omega) (by omega)) (rI_small (by omega) (by omega)) ih
      · rw [if_neg h]
        rw [if_neg h, if_neg h] at ih
        refine ⟨rI_small (by omega) (by omega), ?_⟩
        rw [if_neg h]
        refine ⟨by omega, by omega, ?_⟩
        rw [ek]
        refine m_lesser_ok hm (by omega) r4 (hD k (by omega)) (m_greater_ok hm (by omega) (rI_small (by omega) (by omega)) (rI_small (by omega) (by omega)) ?_)
        rw [s_orE]
        exact ih
    refine t_X2_ofWord_16 hm _ _ _ _ _ _ _ ⟨rI_small (by omega) (by omega), ?_⟩
    rw [if_neg (by omega), q_div (by omega), q_mod (by omega)]
    refine m_isVersion_ok hm hA (by omega) (rI_small (by omega) (by omega)) (rI_small (by omega) (by omega)) ?_
    by_cases h : a_isVer (S.2.2 9) (k / 10 : Nat) (k % 10 : Nat) = true
    · rw [if_pos h]
      obtain ⟨h1, h2⟩ := a_isVer_r hA h
      have en : a_nOf (S.2.2 9) w k = a_times (S.2.2 9) (k / 10 : Nat) (k % 10 : Nat) w := by unfold a_nOf; rw [if_pos h]
      rw [en] at rest hn
      refine m_timesIn_ok hm hA (by omega) h1 h2 hw ⟨rI_small (by omega) (by omega), ?_⟩
      by_cases h9 : a_times (S.2.2 9) (k / 10 : Nat) (k % 10 : Nat) w ≤ 0
      · rw [if_pos h9]
        exact rest 0 (by rw [if_pos h9])
      · rw [if_neg h9]
        exact rest 1 (by rw [if_neg h9])
    · rw [if_neg h]
      have en : a_nOf (S.2.2 9) w k = 0 := by unfold a_nOf; rw [if_neg h]
      rw [en] at rest
      exact rest 0 (by rw [if_pos (by omega)])
  · refine t_X2_ofWord_16 hm _ _ _ _ _ _ _ ⟨rI_small (by omega) (by omega), ?_⟩
    rw [if_pos (by decide)]
    unfold a_ofWord at H
    exact ⟨hq, ifS2 H (fun h H => ⟨_, rfl, _, S, rfl, rfl, H⟩) (fun h H => ⟨hq, ifS2 H (fun h H => ⟨_, rfl, _, S, rfl, rfl, H⟩) (fun h H => ⟨hq, ifS2 H (fun h H => ⟨_, rfl, _, S, rfl, rfl, H⟩) (fun h H => ⟨hq, ifS2 H (fun h H => ⟨_, rfl, _, S, rfl, rfl, H⟩) (fun h H => ⟨hq, ifS2 H (fun h H => ⟨_, rfl, _, S, rfl, rfl, H⟩) (fun h H => ⟨_, rfl, _, S, rfl, rfl, H⟩)⟩)⟩)⟩)⟩)⟩
theorem m_word_ok {x k q : Int} {K : Int → tw_S → Prop} (hm : pw_base E ≤ m) (hI : tw_arok S) (hd : 6 ≤ d) (hx : rI x) (hk : rI k) (hq : rI q) (H : tq S K (if tw_isAr S x = true then (if decide (0 ≤ k ∧ k ≤ ((a_words (tw_ar S x) (tw_ar S x 5).toNat).length : Nat) - 1) = true then a_ofWord (tw_ar S x) ((a_words (tw_ar S x) (tw_ar S x 5).toNat).getD k.toNat 0) q else -1) else -1)) : pw_Cl E m_X2_word d [va_rf (some m), .int (iI x), .int (iI k), .int (iI q)] (tw w0 m S) (c_i (t_i w0 m K)) := by
  obtain ⟨e, rfl, he⟩ := pw_d1 hd
  refine e_X2_word _ _ _ _ (t_X2_word_0 hm _ _ _ (m_hand_k hm (by omega) hx (hI.same (tw_same.sf S 0 0)) ⟨fun h hA => ?_, fun h => ?_⟩))
  · have h : tw_isAr S x = true := h
    rw [tw_ar_sf] at hA
    rw [if_pos h] at H
    rw [if_pos rfl]
    have hs : tw_same S (tw_h (tw_sf S 0 0) x) := (tw_same.sf S 0 0).trans (tw_same.h _ x)
    have hA0 : a_ok ((tw_h (tw_sf S 0 0) x).2.2 9) ((tw_h (tw_sf S 0 0) x).1 24) := hA.ok
    obtain ⟨l1, l2⟩ := a_words_ok hA.wok (tw_ar S x 5).toNat (by have := hA.ok.2.1; omega)
    have hn := hA.n
    refine m_layWords_ok hm hA0 hA.n hA.wok (by omega) (fun X hX => ?_)
    have hX : ∀ (i : Nat) (x_1 : Int), (a_words (tw_ar S x) (tw_ar S x 5).toNat)[i]? = some x_1 → X i = x_1 := hX
    generalize hl : a_words (tw_ar S x) (tw_ar S x 5).toNat = l at *
    have hlen : (tw_w (tw_h (tw_sf S 0 0) x) ((a_words ((tw_h (tw_sf S 0 0) x).2.2 9) ((tw_h (tw_sf S 0 0) x).1 24).toNat).length : Nat) X) = tw_w (tw_h (tw_sf S 0 0) x) (l.length : Nat) X := by rw [← hl]; rfl
    rw [hlen]
    have h25 : (tw_w (tw_h (tw_sf S 0 0) x) (l.length : Nat) X).1 25 = (l.length : Nat) := rfl
    rw [h25]
    refine m_in_ok hm (by omega) hk (rI_small (by omega) (by omega)) (rI_small (by omega) (by omega)) (ifS H (fun h H => ?_) (fun h H => ⟨_, rfl, _, _, rfl, rfl, H _ (hs.trans (tw_same.w _ _ X))⟩))
    have h := of_decide_eq_true h
    have hkl : k.toNat < l.length := by omega
    have hx1 : l[k.toNat]? = some l[k.toNat] := List.getElem?_eq_getElem hkl
    have hx2 : l.getD k.toNat 0 = l[k.toNat] := by rw [List.getD_eq_getElem?_getD, hx1]; rfl
    rw [hx2] at H
    have hx3 := l1 _ (List.getElem_mem hkl)
    have hx4 : (tw_w (tw_h (tw_sf S 0 0) x) (l.length : Nat) X).2.2 12 (Int.toNat k) = l[k.toNat] := hX _ _ hx1
    refine ⟨by omega, by omega, ?_⟩
    rw [hx4]
    exact m_ofWord_ok hm hA0 hA.date (by omega) (rI_small (by omega) (by omega)) hq ⟨_, rfl, _, _, rfl, rfl, H _ (hs.trans (tw_same.w _ _ X))⟩
  · have h : tw_isAr S x = false := h
    rw [if_neg (by rw [h]; decide)] at H
    rw [if_neg (by decide)]
    exact ⟨_, rfl, _, _, rfl, rfl, H _ (tw_same.sf S 0 0)⟩
end
