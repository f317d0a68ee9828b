set_option maxRecDepth 100000
/-! the component: documents ranked: the queue -/
theorem c_canR : pw_can 15 "VersionSearch$Ranked" := Or.inl ⟨_, rfl, by decide, Or.inl rfl⟩
theorem c_canRO : pw_can 15 "java/lang/Object" := Or.inl ⟨_, rfl, by decide, Or.inr q3250⟩
def pq_set (g : Nat → Option Nat) (k : Nat) (x : Option Nat) : Nat → Option Nat := fun i => if i = k then x else g i
def pq_ar (A : Nat → Nat) (g : Nat → Option Nat) : pw_O := (1003, (List.range 11).map (fun i => va_rf ((g i).map A)))
def pq_it (h : pw_H) (A : Nat → Nat) (B : Nat → Int) (Z : Nat → Bool) (n : Nat) : Prop := ∀ i : Nat, i < n → h (A i) = some (15, [.int (iI (i : Nat)), .int (iI (B i)), .int (bI (Z i))])
def r_cmp (B : Nat → Int) (Z : Nat → Bool) (i j : Nat) : Int := if B i = B j then (if Z i = Z j then (i : Int) - j else if Z i = true then -1 else 1) else B j - B i
def r_ok (B : Nat → Int) (Z : Nat → Bool) (r : Nat → Nat) (n : Nat) : Prop := n ≤ 4 ∧ (∀ i : Nat, i < n → 0 ≤ B i ∧ B i ≤ 10) ∧ ∀ i j : Nat, i < n → j < n → (r_cmp B Z i j < 0 ↔ r i < r j) ∧ (0 < r_cmp B Z i j ↔ r j < r i)
theorem r_cmp_r {B : Nat → Int} {Z : Nat → Bool} {r : Nat → Nat} {n i j : Nat} (h : r_ok B Z r n) (hi : i < n) (hj : j < n) : -10 ≤ r_cmp B Z i j ∧ r_cmp B Z i j ≤ 10 := by
  obtain ⟨h1, h2, h3⟩ := h
  have b1 := h2 i hi
  have b2 := h2 j hj
  unfold r_cmp
  split
  · split
    · omega
    · split <;> omega
  · omega
section
variable {E : pw_E} {d : Nat} {w : pw_W} {A : Nat → Nat} {B : Nat → Int} {Z : Nat → Bool} {r : Nat → Nat} {n : Nat} {g : Nat → Option Nat} {ar : Nat}
theorem pa_ld {i : Nat} {K : Option Nat → Prop} (h : w.1 ar = some (pq_ar A g)) (hi : i < 11) (H : K ((g i).map A)) : f_aldr w (some ar) (iI (i : Nat)) K := by
  refine ⟨ar, 3, _, _, _, rfl, h, rfl, rfl, iI_n0 (by omega), ?_, H⟩
  rw [iI_nn (by omega), List.getElem?_map, List.getElem?_range hi]
  rfl
theorem pa_st {i : Nat} {x : Option Nat} {K : pw_W → Prop} (h : w.1 ar = some (pq_ar A g)) (hb : pw_base E ≤ ar) (hi : i < 11) (hx : ∀ j, x = some j → ∃ us, w.1 (A j) = some (15, us)) (H : K (pw_up w ar (pq_ar A (pq_set g i x)))) : f_astr E w (some ar) (iI (i : Nat)) (x.map A) K := by
  refine ⟨ar, 3, _, _, rfl, h, rfl, by decide, hb, iI_n0 (by omega), by rw [iI_nn (by omega)]; simp; omega, ?_, ?_⟩
  · cases x with
    | none => exact Or.inl rfl
    | some j =>
      obtain ⟨us, hus⟩ := hx j rfl
      exact Or.inr ⟨A j, 15, us, rfl, hus, c_canRO⟩
  · rw [iI_nn (by omega)]
    have e : ((List.range 11).map (fun i => va_rf ((g i).map A))).set i (va_rf (x.map A)) = (List.range 11).map (fun k => va_rf ((pq_set g i x k).map A)) := by
      apply List.ext_getElem?
      intro k
      by_cases hk : k < 11
      · rw [List.getElem?_map, List.getElem?_range hk]
        by_cases q : i = k
        · subst q
          rw [List.getElem?_set_self (by simp; omega)]
          simp [pq_set]
        · rw [List.getElem?_set_ne q, List.getElem?_map, List.getElem?_range hk]
          simp [pq_set, Ne.symm q]
      · rw [List.getElem?_eq_none (by simp; omega), List.getElem?_eq_none (by simp; omega)]
    rw [e]
    exact H
theorem bI_eq {a b : Bool} : (bI a = bI b) = (a = b) := by cases a <;> cases b <;> decide
theorem r_cmp_ok {c i j : Nat} {K : Int32 → pw_W → Prop} (hd : 4 ≤ d) (hc : w.1 c = some (14, [])) (hit : pq_it w.1 A B Z n) (hr : r_ok B Z r n) (hi : i < n) (hj : j < n) (H : K (iI (r_cmp B Z i j)) w) : f_V E w (some c) 14 m_X15_compare d [va_rf (some (A i)), va_rf (some (A j))] (c_i K) := by
  have b1 := hr.2.1 i hi
  have b2 := hr.2.1 j hj
  have h1 := hit i hi
  have h2 := hit j hj
  have hn := hr.1
  replace hd := pw_d1 hd; obtain ⟨e, rfl, hd⟩ := hd
  refine ⟨c, _, rfl, hc, e_X15_compare _ _ _ (s_X15_compare_0 _ _ _ ⟨Or.inr ⟨_, 15, _, rfl, h1, c_canR⟩, Or.inr ⟨_, 15, _, rfl, h2, c_canR⟩, c, _, rfl, hc, ?_⟩)⟩
  replace hd := pw_d1 hd; obtain ⟨e, rfl, hd⟩ := hd
  refine e_X15_compare_2 _ _ _ (s_X15_compare_2_0 _ _ _ ⟨_, _, _, rfl, h1, rfl, _, _, _, rfl, h2, rfl, ?_⟩)
  unfold r_cmp at H
  have m1 : (iI (B i) = iI (B j)) = (B i = B j) := iI_eq (rI_small (by omega) (by omega)) (rI_small (by omega) (by omega))
  by_cases z : B i = B j
  · rw [if_pos z] at H
    refine ifT (by rw [m1]; exact z) ⟨_, _, _, rfl, h1, rfl, _, _, _, rfl, h2, rfl, ?_⟩
    by_cases y : Z i = Z j
    · rw [if_pos y] at H
      replace hd := pw_d1 hd; obtain ⟨e, rfl, hd⟩ := hd
      refine ifT (by rw [bI_eq]; exact y) ⟨_, _, rfl, h1, e_X16_compareTo _ _ (s_X16_compareTo_0 _ _ ⟨_, _, _, rfl, h1, rfl, _, _, _, rfl, h2, rfl, _, rfl, _, rfl, _, rfl, ?_⟩)⟩
      rw [iI_sub]
      exact H
    · rw [if_neg y] at H
      refine ifF (by rw [bI_eq]; exact y) ⟨_, _, _, rfl, h1, rfl, ?_⟩
      show if bI (Z i) = 0 then _ else _
      cases q : Z i with
      | false =>
        rw [q, if_neg (by decide)] at H
        exact ifT rfl ⟨_, rfl, _, rfl, H⟩
      | true =>
        rw [q, if_pos rfl] at H
        exact ifF (by decide) ⟨_, rfl, _, rfl, H⟩
  · rw [if_neg z] at H
    refine ifF (by rw [m1]; exact z) ⟨_, _, _, rfl, h2, rfl, _, _, _, rfl, h1, rfl, _, rfl, _, rfl, ?_⟩
    rw [iI_sub]
    exact H
def pq_up (r : Nat → Nat) : Nat → Nat → Nat → (Nat → Option Nat) → Nat → Option Nat
  | 0, k, x, g => pq_set g k (some x)
  | f + 1, k, x, g => if k = 0 then pq_set g 0 (some x) else if r x < r ((g ((k - 1) / 2)).getD 0) then pq_up r f ((k - 1) / 2) x (pq_set g k (g ((k - 1) / 2))) else pq_set g k (some x)
theorem pq_par : ∀ k : Fin 11, k.1 ≠ 0 → ((iI ((k.1 : Nat) : Int) - 1).toUInt32 >>> ((1 : Int32).toUInt32 &&& Int32.toUInt32 31)).toInt32 = iI (((k.1 - 1) / 2 : Nat) : Int) := by decide +kernel
def pq_in (g : Nat → Option Nat) (m n : Nat) : Prop := ∀ i : Nat, i < m → ∃ y, g i = some y ∧ y < n
theorem pq_it.up {o : pw_O} (h : pq_it w.1 A B Z n) (ha : w.1 ar = some (pq_ar A g)) : pq_it (pw_up w ar o).1 A B Z n := by
  intro i hi
  have := h i hi
  rw [pw_up_ne (by rintro rfl; rw [this] at ha; cases ha)]
  exact this
theorem pq_up_ok {c x : Nat} {K : pw_W → Prop} (hd : 4 ≤ d) (hb : pw_base E ≤ ar) (hr : r_ok B Z r n) (hx : x < n) : ∀ (f k : Nat) (g : Nat → Option Nat) (u : pw_W), k ≤ f → k < 11 → wf E u → u.1 ar = some (pq_ar A g) → u.1 c = some (14, []) → pq_it u.1 A B Z n → pq_in g k n → (∀ u', cx E u u' (fun q => q = ar) 0 → u'.2 = u.2 → u'.1 ar = some (pq_ar A (pq_up r f k x g)) → K u') → pw_Wp E m_J31_siftUpUsingComparator (d + 1) 0 [some (.int (iI (k : Nat))), some (va_rf (some (A x))), some (va_rf (some ar)), some (va_rf (some c)), none, none] [] u (c_v K) := by
  intro f
  induction f with
  | zero =>
    intro k g u hk hk2 hu ha hc hit hg H
    have : k = 0 := by omega
    subst this
    exact s_J31_siftUpUsingComparator_0 _ _ _ _ (ifT (by decide) (pa_st (x := some x) ha hb (by omega) (fun j e => by cases e; exact ⟨_, hit x hx⟩) ⟨rfl, H _ (cx.up hu _ ha hb rfl) rfl (pw_up_1 _ _ _)⟩))
  | succ f ih =>
    intro k g u hk hk2 hu ha hc hit hg H
    by_cases z : k = 0
    · subst z
      rw [show pq_up r (f + 1) 0 x g = pq_set g 0 (some x) from rfl] at H
      exact s_J31_siftUpUsingComparator_0 _ _ _ _ (ifT (by decide) (pa_st (x := some x) ha hb (by omega) (fun j e => by cases e; exact ⟨_, hit x hx⟩) ⟨rfl, H _ (cx.up hu _ ha hb rfl) rfl (pw_up_1 _ _ _)⟩))
    · rw [show pq_up r (f + 1) k x g = if k = 0 then pq_set g 0 (some x) else if r x < r ((g ((k - 1) / 2)).getD 0) then pq_up r f ((k - 1) / 2) x (pq_set g k (g ((k - 1) / 2))) else pq_set g k (some x) from rfl, if_neg z] at H
      have hp := pq_par ⟨k, hk2⟩ z
      have hp : ((iI ((k : Nat) : Int) - 1).toUInt32 >>> ((1 : Int32).toUInt32 &&& Int32.toUInt32 31)).toInt32 = iI (((k - 1) / 2 : Nat) : Int) := hp
      obtain ⟨y, hy, hyn⟩ := hg ((k - 1) / 2) (by omega)
      rw [hy] at H
      replace H : ∀ u', cx E u u' (fun q => q = ar) 0 → u'.2 = u.2 → u'.1 ar = some (pq_ar A (if r x < r y then pq_up r f ((k - 1) / 2) x (pq_set g k (some y)) else pq_set g k (some x))) → K u' := H
      have e0 : (iI (k : Nat) ≤ 0) = (k ≤ 0) := iI_len (b := 0) (by omega) (by omega)
      refine s_J31_siftUpUsingComparator_0 _ _ _ _ (ifF (by rw [e0]; omega) ?_)
      rw [hp]
      refine pa_ld ha (by omega) ?_
      rw [hy]
      show f_V E u (some c) 14 m_X15_compare d [va_rf (some (A x)), va_rf (some (A y))] _
      refine r_cmp_ok hd hc hit hr hx hyn ?_
      have hrr := r_cmp_r hr hx hyn
      have m1 : (iI (r_cmp B Z x y) < 0) = (r_cmp B Z x y < 0) := iI_lt (b := 0) (rI_small (by omega) (by omega)) (rI_small (by omega) (by omega))
      have hx2 := (hr.2.2 x y hx hyn).1
      by_cases q : r x < r y
      · rw [if_pos q] at H
        refine ifT (by rw [m1]; exact hx2.mpr q) (pa_st (x := some y) ha hb hk2 (fun j e => by cases e; exact ⟨_, hit y hyn⟩) ?_)
        have hcne : c ≠ ar := by rintro rfl; rw [hc] at ha; cases ha
        have c1 : cx E u (pw_up u ar (pq_ar A (pq_set g k (some y)))) (fun q => q = ar) 0 := cx.up hu _ ha hb rfl
        refine ih ((k - 1) / 2) _ _ (by omega) (by omega) c1.ok (pw_up_1 _ _ _) (by rw [pw_up_ne hcne]; exact hc) (hit.up ha) (fun i hi => ?_) (fun u' c2 n2 h2 => H u' ((c1.tr c2).le (by omega)) n2 h2)
        obtain ⟨y', h1, h2⟩ := hg i (by omega)
        exact ⟨y', by show (if i = k then _ else _) = _; rw [if_neg (by omega)]; exact h1, h2⟩
      · rw [if_neg q] at H
        exact ifF (by rw [m1]; exact fun z => q (hx2.mp z)) (pa_st (x := some x) ha hb hk2 (fun j e => by cases e; exact ⟨_, hit x hx⟩) ⟨rfl, H _ (cx.up hu _ ha hb rfl) rfl (pw_up_1 _ _ _)⟩)
end
