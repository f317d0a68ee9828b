set_option maxRecDepth 100000
/-! the twin: all words, laid out by their letters -/
theorem ifT {c : Prop} [Decidable c] {A B : Prop} (h : c) (k : A) : if c then A else B := by rw [if_pos h]; exact k
theorem ifF {c : Prop} [Decidable c] {A B : Prop} (h : ¬ c) (k : B) : if c then A else B := by rw [if_neg h]; exact k
def tw_w (S : tw_S) (c : Int) (X : Nat → Int) : tw_S := (fun i => if i = 25 then c else S.1 i, S.2.1, fun q n => if q = 12 then X n else S.2.2 q n)
theorem tw_w_sf (S : tw_S) (c c' : Int) (X : Nat → Int) : tw_sf (tw_w S c X) 25 c' = tw_w S c' X := by
  unfold tw_sf tw_w
  refine Prod.ext (funext fun i => ?_) rfl
  show (if i = 25 then c' else if i = 25 then c else S.1 i) = if i = 25 then c' else S.1 i
  split <;> rfl
theorem tw_w_sa (S : tw_S) (c : Int) (X : Nat → Int) (i : Nat) (x : Int) : tw_sa (tw_w S c X) 12 i x = tw_w S c (fun j => if j = i then x else X j) := by
  unfold tw_sa tw_w
  refine Prod.ext rfl (Prod.ext rfl (funext fun q => funext fun n => ?_))
  show (if q = 12 ∧ n = i then x else if q = 12 then X n else S.2.2 q n) = if q = 12 then (if n = i then x else X n) else S.2.2 q n
  by_cases h : q = 12
  · simp [h]
  · simp [h]
theorem tw_w_0 (S : tw_S) : tw_sf S 25 0 = tw_w S 0 (S.2.2 12) := by
  unfold tw_sf tw_w
  refine Prod.ext rfl (Prod.ext rfl (funext fun q => funext fun n => ?_))
  show S.2.2 q n = if q = 12 then S.2.2 12 n else S.2.2 q n
  split
  · rename_i h; rw [h]
  · rfl
theorem s_wide_b : ∀ (f : Nat) (x : Int), 1 ≤ x ∧ x < 531441 → 1 ≤ s_wide f x ∧ s_wide f x < 531441 := by
  intro f
  induction f with
  | zero => intro x hx; exact hx
  | succ f ih =>
    intro x hx
    unfold s_wide
    split
    · exact hx
    · exact ih _ ⟨by omega, by omega⟩
theorem s_wide_r {x : Int} (hx : 1 ≤ x ∧ x < 531441) : rI (s_wide 4 x) := by
  have := s_wide_b 4 x hx
  exact rI_small (by omega) (by omega)
def a_pos (w : Int) : List Int → Nat
  | [] => 0
  | x :: l => if s_wide 4 x < s_wide 4 w then a_pos w l + 1 else 0
theorem a_pos_le (w : Int) : ∀ l : List Int, a_pos w l ≤ l.length
  | [] => Nat.le_refl _
  | x :: l => by
    have := a_pos_le w l
    unfold a_pos
    split <;> simp <;> omega
theorem a_pos_lt (w : Int) : ∀ (l : List Int) (i : Nat), i < a_pos w l → ∃ x, l[i]? = some x ∧ s_wide 4 x < s_wide 4 w
  | [], i, h => absurd h (Nat.not_lt_zero i)
  | x :: l, i, h => by
    unfold a_pos at h
    split at h
    · rename_i hx
      cases i with
      | zero => exact ⟨x, rfl, hx⟩
      | succ i => simpa using a_pos_lt w l i (by omega)
    · exact absurd h (Nat.not_lt_zero i)
theorem a_pos_at (w : Int) : ∀ (l : List Int) (x : Int), l[a_pos w l]? = some x → s_wide 4 w ≤ s_wide 4 x
  | [], x, h => by simp at h
  | y :: l, x, h => by
    unfold a_pos at h
    split at h
    · exact a_pos_at w l x (by simpa using h)
    · cases h
      omega
def a_ins (w : Int) (l : List Int) : List Int := if l[a_pos w l]? = some w then l else l.take (a_pos w l) ++ w :: l.drop (a_pos w l)
def a_words (A : Nat → Int) (n : Nat) : List Int := upto n (fun t l => a_ins (a_word A t) l) []
/-- the words that are told are words -/
def a_wok (A : Nat → Int) (n : Int) : Prop := ∀ t, 0 ≤ t → t < n → 1 ≤ a_word A t ∧ a_word A t < 531441
theorem a_ins_mem {w x : Int} {l : List Int} (h : x ∈ a_ins w l) : x = w ∨ x ∈ l := by
  unfold a_ins at h
  split at h
  · exact Or.inr h
  · rcases List.mem_append.mp h with h | h
    · exact Or.inr (List.mem_of_mem_take h)
    · rcases List.mem_cons.mp h with h | h
      · exact Or.inl h
      · exact Or.inr (List.mem_of_mem_drop h)
theorem a_words_ok {A : Nat → Int} {n : Int} (hW : a_wok A n) : ∀ k : Nat, (k : Int) ≤ n → (∀ x ∈ a_words A k, 1 ≤ x ∧ x < 531441) ∧ (a_words A k).length ≤ k := by
  intro k
  induction k with
  | zero => intro _; exact ⟨fun x h => by simp [a_words, upto_0] at h, by simp [a_words, upto_0]⟩
  | succ k ih =>
    intro hk
    obtain ⟨h1, h2⟩ := ih (by omega)
    have e : a_words A (k + 1) = a_ins (a_word A k) (a_words A k) := rfl
    rw [e]
    refine ⟨fun x h => ?_, ?_⟩
    · rcases a_ins_mem h with rfl | h
      · exact hW k (by omega) (by omega)
      · exact h1 x h
    · unfold a_ins
      split
      · omega
      · simp
        omega
section
variable {E : pw_E} {w0 : pw_W} {m d : Nat} {S : tw_S}
theorem m_layShift {Q : pw_R → pw_W → Prop} {v1 w c p : Int} (hm : pw_base E ≤ m) (hp : 0 ≤ p) (hc : c < 320) : ∀ (f : Nat) (X : Nat → Int), p + f ≤ c → (∀ Y : Nat → Int, (∀ j : Nat, Y j = if (j : Int) = p then w else if p < j ∧ (j : Int) ≤ p + f then X (j - 1) else X j) → pw_Wp E m_X2_layWords (d + 1) 7 [some (va_rf (some m)), some (.int (iI (v1 + 1))), none, none, none, none] [] (tw w0 m (tw_w S (c + 1) Y)) Q) →
    pw_Wp E m_X2_layWords (d + 1) 84 [some (va_rf (some m)), some (.int (iI v1)), some (.int (iI w)), some (.int (iI p)), some (.int (iI 0)), some (.int (iI (p + f)))] [] (tw w0 m (tw_w S c X)) Q := by
  intro f
  induction f with
  | zero =>
    intro X hf H
    refine t_X2_layWords_84 hm _ _ _ _ _ ⟨rI_small (by omega) (by omega), rI_small (by omega) (by omega), ?_⟩
    rw [if_pos (by omega)]
    refine ⟨rI_small (by omega) (by omega), ?_⟩
    rw [if_pos rfl]
    refine ⟨hp, by omega, rI_small (by omega) (by omega), ?_⟩
    rw [if_pos rfl]
    have e : tw_sf (tw_sa (tw_w S c X) 12 (Int.toNat p) w) 25 ((tw_w S c X).1 25 + 1) = tw_w S (c + 1) (fun j => if j = p.toNat then w else X j) := by
      rw [tw_w_sa, tw_w_sf]; rfl
    rw [e]
    refine H _ (fun j => ?_)
    by_cases h : (j : Int) = p
    · rw [if_pos h, if_pos (by omega)]
    · rw [if_neg h, if_neg (by omega), if_neg (by omega)]
  | succ f ih =>
    intro X hf H
    refine t_X2_layWords_84 hm _ _ _ _ _ ⟨rI_small (by omega) (by omega), rI_small (by omega) (by omega), ?_⟩
    rw [if_neg (by omega)]
    refine ⟨rI_small (by omega) (by omega), ?_⟩
    rw [if_pos rfl]
    refine ⟨by omega, by omega, by omega, by omega, ?_⟩
    rw [tw_w_sa, show p + ((f + 1 : Nat) : Int) + -1 = p + (f : Int) by omega]
    refine ih _ (by omega) (fun Y hY => H Y (fun j => ?_))
    rw [hY j]
    have ex : (tw_w S c X).2.2 12 (Int.toNat (p + ((f + 1 : Nat) : Int) - 1)) = X (Int.toNat (p + ((f + 1 : Nat) : Int) - 1)) := rfl
    rw [ex]
    by_cases h1 : (j : Int) = p
    · rw [if_pos h1, if_pos h1]
    · rw [if_neg h1, if_neg h1]
      by_cases h2 : p < j ∧ (j : Int) ≤ p + f
      · rw [if_pos h2, if_neg (by omega), if_pos (by omega)]
      · rw [if_neg h2]
        by_cases h3 : j = Int.toNat (p + ((f + 1 : Nat) : Int))
        · rw [if_pos h3, if_pos (by omega)]
          congr 1
          omega
        · rw [if_neg h3, if_neg (by omega)]
theorem m_layWords_ok {K : tw_S → Prop} (hm : pw_base E ≤ m) (hA : a_ok (S.2.2 9) (S.1 24)) (hn : S.1 24 < 320) (hW : a_wok (S.2.2 9) (S.1 24)) (hd : 2 ≤ d) (H : ∀ X : Nat → Int, (∀ (i : Nat) (x : Int), (a_words (S.2.2 9) (S.1 24).toNat)[i]? = some x → X i = x) → K (tw_w S ((a_words (S.2.2 9) (S.1 24).toNat).length : Nat) X)) : pw_Cl E m_X2_layWords d [va_rf (some m)] (tw w0 m S) (c_v (t_u w0 m K)) := by
  obtain ⟨e, rfl, he⟩ := pw_d1 hd
  have h0 := hA.2.1
  refine e_X2_layWords _ (t_X2_layWords_0 hm ?_)
  rw [tw_w_0]
  refine loop_up (n := (S.1 24).toNat) (P := fun t => ∀ X : Nat → Int, (∀ (i : Nat) (x : Int), (a_words (S.2.2 9) t)[i]? = some x → X i = x) → pw_Wp E m_X2_layWords (e + 1) 7 [some (va_rf (some m)), some (.int (iI t)), none, none, none, none] [] (tw w0 m (tw_w S ((a_words (S.2.2 9) t).length : Nat) X)) (c_v (t_u w0 m K))) ?_ ?_ 0 (by omega) _ (fun i x h => by simp [a_words, upto_0] at h)
  · intro t ht ih X hX
    obtain ⟨hl1, hl2⟩ := a_words_ok hW t (by omega)
    have hw := hW t (by omega) (by omega)
    refine t_X2_layWords_7 hm _ ⟨rI_small (by show -1000000000 ≤ S.1 24; omega) (by show S.1 24 ≤ 1000000000; omega), rI_small (by omega) (by omega), ?_⟩
    refine ifF (show ¬ S.1 24 ≤ (t : Int) by omega) ?_
    refine m_wordOf_ok hm (by omega) ⟨by omega, by omega⟩ ?_
    generalize hl : a_words (S.2.2 9) t = l at *
    have hwd : a_word ((tw_w S (l.length : Nat) X).2.2 9) t = a_word (S.2.2 9) t := rfl
    rw [hwd]
    generalize hwg : a_word (S.2.2 9) t = w at *
    have hpl := a_pos_le w l
    have ihe : a_words (S.2.2 9) (t + 1) = a_ins w l := by rw [← hl, ← hwg]; rfl
    rw [ihe] at ih
    -- behind the search
    have after0 : l[a_pos w l]? ≠ some w → pw_Wp E m_X2_layWords (e + 1) 84 [some (va_rf (some m)), some (.int (iI t)), some (.int (iI w)), some (.int (iI (a_pos w l : Nat))), some (.int (iI 0)), some (.int (iI (l.length : Nat)))] [] (tw w0 m (tw_w S (l.length : Nat) X)) (c_v (t_u w0 m K)) := by
      intro hne
      have := m_layShift (E := E) (w0 := w0) (m := m) (d := e) (S := S) (Q := c_v (t_u w0 m K)) (v1 := t) (w := w) (c := (l.length : Nat)) (p := (a_pos w l : Nat)) hm (by omega) (by omega) (l.length - a_pos w l) X (by omega) ?_
      · rw [show ((a_pos w l : Nat) : Int) + ((l.length - a_pos w l : Nat) : Int) = (l.length : Nat) by omega] at this
        exact this
      · intro Y hY
        have e1 : a_ins w l = l.take (a_pos w l) ++ w :: l.drop (a_pos w l) := by unfold a_ins; rw [if_neg hne]
        rw [e1] at ih
        have e2 : (l.take (a_pos w l) ++ w :: l.drop (a_pos w l)).length = l.length + 1 := by simp; omega
        rw [e2] at ih
        refine ih Y (fun i x hx => ?_)
        rw [hY i]
        by_cases h1 : i < a_pos w l
        · rw [List.getElem?_append_left (by simp; omega), List.getElem?_take_of_lt h1] at hx
          rw [if_neg (by omega), if_neg (by omega)]
          exact hX i x hx
        · rw [List.getElem?_append_right (by simp; omega), List.length_take, Nat.min_eq_left hpl] at hx
          by_cases h2 : i = a_pos w l
          · rw [if_pos (by omega)]
            rw [h2, Nat.sub_self] at hx
            simpa using hx
          · have hi : i ≤ l.length := by
              have := (List.getElem?_eq_some_iff.mp hx).1
              simp at this
              omega
            rw [if_neg (by omega), if_pos (by omega)]
            obtain ⟨j, hj⟩ : ∃ j, i - a_pos w l = j + 1 := ⟨i - a_pos w l - 1, by omega⟩
            rw [hj, List.getElem?_cons_succ, List.getElem?_drop] at hx
            refine hX (i - 1) x ?_
            rw [show i - 1 = a_pos w l + j by omega]
            exact hx
    have after1 : l[a_pos w l]? = some w → pw_Wp E m_X2_layWords (e + 1) 84 [some (va_rf (some m)), some (.int (iI t)), some (.int (iI w)), some (.int (iI (a_pos w l : Nat))), some (.int (iI 1)), some (.int (iI (l.length : Nat)))] [] (tw w0 m (tw_w S (l.length : Nat) X)) (c_v (t_u w0 m K)) := by
      intro heq
      have hlt : a_pos w l < l.length := (List.getElem?_eq_some_iff.mp heq).1
      refine t_X2_layWords_84 hm _ _ _ _ _ ⟨rI_small (by omega) (by omega), rI_small (by omega) (by omega), ?_⟩
      rw [if_neg (by omega)]
      refine ⟨rI_small (by omega) (by omega), ?_⟩
      rw [if_neg (by decide)]
      refine ⟨rI_small (by omega) (by omega), ?_⟩
      rw [if_neg (by decide)]
      refine ⟨by omega, by omega, by omega, by omega, rI_small (by omega) (by omega), ?_⟩
      rw [if_neg (by decide)]
      have e1 : a_ins w l = l := by unfold a_ins; rw [if_pos heq]
      rw [e1] at ih
      have e2 : tw_sf (tw_sa (tw_w S (l.length : Nat) X) 12 (Int.toNat (a_pos w l : Nat)) ((tw_w S (l.length : Nat) X).2.2 12 (Int.toNat (a_pos w l : Nat)))) 25 ((tw_w S (l.length : Nat) X).1 25 + 0) = tw_w S (l.length : Nat) (fun j => if j = Int.toNat (a_pos w l : Nat) then X (Int.toNat (a_pos w l : Nat)) else X j) := by
        rw [tw_w_sa, tw_w_sf, Int.add_zero]; rfl
      rw [e2]
      refine ih _ (fun i x hx => ?_)
      show (if i = Int.toNat (a_pos w l : Nat) then X (Int.toNat (a_pos w l : Nat)) else X i) = x
      split
      · rename_i h
        rw [← h]
        exact hX i x hx
      · exact hX i x hx
    refine loop_up (n := a_pos w l) (P := fun p => pw_Wp E m_X2_layWords (e + 1) 23 [some (va_rf (some m)), some (.int (iI t)), some (.int (iI w)), some (.int (iI p)), none, none] [] (tw w0 m (tw_w S (l.length : Nat) X)) (c_v (t_u w0 m K))) ?_ ?_ 0 (by omega)
    · intro p hp ip
      obtain ⟨x, hx, hlt⟩ := a_pos_lt w l p hp
      have hxm := hl1 x (List.mem_of_getElem? hx)
      refine t_X2_layWords_23 hm _ _ _ ⟨rI_small (by show -1000000000 ≤ ((l.length : Nat) : Int); omega) (by show ((l.length : Nat) : Int) ≤ 1000000000; omega), rI_small (by omega) (by omega), ?_⟩
      refine ifF (show ¬ ((l.length : Nat) : Int) ≤ (p : Int) by omega) ?_
      refine ⟨by omega, by omega, ?_⟩
      have ex : (tw_w S (l.length : Nat) X).2.2 12 (Int.toNat (p : Int)) = x := hX p x hx
      rw [ex]
      refine m_widened_ok hm (by omega) hxm (m_widened_ok hm (by omega) hw ⟨?_, ?_, ?_⟩)
      · exact s_wide_r hw
      · exact s_wide_r hxm
      · rw [if_neg (by omega)]
        exact ip
    · refine t_X2_layWords_23 hm _ _ _ ⟨rI_small (by show -1000000000 ≤ ((l.length : Nat) : Int); omega) (by show ((l.length : Nat) : Int) ≤ 1000000000; omega), rI_small (by omega) (by omega), ?_⟩
      by_cases hlt : a_pos w l < l.length
      · refine ifF (show ¬ ((l.length : Nat) : Int) ≤ (a_pos w l : Int) by omega) ?_
        refine ⟨by omega, by omega, ?_⟩
        have hx : l[a_pos w l]? = some l[a_pos w l] := List.getElem?_eq_getElem hlt
        generalize l[a_pos w l] = x at hx
        have hxm := hl1 x (List.mem_of_getElem? hx)
        have hle := a_pos_at w l x hx
        have ex : (tw_w S (l.length : Nat) X).2.2 12 (Int.toNat (a_pos w l : Int)) = x := hX (a_pos w l) x hx
        rw [ex]
        refine m_widened_ok hm (by omega) hxm (m_widened_ok hm (by omega) hw ⟨?_, ?_, ?_⟩)
        · exact s_wide_r hw
        · exact s_wide_r hxm
        · rw [if_pos hle]
          refine ⟨rI_small (by show -1000000000 ≤ ((l.length : Nat) : Int); omega) (by show ((l.length : Nat) : Int) ≤ 1000000000; omega), rI_small (by omega) (by omega), ?_⟩
          refine ifF (show ¬ ((l.length : Nat) : Int) ≤ (a_pos w l : Int) by omega) ?_
          refine ⟨by omega, by omega, ?_⟩
          rw [ex]
          refine ⟨rI_small (by omega) (by omega), rI_small (by omega) (by omega), ?_⟩
          by_cases hxw : x = w
          · rw [if_pos hxw]
            exact after1 (by rw [hx, hxw])
          · rw [if_neg hxw]
            exact after0 (by rw [hx]; intro h; exact hxw (Option.some.inj h))
      · refine ifT (show ((l.length : Nat) : Int) ≤ (a_pos w l : Int) by omega) ?_
        refine ⟨rI_small (by show -1000000000 ≤ ((l.length : Nat) : Int); omega) (by show ((l.length : Nat) : Int) ≤ 1000000000; omega), rI_small (by omega) (by omega), ?_⟩
        refine ifT (show ((l.length : Nat) : Int) ≤ (a_pos w l : Int) by omega) ?_
        exact after0 (by rw [List.getElem?_eq_none (by omega)]; simp)
  · intro X hX
    refine t_X2_layWords_7 hm _ ⟨rI_small (by show -1000000000 ≤ S.1 24; omega) (by show S.1 24 ≤ 1000000000; omega), rI_small (by omega) (by omega), ?_⟩
    refine ifT (show S.1 24 ≤ (((S.1 24).toNat : Nat) : Int) by omega) ?_
    exact ⟨rfl, _, rfl, H X hX⟩
end
