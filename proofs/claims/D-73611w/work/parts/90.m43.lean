set_option maxRecDepth 100000
/-! the twin: a text is read -/
theorem tw_sa_at (S : tw_S) (k i : Nat) (x : Int) : (tw_sa S k i x).2.2 k = fun j => if j = i then x else S.2.2 k j := by
  funext j
  show (if k = k ∧ j = i then x else S.2.2 k j) = _
  by_cases h : j = i
  · rw [if_pos ⟨rfl, h⟩, if_pos h]
  · rw [if_neg (fun h2 => h h2.2), if_neg h]
theorem tw_sa_ne (S : tw_S) {k q : Nat} (i : Nat) (x : Int) (h : q ≠ k) : (tw_sa S k i x).2.2 q = S.2.2 q := by
  funext j
  show (if q = k ∧ j = i then x else S.2.2 q j) = _
  rw [if_neg (fun h2 => h h2.1)]
def tx_text (o : Int) (T : Nat → Int) (L z : Int) : tx_T := tx_F o T L 601 (k_skip T L 0) 0 (fun _ => 0) (0, z)
theorem g_val_0 : tx_ok (fun _ => 0) 0 := by
  refine ⟨⟨⟨⟨by decide, by decide⟩, fun d _ _ => ⟨by show (0 : Int) ≤ 0; omega, by show (0 : Int) ≤ 10; omega⟩, fun l _ _ => ⟨by show (0 : Int) ≤ 0; omega, by show (0 : Int) ≤ 20; omega⟩⟩, ⟨by decide, by decide⟩, fun d v hd0 hd1 hv0 hv1 => ?_, fun t ht0 ht1 => ?_, fun i _ => ?_⟩, fun e he0 he1 => ?_, by decide⟩
  · have : v < (0 : Int) := hv1
    omega
  · have : t < (0 : Int) := ht1
    omega
  · exact rI_small (x := 0) (by omega) (by omega)
  · have : e < (0 : Int) := he1
    omega
theorem as_ok_0 (z : Int) : as_ok (fun _ => 0) (0, z) := by
  refine ⟨⟨by decide, by decide⟩, fun _ => ⟨⟨by show (0 : Int) ≤ 0; omega, by show (0 : Int) ≤ 8; omega⟩, fun k i _ _ _ _ => ⟨by show (-1 : Int) ≤ 0; omega, by show (0 : Int) ≤ 531440; omega⟩, fun k hk0 hk1 => ?_⟩⟩
  have : k < (0 : Int) := hk1
  omega
theorem hu_ok_0 (z : Int) : hu_ok (fun _ => 0) (0, z) := ⟨⟨by decide, by decide⟩, fun _ j _ _ => ⟨by show (0 : Int) ≤ 0; omega, by show (0 : Int) ≤ 9; omega⟩⟩
theorem tx_inv_0 (o z : Int) (q : Nat) : tx_inv o (fun _ => 0) q (0, z) := ⟨⟨⟨by show (0 : Int) ≤ 0; omega, by show (0 : Int) ≤ 4; omega⟩, fun h => absurd rfl h⟩, fun _ => ⟨g_val_0.1, g_val_0.2.1, by show 11 * (0 : Int) ≤ 5 * q; omega⟩, fun _ => as_ok_0 z, fun _ => hu_ok_0 z⟩
/-- all but what a text's reading may change -/
def rt_fr (S S' : tw_S) : Prop := ∀ q : Nat, q ≠ 3 → q ≠ 4 → q ≠ 9 → q ≠ 10 → q ≠ 11 → S'.2.2 q = S.2.2 q
def rt_flt (S S' : tw_S) (k p : Int) : Prop := S'.2.2 3 = (fun j => if j = 0 then k else S.2.2 3 j) ∧ S'.2.2 4 = (fun j => if j = 0 then p else S.2.2 4 j)
def rt_post (S : tw_S) (K : Bool → tw_S → Prop) : tx_T → Prop
  | .inl p => ∀ S' : tw_S, rt_fr S S' → rt_flt S S' 1 (p : Int) → K false S'
  | .inr (f, A) => (f.1 ≠ 0 → ∀ S' : tw_S, rt_fr S S' → rt_flt S S' f.1 f.2 → K false S') ∧ (f.1 = 0 → ∀ S' : tw_S, rt_fr S S' → rt_flt S S' 0 (-1) → S'.2.2 9 = A → K true S')
section
variable {E : pw_E} {w0 : pw_W} {m d : Nat} {S : tw_S}
theorem tx_F_ok {o : Int} {T : Nat → Int} {L : Int} (hl : 0 ≤ L ∧ L ≤ 600) (ho : 0 ≤ o ∧ o ≤ 2) : ∀ (u q : Nat) (line : Int) (A : Nat → Int) (f : Int × Int), L.toNat - q < u → (q : Int) ≤ L → 0 ≤ line ∧ line ≤ q → tx_inv o A q f → match tx_F o T L u q line A f with | .inl p => (p : Int) ≤ L | .inr (f', A') => ∃ q' : Nat, (q' : Int) ≤ L ∧ tx_inv o A' q' f' := by
  intro u
  induction u with
  | zero => intro q line A f hu; omega
  | succ u ih =>
    intro q line A f hu hq hline hI
    unfold tx_F
    by_cases s0 : k_sort T L q = 0
    · rw [if_pos s0]
      exact ⟨q, hq, hI⟩
    · rw [if_neg s0]
      have hl2 := ln_ok2 (T := T) (line := line) hl hq ho hI (rI_small (by omega) (by omega))
      rcases hres : ln o T L line A q f with p | ⟨q', f', A'⟩
      · rw [hres] at hl2
        exact hl2
      · rw [hres] at hl2
        obtain ⟨⟨z1, z2⟩, z3⟩ := hl2
        show match (if k_sort T L q' = 4 then tx_F o T L u (k_go T L q') (line + 1) A' f' else .inl q') with | .inl p => (p : Int) ≤ L | .inr (f', A') => ∃ q' : Nat, (q' : Int) ≤ L ∧ tx_inv o A' q' f'
        by_cases s4 : k_sort T L q' = 4
        · rw [if_pos s4]
          have hgo := k_go_le (T := T) (L := L) (q := q') z1
          have hpos := hgo.2.2 (k_sort_pos (by omega))
          exact ih (k_go T L q') (line + 1) A' f' (by omega) hgo.2.1 ⟨by omega, by omega⟩ (z3 s4)
        · rw [if_neg s4]
          exact z1
theorem m_readText_ok {o : Int} {K : Bool → tw_S → Prop} (hm : pw_base E ≤ m) (hd : 10 ≤ d) (hl : 0 ≤ S.1 10 ∧ S.1 10 ≤ 600) (ho : 0 ≤ o ∧ o ≤ 2) (H : rt_post S K (tx_text o (S.2.2 1) (S.1 10) (S.1 17))) : pw_Cl E m_X2_readText d [va_rf (some m), .int (iI o)] (tw w0 m S) (c_z (t_b w0 m K)) := by
  obtain ⟨e, rfl, he⟩ := pw_d1 hd
  refine e_X2_readText _ _ (t_X2_readText_0 hm _ ?_)
  have loop := loop_up (n := 1526) (P := fun i => ∀ X : Nat → Int, (∀ j, j < i → X j = 0) → pw_Wp E m_X2_readText (e + 1) 2 [some (va_rf (some m)), some (.int (iI o)), some (.int (iI i))] [] (tw w0 m (tw_set S 9 X)) (c_z (t_b w0 m K))) ?_ ?_ 0 (by omega)
  · have := loop (S.2.2 9) (fun j hj => absurd hj (Nat.not_lt_zero j))
    rw [tw_set_self] at this
    exact this
  · intro i hi ih X hX
    refine t_X2_readText_2 hm _ _ ⟨rI_small (by omega) (by omega), ifF (by omega) ⟨by omega, by omega, ?_⟩⟩
    rw [tw_set_sa]
    refine ih _ (fun j hj => ?_)
    show (if j = Int.toNat (i : Int) then 0 else X j) = 0
    split
    · rfl
    · exact hX j (by omega)
  · intro X hX
    have ex : tw w0 m (tw_set S 9 X) = tw w0 m (tw_set S 9 (fun _ => 0)) := by
      refine tw_ext rfl rfl (fun k i hi => ?_)
      show (if k = 9 then X else S.2.2 k) i = (if k = 9 then (fun _ => 0) else S.2.2 k) i
      by_cases h : k = 9
      · subst h
        rw [if_pos rfl, if_pos rfl]
        exact hX i hi
      · rw [if_neg h, if_neg h]
    rw [ex]
    refine t_X2_readText_2 hm _ _ ⟨rI_small (by omega) (by omega), ifT (by omega) ?_⟩
    have hsk : k_skip (S.2.2 1) (S.1 10) 0 ≤ 0 + ((S.1 10).toNat - 0) := (k_skip_le (S.2.2 1) (S.1 10) ((S.1 10).toNat - 0) 0).2
    refine m_token_ok (T := S.2.2 1) (L := S.1 10) (p := 0) hm (by omega) rfl rfl hl rfl (by omega) (fun S1 y1 y2 => ?_)
    have e9 : S1.2.2 9 = fun _ => 0 := by rw [y2.2]; rfl
    have h16 : S1.1 16 = 0 ∧ S1.1 17 = S.1 17 := ⟨by rw [y2.1 16 rfl]; rfl, by rw [y2.1 17 rfl]; rfl⟩
    refine m_allLines_ok (g := true) (f := (0, S.1 17)) hm (by omega) hl (by omega) ho y1 h16 e9 (tx_inv_0 o _ _) ?_
    have hfr0 : ∀ q : Nat, q ≠ 9 → S1.2.2 q = S.2.2 q := by
      intro q hq
      rw [y2.2]
      show (if q = 9 then (fun _ => 0) else S.2.2 q) = _
      rw [if_neg hq]
    have fin : ∀ (S2 : tw_S) (k p : Int), x_fr S1 S2 → rt_fr S (tw_sa (tw_sa S2 3 0 k) 4 0 p) ∧ rt_flt S (tw_sa (tw_sa S2 3 0 k) 4 0 p) k p := by
      intro S2 k p hx
      refine ⟨fun q h3 h4 h9 h10 h11 => ?_, ?_, ?_⟩
      · rw [tw_sa_ne _ _ _ h4, tw_sa_ne _ _ _ h3, hx.2 q h9 h10 h11, hfr0 q h9]
      · rw [tw_sa_ne _ _ _ (by decide), tw_sa_at, hx.2 3 (by omega) (by omega) (by omega), hfr0 3 (by omega)]
      · rw [tw_sa_at, tw_sa_ne _ _ _ (by decide), hx.2 4 (by omega) (by omega) (by omega), hfr0 4 (by omega)]
    unfold tx_text at H
    have hok := tx_F_ok (T := S.2.2 1) hl ho 601 (k_skip (S.2.2 1) (S.1 10) 0) 0 (fun _ => 0) (0, S.1 17) (by omega) (by omega) ⟨by omega, by omega⟩ (tx_inv_0 o _ _)
    rcases hres : tx_F o (S.2.2 1) (S.1 10) 601 (k_skip (S.2.2 1) (S.1 10) 0) 0 (fun _ => 0) (0, S.1 17) with p | ⟨f, A⟩
    · rw [hres] at H
      intro S2 z1 z2
      rw [if_neg (by decide), if_neg (by decide), z1]
      obtain ⟨w1, w2⟩ := fin S2 1 p z2
      exact ifF (by omega) ⟨false, rfl, _, rfl, H _ w1 w2⟩
    · rw [hres] at H hok
      obtain ⟨q', hq', hf, -⟩ := hok
      intro S2 z1 z2 z3 z4
      have hfr : rI (S2.1 16) := by rw [z1]; exact rI_small (by have := hf.1; omega) (by have := hf.1; omega)
      rw [if_pos rfl, if_pos rfl]
      refine ⟨hfr, ?_⟩
      by_cases h0 : f.1 = 0
      · have e0 : S2.1 16 = 0 := z1.trans h0
        refine ifT (by omega) ⟨hfr, ifT e0 ⟨true, rfl, _, rfl, ?_⟩⟩
        obtain ⟨w1, w2⟩ := fin S2 0 (-1) z4
        rw [e0]
        refine H.2 h0 _ w1 w2 ?_
        rw [tw_sa_ne _ _ _ (by decide), tw_sa_ne _ _ _ (by decide)]
        exact z3
      · have hf1 := hf.1
        refine ifF (by omega) ⟨hfr, ifF (by omega) ⟨false, rfl, _, rfl, ?_⟩⟩
        obtain ⟨w1, w2⟩ := fin S2 f.1 f.2 z4
        rw [z1, z2]
        exact H.1 h0 _ w1 w2
theorem m_store_ok {k w a : Nat} {K : tw_S → Prop} (hm : pw_base E ≤ m) (hd : 1 ≤ d) (hk : (decide (1 < k) && decide (k < 16)) = true) (hk9 : k ≠ 9) (hw : w ≤ 1526) (hQ : w * a + w ≤ tw_len k) (H : K (tw_set S k (fun j => if w * a ≤ j ∧ j < w * a + w then S.2.2 9 (j - w * a) else S.2.2 k j))) : pw_Cl E m_X2_store d [va_rf (some m), va_rf (some (m + k)), .int (iI w), .int (iI a)] (tw w0 m S) (c_v (t_u w0 m K)) := by
  obtain ⟨e, rfl, he⟩ := pw_d1 hd
  have hlen := tw_len_le k
  have e2 : (w : Int) * (a : Int) = ((w * a : Nat) : Int) := by simp
  generalize hq : w * a = Q at *
  have loop := loop_up (n := w) (P := fun i => ∀ X : Nat → Int, (∀ j, X j = if Q ≤ j ∧ j < Q + i then S.2.2 9 (j - Q) else S.2.2 k j) → pw_Wp E m_X2_store (e + 1) 3 [some (va_rf (some m)), some (va_rf (some (m + k))), some (.int (iI w)), some (.int (iI a)), some (.int (iI i))] [] (tw w0 m (tw_set S k X)) (c_v (t_u w0 m K))) ?_ ?_ 0 (by omega)
  · have := loop (S.2.2 k) (fun j => by rw [if_neg (by omega)])
    rw [tw_set_self] at this
    exact e_X2_store _ _ _ _ (t_X2_store_0 hm k hk _ _ this)
  · intro i hi ih X hX
    refine t_X2_store_3 hm k hk _ _ _ ⟨rI_small (by omega) (by omega), rI_small (by omega) (by omega), ifF (by omega) ⟨by omega, by omega, ?_⟩⟩
    rw [e2]
    refine ⟨by omega, by omega, ?_⟩
    rw [tw_set_sa]
    refine ih _ (fun j => ?_)
    have e9 : (tw_set S k X).2.2 9 (Int.toNat (i : Int)) = S.2.2 9 i := by
      show (if 9 = k then X else S.2.2 9) (Int.toNat (i : Int)) = _
      rw [if_neg (fun h => hk9 h.symm)]
      congr 1
    rw [e9]
    by_cases h : j = Q + i
    · rw [if_pos (by omega), if_pos (by omega), show j - Q = i by omega]
    · rw [if_neg (by omega), hX j]
      by_cases h2 : Q ≤ j ∧ j < Q + i
      · rw [if_pos h2, if_pos (by omega)]
      · rw [if_neg h2, if_neg (by omega)]
  · intro X hX
    refine t_X2_store_3 hm k hk _ _ _ ⟨rI_small (by omega) (by omega), rI_small (by omega) (by omega), ifT (by omega) ⟨rfl, _, rfl, ?_⟩⟩
    have : X = fun j => if Q ≤ j ∧ j < Q + w then S.2.2 9 (j - Q) else S.2.2 k j := funext hX
    rw [this]
    exact H
end
