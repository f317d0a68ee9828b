set_option maxRecDepth 100000
/-! the twin: of a version: the oldest token; what a document is asked -/
theorem upto_inv {α : Type} {f : Nat → α → α} {x : α} {Q : α → Prop} (h0 : Q x) (hs : ∀ k a, Q a → Q (f k a)) (n : Nat) : Q (upto n f x) := upto_ind h0 n (fun k a _ h => hs k a h)
section
variable {E : pw_E} {w0 : pw_W} {m d : Nat} {S : tw_S}
theorem m_oldest_ok {a v : Int} {K : Int → tw_S → Prop} (hm : pw_base E ≤ m) (hA : a_ok (S.2.2 9) (S.1 24)) (hd : 5 ≤ d) (ha : 0 ≤ a ∧ a < 4) (hv : 0 ≤ v ∧ v < a_many (S.2.2 9) a) (H : K (a_oldest (S.2.2 9) a v).1 S) : pw_Cl E m_X2_oldest d [va_rf (some m), .int (iI a), .int (iI v)] (tw w0 m S) (c_i (t_i w0 m K)) := by
  obtain ⟨e, rfl, he⟩ := pw_d1 hd
  have hv10 := (hA.2.2.1 a ha.1 ha.2).2
  have hl := hA.2.2.2.1 a v ha.1 ha.2 hv.1 (by omega)
  refine e_X2_oldest _ _ _ (t_X2_oldest_0 hm _ _ (loop_up (n := (a_long (S.2.2 9) a v).toNat) (P := fun k => pw_Wp E m_X2_oldest (e + 1) 8 [some (va_rf (some m)), some (.int (iI a)), some (.int (iI v)), some (.int (iI (upto k (fun p (b : Int × Int) => (if s_ones (s_till (a_where (S.2.2 9) (a_tok (S.2.2 9) a v p)) v) ≤ b.2 then b.1 else (p : Int), max b.2 (s_ones (s_till (a_where (S.2.2 9) (a_tok (S.2.2 9) a v p)) v)))) (-1, 0)).1)), some (.int (iI (upto k (fun p (b : Int × Int) => (if s_ones (s_till (a_where (S.2.2 9) (a_tok (S.2.2 9) a v p)) v) ≤ b.2 then b.1 else (p : Int), max b.2 (s_ones (s_till (a_where (S.2.2 9) (a_tok (S.2.2 9) a v p)) v)))) (-1, 0)).2)), some (.int (iI k)), none] [] (tw w0 m S) _) ?_ ?_ 0 (by omega)))
  · intro k hk ih
    have hb := upto_inv (Q := fun (b : Int × Int) => 0 ≤ b.2 ∧ b.2 ≤ 10) (x := (-1, 0)) ⟨by decide, by decide⟩ (f := fun p (b : Int × Int) => (if s_ones (s_till (a_where (S.2.2 9) (a_tok (S.2.2 9) a v p)) v) ≤ b.2 then b.1 else (p : Int), max b.2 (s_ones (s_till (a_where (S.2.2 9) (a_tok (S.2.2 9) a v p)) v)))) (fun p b h => by
      have := s_ones_r (s_till (a_where (S.2.2 9) (a_tok (S.2.2 9) a v p)) v)
      show 0 ≤ max b.2 _ ∧ max b.2 _ ≤ 10
      omega) k
    rw [upto_s] at ih
    generalize upto k (fun p (b : Int × Int) => (if s_ones (s_till (a_where (S.2.2 9) (a_tok (S.2.2 9) a v p)) v) ≤ b.2 then b.1 else (p : Int), max b.2 (s_ones (s_till (a_where (S.2.2 9) (a_tok (S.2.2 9) a v p)) v)))) (-1, 0) = B at ih hb ⊢
    obtain ⟨b1, b2⟩ := B
    have ht := hA.2.2.2.2.1 a v k ha.1 ha.2 hv.1 hv.2 (by omega) (by omega)
    refine t_X2_oldest_8 hm _ _ _ _ _ (m_longOf_ok hm (by omega) ha ⟨hv.1, by omega⟩ ⟨rI_small (by omega) (by omega), rI_small (by omega) (by omega), ?_⟩)
    rw [if_neg (by omega)]
    refine m_tokenAt_ok hm (by omega) ha ⟨hv.1, by omega⟩ ⟨by omega, by omega⟩ (m_whereIs_ok hm hA (by omega) ht (m_ones_ok hm (by omega) ?_))
    have ho := s_ones_r (s_till (a_where (S.2.2 9) (a_tok (S.2.2 9) a v k)) v)
    have hb1 : 0 ≤ b2 := hb.1
    have hb2 : b2 ≤ 10 := hb.2
    refine ⟨rI_small (show -1000000000 ≤ s_ones (s_till _ _) by omega) (show s_ones (s_till _ _) ≤ 1000000000 by omega), rI_small (by omega) (by omega), ?_⟩
    by_cases h : s_ones (s_till (a_where (S.2.2 9) (a_tok (S.2.2 9) a v k)) v) ≤ b2
    · rw [if_pos (show s_ones (Int32.toInt _) ≤ b2 from h)]
      rw [show (if s_ones (s_till (a_where (S.2.2 9) (a_tok (S.2.2 9) a v k)) v) ≤ (b1, b2).2 then (b1, b2).1 else (k : Int)) = b1 from if_pos h] at ih
      exact m_greater_ok hm (by omega) (rI_small (by omega) (by omega)) (rI_small (show -1000000000 ≤ s_ones (s_till _ _) by omega) (show s_ones (s_till _ _) ≤ 1000000000 by omega)) ih
    · rw [if_neg (show ¬ s_ones (Int32.toInt _) ≤ b2 from h)]
      rw [show (if s_ones (s_till (a_where (S.2.2 9) (a_tok (S.2.2 9) a v k)) v) ≤ (b1, b2).2 then (b1, b2).1 else (k : Int)) = (k : Int) from if_neg h] at ih
      exact m_greater_ok hm (by omega) (rI_small (by omega) (by omega)) (rI_small (show -1000000000 ≤ s_ones (s_till _ _) by omega) (show s_ones (s_till _ _) ≤ 1000000000 by omega)) ih
  · refine t_X2_oldest_8 hm _ _ _ _ _ (m_longOf_ok hm (by omega) ha ⟨hv.1, by omega⟩ ⟨rI_small (by omega) (by omega), rI_small (by omega) (by omega), ?_⟩)
    rw [if_pos (by omega)]
    exact ⟨_, rfl, _, S, rfl, rfl, H⟩
end
