set_option maxRecDepth 100000
/-! the twin: of a version: new tokens, lost ones, the oldest -/
/-- a set's numbers below v; up to v -/
def s_below (x v : Int) : Int := Int32.toInt (iI x &&& ((1 <<< (iI v &&& 31)) - 1))
def s_till (x v : Int) : Int := Int32.toInt (iI x &&& ((2 <<< (iI v &&& 31)) - 1))
def a_fresh (A : Nat → Int) (d v : Int) : Int := upto (a_long A d v).toNat (fun p (n : Int) => n + (if s_below (a_where A (a_tok A d v p)) v = 0 then 1 else 0)) 0
def a_lost (A : Nat → Int) (d v : Int) : Int := if v ≤ 0 then 0 else upto (a_long A d (v - 1)).toNat (fun p (n : Int) => n + (if a_place A d v (a_tok A d (v - 1) p) = -1 then 1 else 0)) 0
def a_oldest (A : Nat → Int) (d v : Int) : Int × Int := upto (a_long A d v).toNat (fun p (b : Int × Int) => (if s_ones (s_till (a_where A (a_tok A d v p)) v) ≤ b.2 then b.1 else (p : Int), max b.2 (s_ones (s_till (a_where A (a_tok A d v p)) v)))) (-1, 0)
section
variable {E : pw_E} {w0 : pw_W} {m d : Nat} {S : tw_S}
theorem m_fresh_ok {a v : Int} {K : Int → tw_S → Prop} (hm : pw_base E ≤ m) (hA : a_ok (S.2.2 9) (S.1 24)) (hd : 5 ≤ d) (ha : 0 ≤ a ∧ a < 4) (hv : 0 ≤ v ∧ v < a_many (S.2.2 9) a) (H : K (a_fresh (S.2.2 9) a v) S) : pw_Cl E m_X2_fresh d [va_rf (some m), .int (iI a), .int (iI v)] (tw w0 m S) (c_i (t_i w0 m K)) := by
  obtain ⟨e, rfl, he⟩ := pw_d1 hd
  have hv10 := (hA.2.2.1 a ha.1 ha.2).2
  have hl := hA.2.2.2.1 a v ha.1 ha.2 hv.1 (by omega)
  refine e_X2_fresh _ _ _ (t_X2_fresh_0 hm _ _ (loop_up (n := (a_long (S.2.2 9) a v).toNat) (P := fun k => pw_Wp E m_X2_fresh (e + 1) 5 [some (va_rf (some m)), some (.int (iI a)), some (.int (iI v)), some (.int (iI (upto k (fun p (n : Int) => n + (if s_below (a_where (S.2.2 9) (a_tok (S.2.2 9) a v p)) v = 0 then 1 else 0)) 0))), some (.int (iI k))] [] (tw w0 m S) _) ?_ ?_ 0 (by omega)))
  · intro k hk ih
    rw [upto_s] at ih
    have ht := hA.2.2.2.2.1 a v k ha.1 ha.2 hv.1 hv.2 (by omega) (by omega)
    refine t_X2_fresh_5 hm _ _ _ _ (m_longOf_ok hm (by omega) ha ⟨hv.1, by omega⟩ ⟨rI_small (by omega) (by omega), rI_small (by omega) (by omega), ?_⟩)
    rw [if_neg (by omega)]
    refine m_tokenAt_ok hm (by omega) ha ⟨hv.1, by omega⟩ ⟨by omega, by omega⟩ (m_whereIs_ok hm hA (by omega) ht ?_)
    by_cases h : s_below (a_where (S.2.2 9) (a_tok (S.2.2 9) a v k)) v = 0
    · rw [if_pos (show Int32.toInt _ = 0 from h)]
      rw [if_pos h] at ih
      exact ih
    · rw [if_neg (show ¬ Int32.toInt _ = 0 from h)]
      rw [if_neg h] at ih
      exact ih
  · refine t_X2_fresh_5 hm _ _ _ _ (m_longOf_ok hm (by omega) ha ⟨hv.1, by omega⟩ ⟨rI_small (by omega) (by omega), rI_small (by omega) (by omega), ?_⟩)
    rw [if_pos (by omega)]
    exact ⟨_, rfl, _, S, rfl, rfl, H⟩
theorem m_lost_ok {a v : Int} {K : Int → tw_S → Prop} (hm : pw_base E ≤ m) (hA : a_ok (S.2.2 9) (S.1 24)) (hd : 5 ≤ d) (ha : 0 ≤ a ∧ a < 4) (hv : 0 ≤ v ∧ v < a_many (S.2.2 9) a) (H : K (a_lost (S.2.2 9) a v) S) : pw_Cl E m_X2_lost d [va_rf (some m), .int (iI a), .int (iI v)] (tw w0 m S) (c_i (t_i w0 m K)) := by
  obtain ⟨e, rfl, he⟩ := pw_d1 hd
  have hn := hA.2.1
  have hv10 := (hA.2.2.1 a ha.1 ha.2).2
  refine e_X2_lost _ _ _ (t_X2_lost_0 hm _ _ ?_)
  unfold a_lost at H
  by_cases h0 : v ≤ 0
  · rw [if_pos h0] at H
    refine t_X2_lost_5 hm _ _ _ _ ⟨rI_small (by omega) (by omega), ?_⟩
    rw [if_pos h0]
    exact ⟨_, rfl, _, S, rfl, rfl, H⟩
  · rw [if_neg h0] at H
    have hl := hA.2.2.2.1 a (v - 1) ha.1 ha.2 (by omega) (by omega)
    refine loop_up (n := (a_long (S.2.2 9) a (v - 1)).toNat) (P := fun k => pw_Wp E m_X2_lost (e + 1) 5 [some (va_rf (some m)), some (.int (iI a)), some (.int (iI v)), some (.int (iI (upto k (fun p (n : Int) => n + (if a_place (S.2.2 9) a v (a_tok (S.2.2 9) a (v - 1) p) = -1 then 1 else 0)) 0))), some (.int (iI k))] [] (tw w0 m S) _) ?_ ?_ 0 (by omega)
    · intro k hk ih
      rw [upto_s] at ih
      have ht := hA.2.2.2.2.1 a (v - 1) k ha.1 ha.2 (by omega) (by omega) (by omega) (by omega)
      have hp := a_place_r (S.2.2 9) a v (a_tok (S.2.2 9) a (v - 1) k)
      have hl2 := hA.2.2.2.1 a v ha.1 ha.2 hv.1 (by omega)
      refine t_X2_lost_5 hm _ _ _ _ ⟨rI_small (by omega) (by omega), ?_⟩
      rw [if_neg h0]
      refine m_longOf_ok hm (by omega) ha ⟨by omega, by omega⟩ ⟨rI_small (by omega) (by omega), rI_small (by omega) (by omega), ?_⟩
      rw [if_neg (by omega)]
      refine m_tokenAt_ok hm (by omega) ha ⟨by omega, by omega⟩ ⟨by omega, by omega⟩ (m_placeOf_ok hm hA (by omega) ha hv (rI_small (by omega) (by omega)) ⟨rI_small (by omega) (by omega), ?_⟩)
      by_cases h : a_place (S.2.2 9) a v (a_tok (S.2.2 9) a (v - 1) k) = -1
      · rw [if_pos h]
        rw [if_pos h] at ih
        exact ih
      · rw [if_neg h]
        rw [if_neg h] at ih
        exact ih
    · refine t_X2_lost_5 hm _ _ _ _ ⟨rI_small (by omega) (by omega), ?_⟩
      rw [if_neg h0]
      refine m_longOf_ok hm (by omega) ha ⟨by omega, by omega⟩ ⟨rI_small (by omega) (by omega), rI_small (by omega) (by omega), ?_⟩
      rw [if_pos (by omega)]
      exact ⟨_, rfl, _, S, rfl, rfl, H⟩
end
