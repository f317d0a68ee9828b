set_option maxRecDepth 100000
/-! the twin: of an archive that is told (array 9), with n tokens (field 24) -/
def a_ok (A : Nat → Int) (n : Int) : Prop :=
  (0 ≤ A 0 ∧ A 0 ≤ 4) ∧ (0 ≤ n ∧ n ≤ 320) ∧ (∀ d, 0 ≤ d → d < 4 → 0 ≤ a_many A d ∧ a_many A d ≤ 10) ∧ (∀ d v, 0 ≤ d → d < 4 → 0 ≤ v → v < 10 → 0 ≤ a_long A d v ∧ a_long A d v ≤ 20) ∧
  (∀ d v k, 0 ≤ d → d < 4 → 0 ≤ v → v < a_many A d → 0 ≤ k → k < a_long A d v → 0 ≤ a_tok A d v k ∧ a_tok A d v k < n) ∧ (∀ t, 0 ≤ t → t < n → (0 ≤ a_whose A t ∧ a_whose A t < 4) ∧ rI (a_word A t))
theorem rI_small {x : Int} (h1 : -1000000000 ≤ x) (h2 : x ≤ 1000000000) : rI x := by constructor <;> omega
def s_or (x y : Int) : Int := Int32.toInt (iI x ||| iI y)
def s_bit (v : Int) : Int := Int32.toInt (1 <<< (iI v &&& 31))
theorem s_orE (a k : Int) : Int32.toInt (iI a ||| (1 <<< (iI k &&& 31))) = s_or a (s_bit k) := by unfold s_or s_bit; rw [iI_of]
theorem rI_or (x y : Int) : rI (s_or x y) := rI_of _
def a_place (A : Nat → Int) (d v t : Int) : Int := upto (a_long A d v).toNat (fun p r => if a_tok A d v p = t then (p : Int) else r) (-1)
def a_where (A : Nat → Int) (t : Int) : Int := upto (a_many A (a_whose A t)).toNat (fun v s => if a_place A (a_whose A t) v t = -1 then s_or s 0 else s_or s (s_bit v)) 0
theorem upto_ind {α : Type} {f : Nat → α → α} {x : α} {Q : α → Prop} (h0 : Q x) (n : Nat) (hs : ∀ k a, k < n → Q a → Q (f k a)) : Q (upto n f x) := by
  induction n with
  | zero => exact h0
  | succ n ih => exact hs n _ (Nat.lt_succ_self n) (ih (fun k a hk => hs k a (by omega)))
theorem a_place_r (A : Nat → Int) (d v t : Int) : -1 ≤ a_place A d v t ∧ (a_place A d v t < a_long A d v ∨ a_place A d v t = -1) := by
  unfold a_place
  refine upto_ind (Q := fun a => -1 ≤ a ∧ (a < a_long A d v ∨ a = -1)) ⟨by omega, Or.inr rfl⟩ _ (fun k a hk ha => ?_)
  split
  · exact ⟨by omega, Or.inl (by omega)⟩
  · exact ha
theorem a_where_r (A : Nat → Int) (t : Int) : rI (a_where A t) := by
  unfold a_where
  refine upto_ind (Q := rI) (by constructor <;> omega) _ (fun k a _ _ => ?_)
  split
  · exact rI_or _ _
  · exact rI_or _ _
section
variable {E : pw_E} {w0 : pw_W} {m d : Nat} {S : tw_S}
theorem m_placeOf_ok {a v t : Int} {K : Int → tw_S → Prop} (hm : pw_base E ≤ m) (hA : a_ok (S.2.2 9) (S.1 24)) (hd : 3 ≤ d) (ha : 0 ≤ a ∧ a < 4) (hv : 0 ≤ v ∧ v < a_many (S.2.2 9) a) (ht : rI t) (H : K (a_place (S.2.2 9) a v t) S) : pw_Cl E m_X2_placeOf d [va_rf (some m), .int (iI a), .int (iI v), .int (iI t)] (tw w0 m S) (c_i (t_i w0 m K)) := by
  obtain ⟨e, rfl, he⟩ := pw_d1 hd
  have hv10 := (hA.2.2.1 a ha.1 ha.2).2
  have hl := hA.2.2.2.1 a v ha.1 ha.2 hv.1 (by omega)
  refine e_X2_placeOf _ _ _ _ (t_X2_placeOf_0 hm _ _ _ (loop_up (n := (a_long (S.2.2 9) a v).toNat) (P := fun k => pw_Wp E m_X2_placeOf (e + 1) 6 [some (va_rf (some m)), some (.int (iI a)), some (.int (iI v)), some (.int (iI t)), some (.int (iI (upto k (fun p r => if a_tok (S.2.2 9) a v p = t then (p : Int) else r) (-1)))), some (.int (iI k))] [] (tw w0 m S) _) ?_ ?_ 0 (by omega)))
  · intro k hk ih
    refine t_X2_placeOf_6 hm _ _ _ _ _ (m_longOf_ok hm he ha ⟨hv.1, by omega⟩ ⟨rI_small (by omega) (by omega), rI_small (by omega) (by omega), ?_⟩)
    rw [if_neg (by omega)]
    have htk := hA.2.2.2.2.1 a v k ha.1 ha.2 hv.1 hv.2 (by omega) (by omega)
    have hn := hA.2.1
    refine m_tokenAt_ok hm he ha ⟨hv.1, by omega⟩ ⟨by omega, by omega⟩ ⟨rI_small (by omega) (by omega), ht, ?_⟩
    rw [upto_s] at ih
    by_cases h : a_tok (S.2.2 9) a v k = t
    · rw [if_pos h] at ih ⊢; exact ih
    · rw [if_neg h] at ih ⊢; exact ih
  · refine t_X2_placeOf_6 hm _ _ _ _ _ (m_longOf_ok hm he ha ⟨hv.1, by omega⟩ ⟨rI_small (by omega) (by omega), rI_small (by omega) (by omega), ?_⟩)
    rw [if_pos (by omega)]
    exact ⟨_, rfl, _, S, rfl, rfl, H⟩
theorem m_whereIs_ok {t : Int} {K : Int → tw_S → Prop} (hm : pw_base E ≤ m) (hA : a_ok (S.2.2 9) (S.1 24)) (hd : 4 ≤ d) (ht : 0 ≤ t ∧ t < S.1 24) (H : K (a_where (S.2.2 9) t) S) : pw_Cl E m_X2_whereIs d [va_rf (some m), .int (iI t)] (tw w0 m S) (c_i (t_i w0 m K)) := by
  obtain ⟨e, rfl, he⟩ := pw_d1 hd
  have hn := hA.2.1
  have hw := (hA.2.2.2.2.2 t ht.1 ht.2).1
  have hv10 := hA.2.2.1 _ hw.1 hw.2
  refine e_X2_whereIs _ _ (t_X2_whereIs_0 hm _ ⟨by omega, by omega, loop_up (n := (a_many (S.2.2 9) (a_whose (S.2.2 9) t)).toNat) (P := fun k => pw_Wp E m_X2_whereIs (e + 1) 16 [some (va_rf (some m)), some (.int (iI t)), some (.int (iI (a_whose (S.2.2 9) t))), some (.int (iI (upto k (fun v s => if a_place (S.2.2 9) (a_whose (S.2.2 9) t) v t = -1 then s_or s 0 else s_or s (s_bit v)) 0))), some (.int (iI k))] [] (tw w0 m S) _) ?_ ?_ 0 (by omega)⟩)
  · intro k hk ih
    refine t_X2_whereIs_16 hm _ _ _ _ (m_versions_ok hm (by omega) hw ⟨rI_small (by omega) (by omega), rI_small (by omega) (by omega), ?_⟩)
    rw [if_neg (by omega)]
    have hp := a_place_r (S.2.2 9) (a_whose (S.2.2 9) t) k t
    have hl := hA.2.2.2.1 _ k hw.1 hw.2 (by omega) (by omega)
    refine m_placeOf_ok hm hA (by omega) hw ⟨by omega, by omega⟩ (rI_small (by omega) (by omega)) ⟨rI_small (by omega) (by omega), ?_⟩
    rw [upto_s] at ih
    by_cases h : a_place (S.2.2 9) (a_whose (S.2.2 9) t) k t = -1
    · rw [if_pos h] at ih ⊢; exact ih
    · rw [if_neg h] at ih ⊢
      rw [s_orE]
      exact ih
  · refine t_X2_whereIs_16 hm _ _ _ _ (m_versions_ok hm (by omega) hw ⟨rI_small (by omega) (by omega), rI_small (by omega) (by omega), ?_⟩)
    rw [if_pos (by omega)]
    exact ⟨_, rfl, _, S, rfl, rfl, H⟩
theorem m_rowsIn_ok {x : Int} {K : Int → tw_S → Prop} (hm : pw_base E ≤ m) (hd : 2 ≤ d) (H : K (upto 10 (fun v n => n + (if s_has x v = true ∧ (v = 0 ∨ s_has x ((v : Int) - 1) = false) then 1 else 0)) 0) S) : pw_Cl E m_X2_rowsIn d [.int (iI x)] (tw w0 m S) (c_i (t_i w0 m K)) := by
  obtain ⟨e, rfl, he⟩ := pw_d1 hd
  refine e_X2_rowsIn _ (t_X2_rowsIn_0 hm _ (loop_up (n := 10) (P := fun k => pw_Wp E m_X2_rowsIn (e + 1) 4 [some (.int (iI x)), some (.int (iI (upto k (fun v n => n + (if s_has x v = true ∧ (v = 0 ∨ s_has x ((v : Int) - 1) = false) then 1 else 0)) 0))), some (.int (iI k))] [] (tw w0 m S) _) ?_ ?_ 0 (by omega)))
  · intro k hk ih
    refine t_X2_rowsIn_4 hm _ _ _ ⟨rI_small (by omega) (by omega), ?_⟩
    rw [if_neg (by omega)]
    refine m_has_ok he ?_
    rw [upto_s] at ih
    cases hb : s_has x k with
    | false =>
      rw [if_neg (by decide)]
      rw [if_neg (by rw [hb]; rintro ⟨h, -⟩; cases h)] at ih
      exact ih
    | true =>
      rw [if_pos rfl]
      refine ⟨rI_small (by omega) (by omega), ?_⟩
      by_cases h0 : (k : Int) = 0
      · rw [if_pos h0]
        rw [if_pos ⟨hb, Or.inl (by omega)⟩] at ih
        exact ih
      · rw [if_neg h0]
        refine m_has_ok he ?_
        cases hc : s_has x ((k : Int) - 1) with
        | true =>
          rw [if_pos rfl]
          rw [if_neg (fun q => q.2.elim (fun h => by omega) (fun h => by rw [hc] at h; cases h))] at ih
          exact ih
        | false =>
          rw [if_neg (by decide)]
          rw [if_pos ⟨hb, Or.inr hc⟩] at ih
          exact ih
  · refine t_X2_rowsIn_4 hm _ _ _ ⟨rI_small (by omega) (by omega), ?_⟩
    rw [if_pos (by decide)]
    exact ⟨_, rfl, _, S, rfl, rfl, H⟩
def s_last (x : Int) : Int := upto 10 (fun v l => if s_has x v = true then (v : Int) else l) (-1)
theorem m_lastIn_ok {x : Int} {K : Int → tw_S → Prop} (hm : pw_base E ≤ m) (hd : 2 ≤ d) (H : K (s_last x) S) : pw_Cl E m_X2_lastIn d [.int (iI x)] (tw w0 m S) (c_i (t_i w0 m K)) := by
  obtain ⟨e, rfl, he⟩ := pw_d1 hd
  refine e_X2_lastIn _ (t_X2_lastIn_0 hm _ (loop_up (n := 10) (P := fun k => pw_Wp E m_X2_lastIn (e + 1) 4 [some (.int (iI x)), some (.int (iI (upto k (fun v l => if s_has x v = true then (v : Int) else l) (-1)))), some (.int (iI k))] [] (tw w0 m S) _) ?_ ?_ 0 (by omega)))
  · intro k hk ih
    refine t_X2_lastIn_4 hm _ _ _ ⟨rI_small (by omega) (by omega), ?_⟩
    rw [if_neg (by omega)]
    refine m_has_ok he ?_
    rw [upto_s] at ih
    by_cases hb : s_has x k = true
    · rw [if_pos hb] at ih ⊢; exact ih
    · rw [if_neg hb] at ih ⊢; exact ih
  · refine t_X2_lastIn_4 hm _ _ _ ⟨rI_small (by omega) (by omega), ?_⟩
    rw [if_pos (by decide)]
    exact ⟨_, rfl, _, S, rfl, rfl, H⟩
def a_all (A : Nat → Int) : Int := upto (A 0).toNat (fun d n => n + a_many A d) 0
theorem m_versionsAll_ok {K : Int → tw_S → Prop} (hm : pw_base E ≤ m) (hA : a_ok (S.2.2 9) (S.1 24)) (hd : 2 ≤ d) (H : K (a_all (S.2.2 9)) S) : pw_Cl E m_X2_versionsAll d [va_rf (some m)] (tw w0 m S) (c_i (t_i w0 m K)) := by
  obtain ⟨e, rfl, he⟩ := pw_d1 hd
  have h0 := hA.1
  refine e_X2_versionsAll _ (t_X2_versionsAll_0 hm (loop_up (n := (S.2.2 9 0).toNat) (P := fun k => pw_Wp E m_X2_versionsAll (e + 1) 4 [some (va_rf (some m)), some (.int (iI (upto k (fun d n => n + a_many (S.2.2 9) d) 0))), some (.int (iI k))] [] (tw w0 m S) _) ?_ ?_ 0 (by omega)))
  · intro k hk ih
    refine t_X2_versionsAll_4 hm _ _ ⟨rI_small (by omega) (by omega), rI_small (by omega) (by omega), ?_⟩
    rw [if_neg (by omega)]
    exact m_versions_ok hm he ⟨by omega, by omega⟩ ih
  · refine t_X2_versionsAll_4 hm _ _ ⟨rI_small (by omega) (by omega), rI_small (by omega) (by omega), ?_⟩
    rw [if_pos (by omega)]
    exact ⟨_, rfl, _, S, rfl, rfl, H⟩
def a_sizes (A : Nat → Int) : Int := upto (A 0).toNat (fun d n => upto (a_many A d).toNat (fun v n => n + a_long A d v) n) 0
theorem m_sizeAll_ok {K : Int → tw_S → Prop} (hm : pw_base E ≤ m) (hA : a_ok (S.2.2 9) (S.1 24)) (hd : 3 ≤ d) (H : K (a_sizes (S.2.2 9)) S) : pw_Cl E m_X2_sizeAll d [va_rf (some m)] (tw w0 m S) (c_i (t_i w0 m K)) := by
  obtain ⟨e, rfl, he⟩ := pw_d1 hd
  have h0 := hA.1
  refine e_X2_sizeAll _ (t_X2_sizeAll_0 hm (loop_up (n := (S.2.2 9 0).toNat) (P := fun k => pw_Wp E m_X2_sizeAll (e + 1) 4 [some (va_rf (some m)), some (.int (iI (upto k (fun d n => upto (a_many (S.2.2 9) d).toNat (fun v n => n + a_long (S.2.2 9) d v) n) 0))), some (.int (iI k)), none] [] (tw w0 m S) _) ?_ ?_ 0 (by omega)))
  · intro k hk ih
    have hk4 : (0 : Int) ≤ k ∧ (k : Int) < 4 := ⟨by omega, by omega⟩
    have hv := hA.2.2.1 k hk4.1 hk4.2
    refine t_X2_sizeAll_4 hm _ _ ⟨rI_small (by omega) (by omega), rI_small (by omega) (by omega), ?_⟩
    rw [if_neg (by omega)]
    rw [upto_s] at ih
    refine loop_up (n := (a_many (S.2.2 9) k).toNat) (P := fun j => pw_Wp E m_X2_sizeAll (e + 1) 16 [some (va_rf (some m)), some (.int (iI (upto j (fun v n => n + a_long (S.2.2 9) k v) (upto k (fun d n => upto (a_many (S.2.2 9) d).toNat (fun v n => n + a_long (S.2.2 9) d v) n) 0)))), some (.int (iI k)), some (.int (iI j))] [] (tw w0 m S) _) ?_ ?_ 0 (by omega)
    · intro j hj ij
      refine t_X2_sizeAll_16 hm _ _ _ (m_versions_ok hm (by omega) hk4 ⟨rI_small (by omega) (by omega), rI_small (by omega) (by omega), ?_⟩)
      rw [if_neg (by omega)]
      exact m_longOf_ok hm he hk4 ⟨by omega, by omega⟩ ij
    · refine t_X2_sizeAll_16 hm _ _ _ (m_versions_ok hm (by omega) hk4 ⟨rI_small (by omega) (by omega), rI_small (by omega) (by omega), ?_⟩)
      rw [if_pos (by omega)]
      exact ih
  · refine t_X2_sizeAll_4 hm _ _ ⟨rI_small (by omega) (by omega), rI_small (by omega) (by omega), ?_⟩
    rw [if_pos (by omega)]
    exact ⟨_, rfl, _, S, rfl, rfl, H⟩
end
