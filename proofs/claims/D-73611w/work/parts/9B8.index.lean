set_option maxRecDepth 100000
/-! the component: an archive's words laid out (index): the pure part; entries; two maps side by side -/
abbrev qT : Type := Int × Int × Int × Int
def ix_k (D : dc) (v p : Nat) : Int := s_wide 4 (s_code (dc_w D v p))
/-- how often among the first p words -/
def ix_n (D : dc) (v : Nat) (κ : Int) (p : Nat) : Int := upto p (fun p (n : Int) => n + (if ix_k D v p = κ then 1 else 0)) 0
def ix_see (i x n : Int) (q : qT) : qT := (q.1 + 1, s_or q.2.1 (s_bit i), if q.2.2.1 = -1 then x else min q.2.2.1 x, max q.2.2.2 n)
def ix_st (i : Nat) (D : dc) (v : Nat) (Q : Int → qT) : Int → qT := fun κ => if 0 < ix_n D v κ (dc_len D v) then ix_see i (D.2.2.getD v 0) (ix_n D v κ (dc_len D v)) (Q κ) else Q κ
def ix_R (Ds : List dc) : Int → qT := upto Ds.length (fun i Q => upto (da_D Ds i).1.length (fun v Q => ix_st i (da_D Ds i) v Q) Q) (fun _ => (0, 0, -1, 0))
def ixq_ok (Q : Int → qT) : Prop := ∀ κ, 0 ≤ (Q κ).1 ∧ rI (Q κ).2.1 ∧ (-1 ≤ (Q κ).2.2.1 ∧ (Q κ).2.2.1 ≤ 1000) ∧ 0 ≤ (Q κ).2.2.2 ∧ (Q κ).2.2.2 ≤ 1000
theorem ix_n_r (D : dc) (v : Nat) (κ : Int) (p : Nat) : 0 ≤ ix_n D v κ p ∧ ix_n D v κ p ≤ p := upto_cnt (c := fun p => ix_k D v p = κ) p
def c_ent (h : pw_H) (a : Nat) (q : qT) : Prop := h a = some (11, [.int (iI q.1), .int (iI q.2.1), .int (iI q.2.2.1), .int (iI q.2.2.2)])
/-- the index in the making: a map of words whose entries hold Q -/
def c_om (E : pw_E) (h : pw_H) (m : Nat) (mc : Int32) (ks : Option Nat) (xs : List tE) (Q : Int → qT) (P : Int → Prop) : Prop :=
  c_tm E false h h m mc ks xs ∧ (∀ e ∈ xs, ∃ a : Nat, e.2.2.2 = some a ∧ pw_base E ≤ a ∧ c_ent h a (Q e.2.2.1)) ∧ (∀ e ∈ xs, ∀ f ∈ xs, e.2.2.2 = f.2.2.2 → e = f) ∧ ∀ κ, (∃ e ∈ xs, e.2.2.1 = κ) ↔ P κ
def oF (m : Nat) (xs : List tE) : Nat → Prop := fun q => t_F m xs q ∨ ∃ e ∈ xs, e.2.2.2 = some q
/-- counts in the making -/
def c_hm (E : pw_E) (h : pw_H) (m : Nat) (mc : Int32) (ks : Option Nat) (xs : List tE) (N : Int → Int) : Prop :=
  c_tm E false h h m mc ks xs ∧ (∀ e ∈ xs, ∃ a : Nat, e.2.2.2 = some a ∧ c_box h a (N e.2.2.1)) ∧ ∀ κ, (∃ e ∈ xs, e.2.2.1 = κ) ↔ 0 < N κ
theorem c_canEn : pw_can 11 "VersionSearch$Entry" := Or.inl ⟨_, rfl, by decide, Or.inl rfl⟩
section
variable {E : pw_E} {d : Nat} {w w' u : pw_W} {m m2 : Nat} {mc mc2 : Int32} {ks ks2 : Option Nat} {xs xs2 : List tE} {Q : Int → qT} {P : Int → Prop} {N : Int → Int} {F : Nat → Prop} {n : Nat}
theorem c_om.obj (h : c_om E w.1 m mc ks xs Q P) : ∃ us, w.1 m = some (22, us) := by
  obtain ⟨⟨⟨x0, x1, x6, x8, S, hL, hI⟩, -⟩, -⟩ := h
  exact ⟨_, hL.1⟩
theorem c_tm.obj {τ : Bool} (h : c_tm E τ w.1 w.1 m mc ks xs) : ∃ us, w.1 m = some (22, us) := by
  obtain ⟨⟨x0, x1, x6, x8, S, hL, hI⟩, -⟩ := h
  exact ⟨_, hL.1⟩
theorem c_tm.base {τ : Bool} (h : c_tm E τ w.1 w.1 m mc ks xs) : pw_base E ≤ m := by
  obtain ⟨⟨x0, x1, x6, x8, S, hL, hI⟩, -⟩ := h
  exact hL.2.1
theorem c_om.keep (h : c_om E w.1 m mc ks xs Q P) (z : cx E w w' F n) (hF : ∀ q, oF m xs q → ¬ F q) (hK : ∀ (a : Nat) (o : pw_O), w.1 a = some o → F a → o.1 ≠ 21 ∧ o.1 ≠ 28 ∧ o.1 ≠ 1001) : c_om E w'.1 m mc ks xs Q P := by
  obtain ⟨h1, h2, h3, h4⟩ := h
  refine ⟨h1.keep z (hF m (Or.inl (Or.inl rfl))) (fun e he => hF e.1 (Or.inl (Or.inr ⟨e, he, rfl⟩))) hK, fun e he => ?_, h3, h4⟩
  obtain ⟨a, a1, a2, a3⟩ := h2 e he
  exact ⟨a, a1, a2, z.keep a3 (hF a (Or.inr ⟨e, he, a1⟩))⟩
theorem c_hm.keep (h : c_hm E w.1 m mc ks xs N) (z : cx E w w' F n) (hF : ∀ q, t_F m xs q → ¬ F q) (hK : ∀ (a : Nat) (o : pw_O), w.1 a = some o → F a → o.1 ≠ 21 ∧ o.1 ≠ 28 ∧ o.1 ≠ 1001) : c_hm E w'.1 m mc ks xs N := by
  obtain ⟨h1, h2, h4⟩ := h
  refine ⟨h1.keep z (hF m (Or.inl rfl)) (fun e he => hF e.1 (Or.inr ⟨e, he, rfl⟩)) hK, fun e he => ?_, h4⟩
  obtain ⟨a, a1, a3⟩ := h2 e he
  exact ⟨a, a1, z.keep a3 (fun f => (hK _ _ a3 f).2.1 rfl)⟩
theorem oF_lt (hw : wf E w) (h : c_om E w.1 m mc ks xs Q P) : ∀ q, oF m xs q → q < w.2.1 := by
  obtain ⟨⟨⟨x0, x1, x6, x8, S, hL, hI⟩, -⟩, h2, -⟩ := h
  rintro q ((rfl | ⟨e, he, rfl⟩) | ⟨e, he, q1⟩)
  · exact hw.lt hL.1
  · exact hw.lt (hL.2.2 e he).2
  · obtain ⟨a, a1, a2, a3⟩ := h2 e he
    rw [a1] at q1
    cases q1
    exact hw.lt a3
theorem tF_lt {τ : Bool} (hw : wf E w) (h : c_tm E τ w.1 w.1 m mc ks xs) : ∀ q, t_F m xs q → q < w.2.1 := by
  obtain ⟨⟨x0, x1, x6, x8, S, hL, hI⟩, -⟩ := h
  rintro q (rfl | ⟨e, he, rfl⟩)
  · exact hw.lt hL.1
  · exact hw.lt (hL.2.2 e he).2
theorem no_K : ∀ (a : Nat) (o : pw_O), w.1 a = some o → c_no a → o.1 ≠ 21 ∧ o.1 ≠ 28 ∧ o.1 ≠ 1001 := fun _ _ _ h => h.elim
/-- what an entry sees -/
theorem ce_sees_ok {a : Nat} {q : qT} {i x t : Int} {K : pw_W → Prop} (hd : 1 ≤ d) (hw : wf E w) (h : c_ent w.1 a q) (hb : pw_base E ≤ a) (hq : rI q.2.1 ∧ (-1 ≤ q.2.2.1 ∧ q.2.2.1 ≤ 1000) ∧ 0 ≤ q.2.2.2 ∧ q.2.2.2 ≤ 1000) (hx : 0 ≤ x ∧ x ≤ 1000) (ht : 0 ≤ t ∧ t ≤ 1000) (H : ∀ w', cx E w w' (fun z => z = a) 0 → w'.2 = w.2 → c_ent w'.1 a (ix_see i x t q) → K w') : pw_Cl E m_X12_sees d [va_rf (some a), .int (iI i), .int (iI x), .int (iI t)] w (c_v K) := by
  replace hd := pw_d1 hd; obtain ⟨e, rfl, hd⟩ := hd
  unfold c_ent at h H
  refine e_X12_sees _ _ _ _ (s_X12_sees_0 _ _ _ _ ⟨a, _, _, rfl, h, rfl, a, _, rfl, h, hb, a, _, _, rfl, pw_up_1 _ _ _, rfl, a, _, rfl, pw_up_1 _ _ _, hb, ?_⟩)
  rw [pw_up_up]
  refine ⟨a, _, _, rfl, pw_up_1 _ _ _, rfl, ?_⟩
  have e1 : iI q.1 + 1 = iI (q.1 + 1) := iI_a1 _
  have e2 : iI q.2.1 ||| (1 <<< (iI i &&& 31)) = iI (s_or q.2.1 (s_bit i)) := by rw [iI_or, iI_bit]
  have m0 : (iI q.2.2.1 = -1) = (q.2.2.1 = -1) := iI_eq (b := -1) (rI_small (by omega) (by omega)) (rI_small (by omega) (by omega))
  have m1 : (if iI x < iI q.2.2.1 then iI x else iI q.2.2.1) = iI (min q.2.2.1 x) := by
    have m3 : (iI x < iI q.2.2.1) = (x < q.2.2.1) := iI_lt (rI_small (by omega) (by omega)) (rI_small (by omega) (by omega))
    by_cases z : x < q.2.2.1
    · rw [if_pos (by rw [m3]; exact z), Int.min_eq_right (by omega)]
    · rw [if_neg (by rw [m3]; exact z), Int.min_eq_left (by omega)]
  have m2 : (if iI q.2.2.2 < iI t then iI t else iI q.2.2.2) = iI (max q.2.2.2 t) := by
    have m3 : (iI q.2.2.2 < iI t) = (q.2.2.2 < t) := iI_lt (rI_small (by omega) (by omega)) (rI_small (by omega) (by omega))
    by_cases z : q.2.2.2 < t
    · rw [if_pos (by rw [m3]; exact z), Int.max_eq_right (by omega)]
    · rw [if_neg (by rw [m3]; exact z), Int.max_eq_left (by omega)]
  by_cases z : q.2.2.1 = -1
  · refine ifT (by rw [m0]; exact z) ⟨a, _, rfl, pw_up_1 _ _ _, hb, ?_⟩
    rw [pw_up_up]
    refine ⟨a, _, _, rfl, pw_up_1 _ _ _, rfl, a, _, rfl, pw_up_1 _ _ _, hb, ?_⟩
    rw [pw_up_up, m2, e1, e2]
    refine ⟨rfl, H _ (cx.up hw _ h hb rfl) rfl ?_⟩
    rw [pw_up_1]
    unfold ix_see
    rw [if_pos z]
    rfl
  · refine ifF (by rw [m0]; exact z) ⟨a, _, _, rfl, pw_up_1 _ _ _, rfl, a, _, rfl, pw_up_1 _ _ _, hb, ?_⟩
    rw [pw_up_up, m1]
    refine ⟨a, _, _, rfl, pw_up_1 _ _ _, rfl, a, _, rfl, pw_up_1 _ _ _, hb, ?_⟩
    rw [pw_up_up, m2, e1, e2]
    refine ⟨rfl, H _ (cx.up hw _ h hb rfl) rfl ?_⟩
    rw [pw_up_1]
    unfold ix_see
    rw [if_neg z]
    rfl
end
