set_option maxRecDepth 100000
/-! the twin: what is drawn -/
def d_run (A : Nat → Int) (s date : Int) : Nat → (Nat → Int) × Int
  | 0 => (A, s)
  | k + 1 => (d_chgA (d_run A s date k).1 (d_run A s date k).2 date, d_chgS (d_run A s date k).1 (d_run A s date k).2)
def d_ans (A : Nat → Int) (d q : Int) : Int := if q < 10 then (if q = 0 then a_many A d - 1 + 1 else if q = 1 then a_long A d (a_many A d - 1) else if q = 2 then d_toks A d else -1) else if a_long A d (a_many A d - 1) ≤ q - 10 then -1 else a_wordAt A d (a_many A d - 1) (q - 10)
def d_drawn (A : Nat → Int) (s date n d q : Int) : Int := if a_isDoc A d = true then d_ans (d_run A s date n.toNat).1 d q else -1
theorem d_chg_ok {A : Nat → Int} {s date : Int} {k : Nat} (h : d_ok A k) (hk : k < 40) (hdate : rI date) : d_ok (d_chgA A s date) (k + 1) ∧ d_chgA A s date 0 = A 0 := by
  have v := h.1
  have hA0 := v.2.1
  have h10 := h.2.2.2
  have hd0 : 0 ≤ d_doc A s ∧ d_doc A s < A 0 := d_val_r ⟨by omega, by omega⟩
  have hd4 : 0 ≤ d_doc A s ∧ d_doc A s < 4 := ⟨hd0.1, by omega⟩
  have hm1 := h.2.1 _ hd0.1 hd0.2
  have hm10 := v.1.2.1 _ hd4.1 hd4.2
  have hl := v.1.2.2 (10 * d_doc A s + (a_many A (d_doc A s) - 1)) (by omega) (by omega)
  have hl : 0 ≤ a_long A (d_doc A s) (a_many A (d_doc A s) - 1) ∧ a_long A (d_doc A s) (a_many A (d_doc A s) - 1) ≤ 20 := hl
  have same : d_ok A (k + 1) ∧ A 0 = A 0 := ⟨⟨v, h.2.1, by have := h.2.2.1; omega, h10⟩, rfl⟩
  have mk : ∀ (c r1 r2 : Int) (ws : List Int), 0 ≤ c ∧ c ≤ 3 → 0 ≤ r1 → (c = 1 ∨ c = 2 → 0 ≤ r2) → ws.length ≤ 1 → (∀ w ∈ ws, 1 ≤ w ∧ w < 531441) → d_ok (g_makes A c (d_doc A s) r1 r2 ws date) (k + 1) ∧ g_makes A c (d_doc A s) r1 r2 ws date 0 = A 0 := fun c r1 r2 ws hc h1 h2 hl hw => g_makes_d h hk hd0 hc h1 h2 hl hw hdate
  unfold d_chgA
  split
  · exact mk 3 _ 0 [] ⟨by omega, by omega⟩ (d_val_r ⟨by omega, by omega⟩).1 (fun h => by omega) (Nat.zero_le _) (fun w hw => by cases hw)
  · split
    · split
      · exact same
      · rename_i hf
        refine mk 0 _ 0 _ ⟨by omega, by omega⟩ (d_val_r ⟨by omega, by omega⟩).1 (fun h => by omega) (Nat.le_refl _) (fun w hw => ?_)
        have hw : w = a_word A (d_first A (d_doc A s)) := by simpa using hw
        have := d_firstF_r A (d_doc A s) (A 5).toNat 0
        have h5 := v.1.1
        have hf9 : 0 ≤ d_first A (d_doc A s) ∧ d_first A (d_doc A s) < A 5 := by
          unfold d_first at hf ⊢
          omega
        rw [hw]
        exact (v.2.2.2.1 _ hf9.1 hf9.2).2.1
    · split
      · exact same
      · split
        · exact mk 1 _ 1 [] ⟨by omega, by omega⟩ (d_val_r ⟨by omega, by omega⟩).1 (fun h => by omega) (Nat.zero_le _) (fun w hw => by cases hw)
        · exact mk 2 _ _ [] ⟨by omega, by omega⟩ (d_val_r ⟨by omega, by omega⟩).1 (fun h => (d_val_r ⟨by omega, by omega⟩).1) (Nat.zero_le _) (fun w hw => by cases hw)
theorem d_run_ok {A : Nat → Int} {s date : Int} (h : d_ok A 0) (hdate : rI date) : ∀ k : Nat, k ≤ 40 → d_ok (d_run A s date k).1 k ∧ (d_run A s date k).1 0 = A 0
  | 0, _ => ⟨h, rfl⟩
  | k + 1, hk => by
    obtain ⟨h1, h2⟩ := d_run_ok (s := s) h hdate k (by omega)
    obtain ⟨h3, h4⟩ := d_chg_ok (s := (d_run A s date k).2) h1 (by omega) hdate
    exact ⟨h3, h4.trans h2⟩
theorem tw_norm {w0 : pw_W} {m : Nat} (S : tw_S) (j : Nat) : tw w0 m S = tw w0 m (tw_sf S j (Int32.toInt (iI (S.1 j)))) := by
  have e1 : tw_fs m S = tw_fs m (tw_sf S j (Int32.toInt (iI (S.1 j)))) := by
    unfold tw_fs
    congr 1
    funext i
    unfold tw_fv tw_sf
    by_cases h : i = j
    · subst h
      simp only [if_pos, iI_of]
    · simp only [if_neg h]
  unfold tw
  rw [e1]
  rfl
section
variable {E : pw_E} {w0 : pw_W} {m d : Nat} {S : tw_S}
theorem m_drawn_ok {v s n a q : Int} {K : Int → tw_S → Prop} (hm : pw_base E ≤ m) (hI : tw_arok S) (hd : 8 ≤ d) (hv : rI v) (hn : rI n) (ha : rI a) (hq : rI q) (H : tq S K (if decide (0 ≤ n ∧ n ≤ 40) = true then (if tw_isAr S v = true then d_drawn (tw_ar S v) s (Int32.toInt (iI (S.1 23))) n a q else -1) else -1)) : pw_Cl E m_X2_drawn d [va_rf (some m), .int (iI v), .int (iI s), .int (iI n), .int (iI a), .int (iI q)] (tw w0 m S) (c_i (t_i w0 m K)) := by
  rw [tw_norm S 23]
  have h23 : (tw_sf S 23 (Int32.toInt (iI (S.1 23)))).1 23 = Int32.toInt (iI (S.1 23)) := rfl
  have H : tq (tw_sf S 23 (Int32.toInt (iI (S.1 23)))) K (if decide (0 ≤ n ∧ n ≤ 40) = true then (if tw_isAr (tw_sf S 23 (Int32.toInt (iI (S.1 23)))) v = true then d_drawn (tw_ar (tw_sf S 23 (Int32.toInt (iI (S.1 23)))) v) s ((tw_sf S 23 (Int32.toInt (iI (S.1 23)))).1 23) n a q else -1) else -1) := H
  have hI : tw_arok (tw_sf S 23 (Int32.toInt (iI (S.1 23)))) := hI
  have hdate : rI ((tw_sf S 23 (Int32.toInt (iI (S.1 23)))).1 23) := rI_of _
  generalize tw_sf S 23 (Int32.toInt (iI (S.1 23))) = S at *
  clear h23
  obtain ⟨e, rfl, he⟩ := pw_d1 hd
  refine e_X2_drawn _ _ _ _ _ _ (t_X2_drawn_0 hm _ _ _ _ _ (m_in_ok hm (by omega) hn (rI_small (by omega) (by omega)) (rI_small (by omega) (by omega)) ?_))
  have hs0 : tw_same S (tw_sf S 0 0) := tw_same.sf S 0 0
  refine ifS (K := tq S K) H (fun hn40 H => ?_) (fun h H => ⟨_, rfl, _, _, rfl, rfl, H _ hs0⟩)
  have hn40 : 0 ≤ n ∧ n ≤ 40 := of_decide_eq_true hn40
  refine m_hand_k hm (by omega) hv (hI.same hs0) ⟨fun h1 hA => ?_, fun h1 => ?_⟩
  · have h1 : tw_isAr S v = true := h1
    have eA : tw_ar (tw_sf S 0 0) v = tw_ar S v := rfl
    rw [eA] at hA
    rw [if_pos h1] at H
    rw [if_pos rfl]
    have hs1 : tw_same S (tw_h (tw_sf S 0 0) v) := hs0.trans (tw_same.h _ v)
    have e9 : (tw_h (tw_sf S 0 0) v).2.2 9 = tw_ar S v := rfl
    have hA0 : a_ok ((tw_h (tw_sf S 0 0) v).2.2 9) ((tw_h (tw_sf S 0 0) v).1 24) := hA.ok
    refine m_isDoc_ok hm hA0 (by omega) ha ?_
    rw [e9]
    unfold d_drawn at H
    refine ifS (K := tq S K) H (fun hdoc H => ?_) (fun h H => ⟨_, rfl, _, _, rfl, rfl, H _ hs1⟩)
    have hdoc : 0 ≤ a ∧ a ≤ tw_ar S v 0 - 1 := of_decide_eq_true hdoc
    have hdok : d_ok (tw_ar S v) 0 := ⟨hA.val, hA.full, by have := hA.n2; omega, by omega⟩
    rw [← tw_set_self (tw_sf (tw_h (tw_sf S 0 0) v) 35 s) 9]
    have e9 : (tw_sf (tw_h (tw_sf S 0 0) v) 35 s).2.2 9 = tw_ar S v := rfl
    rw [e9]
    generalize hA9 : tw_ar S v = A at *
    have e23 : (tw_sf (tw_h (tw_sf S 0 0) v) 35 s).1 23 = S.1 23 := rfl
    have hs2 : tw_same S (tw_sf (tw_h (tw_sf S 0 0) v) 35 s) := hs1.trans (tw_same.sf _ 35 s)
    have e35 : (tw_sf (tw_h (tw_sf S 0 0) v) 35 s).1 35 = s := rfl
    generalize tw_sf (tw_h (tw_sf S 0 0) v) 35 s = S2 at *
    have loop : ∀ (f k : Nat) (S3 : tw_S), (k : Int) + f = n → tw_same S S3 → S3.1 35 = (d_run A s (S.1 23) k).2 → S3.1 23 = S.1 23 → pw_Wp E m_X2_drawn (e + 1) 42 [some (va_rf (some m)), none, none, some (.int (iI n)), some (.int (iI a)), some (.int (iI q)), some (.int (iI k))] [] (tw w0 m (tw_set S3 9 (d_run A s (S.1 23) k).1)) (c_i (t_i w0 m K)) := by
      intro f
      induction f with
      | zero =>
        intro k S3 hk hsm h35 h23
        have hkn : n.toNat = k := by omega
        rw [hkn] at H
        obtain ⟨y1, y2⟩ := d_run_ok (s := s) hdok hdate k (by omega)
        generalize (d_run A s (S.1 23) k).1 = B at *
        have vB := y1.1
        have ha4 : 0 ≤ a ∧ a < 4 := ⟨hdoc.1, by have := vB.2.1; omega⟩
        have hm1 := y1.2.1 a hdoc.1 (by omega)
        have hm10 := vB.1.2.1 a ha4.1 ha4.2
        have h5 := vB.1.1
        have hl := vB.ok.2.2.2.1 a (a_many B a - 1) ha4.1 ha4.2 (by omega) (by omega)
        have hsf : tw_same S (tw_set S3 9 B) := hsm.trans (tw_same.set S3 9 B rfl)
        refine t_X2_drawn_42 hm _ _ _ _ ⟨hn, rI_small (by omega) (by omega), ifT (by omega) ?_⟩
        refine m_versions_ok hm (by omega) ha4 ?_
        rw [tw_set_at]
        unfold d_ans at H
        have hlr : rI (a_long B a (a_many B a - 1)) := rI_small (by omega) (by omega)
        have okB : a_ok ((tw_set S3 9 B).2.2 9) (B 5) := vB.ok
        refine ⟨hq, ifS (K := tq S K) H (fun h H => ⟨hq, ifS (K := tq S K) H (fun h H => ⟨_, rfl, _, _, rfl, rfl, H _ hsf⟩) (fun h H => ⟨hq, ifS (K := tq S K) H (fun h H => ?_) (fun h H => ⟨hq, ifS (K := tq S K) H (fun h H => ?_) (fun h H => ⟨_, rfl, _, _, rfl, rfl, H _ hsf⟩)⟩)⟩)⟩) (fun h H => ?_)⟩
        · exact m_longOf_ok hm (by omega) ha4 ⟨by omega, by omega⟩ ⟨_, rfl, _, _, rfl, rfl, H _ hsf⟩
        · refine m_tokensOf_ok hm (by omega) (rI_small (by omega) (by omega)) ?_ ?_ ⟨_, rfl, _, _, rfl, rfl, H _ hsf⟩
          · rw [tw_set_at]; omega
          · rw [tw_set_at]
            intro t ht0 ht1
            have := (vB.2.2.2.1 t ht0 ht1).1
            have := vB.2.1
            omega
        · refine m_longOf_ok hm (by omega) ha4 ⟨by omega, by omega⟩ ⟨hlr, by have := hq.2; constructor <;> omega, ?_⟩
          refine ifS (K := tq S K) H (fun h H => ⟨_, rfl, _, _, rfl, rfl, H _ hsf⟩) (fun h8 H => ?_)
          have h8 : ¬ a_long B a (a_many B a - 1) ≤ q - 10 := h8
          exact m_wordAt_n hm okB (by omega) ha4 ⟨by omega, by rw [tw_set_at]; omega⟩ ⟨by omega, by rw [tw_set_at]; omega⟩ ⟨_, rfl, _, _, rfl, rfl, H _ hsf⟩
      | succ f ih =>
        intro k S3 hk hsm h35 h23
        obtain ⟨y1, y2⟩ := d_run_ok (s := s) hdok hdate k (by omega)
        refine t_X2_drawn_42 hm _ _ _ _ ⟨hn, rI_small (by omega) (by omega), ifF (by omega) ?_⟩
        refine m_drawChange_ok hm y1 (by omega) (by omega) (by rw [h23]; exact hdate) (fun S4 hs4 h4 h5 => ?_)
        rw [h35, h23]
        rw [h35] at h4
        exact ih (k + 1) S4 (by omega) (hsm.trans hs4) h4 (h5.trans h23)
    exact loop n.toNat 0 S2 (by omega) hs2 e35 e23
  · have h1 : tw_isAr S v = false := h1
    rw [if_neg (by rw [h1]; decide)] at H
    rw [if_neg (by decide)]
    exact ⟨_, rfl, _, _, rfl, rfl, H _ hs0⟩
end
