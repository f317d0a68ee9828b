set_option maxRecDepth 100000
/-! the twin: what fits a hunt -/
def h_fits (A B : Nat → Int) (t q : Int) : Int := if q < 10 then (if q = 0 then (h_st A B t (Int32.toInt (iI (q - 10))) (a_words A (A 5).toNat) (a_words A (A 5).toNat).length).1 else if q = 1 then h_sureF (h_st A B t (Int32.toInt (iI (q - 10))) (a_words A (A 5).toNat) (a_words A (A 5).toNat).length).2.2.1 26 1 else if q = 2 then h_askF A (h_st A B t (Int32.toInt (iI (q - 10))) (a_words A (A 5).toNat) (a_words A (A 5).toNat).length).1 (h_st A B t (Int32.toInt (iI (q - 10))) (a_words A (A 5).toNat) (a_words A (A 5).toNat).length).2.2.2 40 0 (-1) 1000000 else -2) else (h_st A B t (Int32.toInt (iI (q - 10))) (a_words A (A 5).toNat) (a_words A (A 5).toNat).length).2.1
section
variable {E : pw_E} {w0 : pw_W} {m d : Nat} {S : tw_S}
theorem m_sureLetter_ok {K : Int → tw_S → Prop} (hm : pw_base E ≤ m) (hd : 1 ≤ d) (hr : rI (S.1 33)) (H : K (h_sureF (S.1 33) 26 1) S) : pw_Cl E m_X2_sureLetter d [va_rf (some m)] (tw w0 m S) (c_i (t_i w0 m K)) := by
  obtain ⟨e, rfl, he⟩ := pw_d1 hd
  have loop : ∀ (f c : Nat), c + f = 27 → K (h_sureF (S.1 33) f c) S → pw_Wp E m_X2_sureLetter (e + 1) 2 [some (va_rf (some m)), some (.int (iI c))] [] (tw w0 m S) (c_i (t_i w0 m K)) := by
    intro f
    induction f with
    | zero =>
      intro c hc H
      refine t_X2_sureLetter_2 hm _ ⟨rI_small (by omega) (by omega), ifT (by omega) ⟨_, rfl, _, _, rfl, rfl, H⟩⟩
    | succ f ih =>
      intro c hc H
      refine t_X2_sureLetter_2 hm _ ⟨rI_small (by omega) (by omega), ifF (by omega) ⟨hr, ?_⟩⟩
      unfold h_sureF at H
      refine ifS2 H (fun h H => ⟨_, rfl, _, _, rfl, rfl, H⟩) (fun h H => ?_)
      exact ih (c + 1) (by omega) H
  exact e_X2_sureLetter _ (t_X2_sureLetter_0 hm (loop 26 1 (by omega) H))
theorem m_askWhere_ok {K : Int → tw_S → Prop} (hm : pw_base E ≤ m) (hA : a_ok (S.2.2 9) (S.1 24)) (hd : 4 ≤ d) (hr : 0 ≤ S.1 31 ∧ S.1 31 ≤ 400) (hY : ∀ i : Nat, i < 40 → 0 ≤ S.2.2 15 i ∧ S.2.2 15 i ≤ S.1 31) (H : K (h_askF (S.2.2 9) (S.1 31) (S.2.2 15) 40 0 (-1) 1000000) S) : pw_Cl E m_X2_askWhere d [va_rf (some m)] (tw w0 m S) (c_i (t_i w0 m K)) := by
  obtain ⟨e, rfl, he⟩ := pw_d1 hd
  have loop : ∀ (f i : Nat) (b s : Int), i + f = 40 → rI s → K (h_askF (S.2.2 9) (S.1 31) (S.2.2 15) f i b s) S → pw_Wp E m_X2_askWhere (e + 1) 8 [some (va_rf (some m)), some (.int (iI b)), some (.int (iI s)), some (.int (iI i)), none] [] (tw w0 m S) (c_i (t_i w0 m K)) := by
    intro f
    induction f with
    | zero =>
      intro i b s hi hs H
      refine t_X2_askWhere_8 hm _ _ _ ⟨rI_small (by omega) (by omega), ifT (by omega) ⟨_, rfl, _, _, rfl, rfl, H⟩⟩
    | succ f ih =>
      intro i b s hi hs H
      have hy := hY i (by omega)
      have ei : Int.toNat (i : Int) = i := by omega
      refine t_X2_askWhere_8 hm _ _ _ ⟨rI_small (by omega) (by omega), ifF (by omega) ⟨rI_small (by omega) (by omega), ?_⟩⟩
      rw [ei]
      unfold h_askF at H
      refine ifS2 H (fun h H => ⟨_, rfl, _, _, rfl, rfl, H⟩) (fun h H => ⟨by omega, by omega, by omega, by omega, ?_⟩)
      refine m_greater_ok hm (by omega) (rI_small (by omega) (by omega)) (rI_small (by omega) (by omega)) ?_
      have hz : rI (max (S.2.2 15 i) (S.1 31 - S.2.2 15 i)) := by
        have h1 : max (S.2.2 15 i) (S.1 31 - S.2.2 15 i) ≤ 400 := by omega
        have h2 : 0 ≤ max (S.2.2 15 i) (S.1 31 - S.2.2 15 i) := by omega
        exact rI_small (by omega) (by omega)
      rw [q_div (show i < 400 by omega), q_mod (show i < 400 by omega)]
      refine m_isVersion_ok hm hA (by omega) (rI_small (by omega) (by omega)) (rI_small (by omega) (by omega)) ?_
      refine ifS2 H (fun h H => ⟨hs, hz, ifS2 H (fun h H => ?_) (fun h H => ?_)⟩) (fun h H => ?_)
      · exact ih (i + 1) b s (by omega) hs H
      · exact ih (i + 1) i _ (by omega) hz H
      · exact ih (i + 1) b s (by omega) hs H
  exact e_X2_askWhere _ (t_X2_askWhere_0 hm (loop 40 0 (-1) 1000000 (by omega) (rI_small (by omega) (by omega)) H))
theorem m_fits_ok {v t q : Int} {K : Int → tw_S → Prop} (hm : pw_base E ≤ m) (hI : tw_arok S) (hQ : tw_hok S) (hd : 7 ≤ d) (hv : rI v) (ht : rI t) (hq : rI q) (H : tq S K (if tw_isHu S t = true then (if tw_isAr S v = true then h_fits (tw_ar S v) (S.2.2 8) t q else -2) else -2)) : pw_Cl E m_X2_fits d [va_rf (some m), .int (iI v), .int (iI t), .int (iI q)] (tw w0 m S) (c_i (t_i w0 m K)) := by
  obtain ⟨e, rfl, he⟩ := pw_d1 hd
  have hr := hI.1 2 (by omega)
  have hs0 : tw_same S (tw_sf (tw_sf S 0 0) 30 t) := (tw_same.sf S 0 0).trans (tw_same.sf _ _ _)
  refine e_X2_fits _ _ _ _ (t_X2_fits_0 hm _ _ _ (m_hasHunt_ok hm (by omega) ht hr ?_))
  refine ifS (c := tw_isHu S t = true) H (fun h H => ?_) (fun h H => ⟨_, rfl, _, _, rfl, rfl, H _ hs0⟩)
  have h : 0 ≤ t ∧ t ≤ S.2.2 5 2 - 1 := of_decide_eq_true h
  have hB : h_ok (S.2.2 8) t := hQ t h.1 (by omega)
  refine m_hand_k hm (by omega) hv (hI.same hs0) ⟨fun h1 hA => ?_, fun h1 => ?_⟩
  · have h1 : tw_isAr S v = true := h1
    have eA : tw_ar (tw_sf (tw_sf S 0 0) 30 t) v = tw_ar S v := rfl
    rw [eA] at hA
    rw [if_pos h1] at H
    rw [if_pos rfl]
    have hu2 : 0 ≤ (tw_h (tw_sf (tw_sf S 0 0) 30 t) v).1 30 ∧ (tw_h (tw_sf (tw_sf S 0 0) 30 t) v).1 30 ≤ 1 := ⟨h.1, by show t ≤ 1; omega⟩
    have ek : iI (q - 10) = iI (Int32.toInt (iI (q - 10))) := (iI_of _).symm
    rw [ek]
    refine m_findWords_ok hm hA rfl hu2 hB (by omega) (rI_of _) (fun X => ?_)
    have e9 : (tw_h (tw_sf (tw_sf S 0 0) 30 t) v).2.2 9 = tw_ar S v := rfl
    have e8 : (tw_h (tw_sf (tw_sf S 0 0) 30 t) v).2.2 8 = S.2.2 8 := rfl
    have e30 : (tw_h (tw_sf (tw_sf S 0 0) 30 t) v).1 30 = t := rfl
    rw [e9, e8, e30]
    have hl := a_words_ok hA.wok (tw_ar S v 5).toNat (by have := hA.ok.2.1; omega)
    have hn := hA.n
    obtain ⟨r1, r2, r3, r4⟩ := h_st_r (A := tw_ar S v) (B := S.2.2 8) (t := t) (k := Int32.toInt (iI (q - 10))) hl.1 _ (Nat.le_refl _)
    unfold h_fits at H
    generalize h_st (tw_ar S v) (S.2.2 8) t (Int32.toInt (iI (q - 10))) (a_words (tw_ar S v) (tw_ar S v 5).toNat) (a_words (tw_ar S v) (tw_ar S v 5).toNat).length = p at *
    have hs : tw_same S (tw_g (tw_w (tw_h (tw_sf (tw_sf S 0 0) 30 t) v) ((a_words (tw_ar S v) (tw_ar S v 5).toNat).length : Nat) X) p) := (hs0.trans (tw_same.h _ v)).trans ((tw_same.w _ _ X).trans (tw_same.g _ p))
    refine ⟨hq, ifS H (fun h H => ⟨hq, ifS H (fun h H => ?_) (fun h H => ⟨hq, ifS H (fun h H => ?_) (fun h H => ⟨hq, ifS H (fun h H => ?_) (fun h H => ?_)⟩)⟩)⟩) (fun h H => ?_)⟩
    · exact ⟨_, rfl, _, _, rfl, rfl, H _ hs⟩
    · exact m_sureLetter_ok hm (by omega) r3 ⟨_, rfl, _, _, rfl, rfl, H _ hs⟩
    · refine m_askWhere_ok hm hA.ok (by omega) ⟨r1.1, ?_⟩ (fun i _ => ?_) ⟨_, rfl, _, _, rfl, rfl, H _ hs⟩
      · show p.1 ≤ 400
        omega
      · have := r4 i
        exact ⟨this.1, this.2⟩
    · exact ⟨_, rfl, _, _, rfl, rfl, H _ hs⟩
    · exact ⟨_, rfl, _, _, rfl, rfl, H _ hs⟩
  · have h1 : tw_isAr S v = false := h1
    rw [if_neg (by rw [h1]; decide)] at H
    rw [if_neg (by decide)]
    exact ⟨_, rfl, _, _, rfl, rfl, H _ hs0⟩
end
