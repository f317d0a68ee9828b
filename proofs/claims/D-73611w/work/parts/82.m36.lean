set_option maxRecDepth 100000
/-! the twin: lines of an archive -/
theorem addsF_ne {f : Int × Int} {k pl : Int} (hk : 1 ≤ k) : (addsF f k pl).1 ≠ 0 := by
  unfold addsF
  split
  · show k ≠ 0; omega
  · rename_i h0
    split
    · show k ≠ 0; omega
    · split
      · split
        · exact h0
        · show k ≠ 0; omega
      · exact h0
theorem r_wdF_0 {T : Nat → Int} {L : Int} {q : Nat} {f : Int × Int} (h : (r_wdF T L q f).1 = 0) : k_few T L q = true ∧ f.1 = 0 := by
  unfold r_wdF at h
  split at h
  · exact ⟨by assumption, h⟩
  · exact absurd h (addsF_ne (by omega))
theorem r_tkF_0 {T : Nat → Int} {L : Int} {q : Nat} {lo hi : Int} {f : Int × Int} (h : (r_tkF T L q lo hi f).1 = 0) : k_in T L q lo hi = true ∧ f.1 = 0 := by
  unfold r_tkF at h
  split at h
  · exact ⟨by assumption, h⟩
  · exact absurd h (addsF_ne (by omega))
theorem r_ws0 {T : Nat → Int} {L most : Int} : ∀ (u q n : Nat) (f : Int × Int) (g : Bool), (r_wsF T L most u q n f g).2.1.1 = 0 → f.1 = 0 ∧ ((r_wsF T L most u q n f g).2.2.2 = [] ∨ (n : Int) + (r_wsF T L most u q n f g).2.2.2.length ≤ most) ∧ (r_wsF T L most u q n f g).2.2.1 = g ∧ ∀ w ∈ (r_wsF T L most u q n f g).2.2.2, 1 ≤ w ∧ w < 531441 := by
  intro u
  induction u with
  | zero => intro q n f g h; exact ⟨h, Or.inl rfl, rfl, fun w hw => by cases hw⟩
  | succ u ih =>
    intro q n f g h
    unfold r_wsF at h ⊢
    by_cases hs : k_sort T L q = 2
    · rw [if_pos hs] at h ⊢
      obtain ⟨h1, h2, h3, h4⟩ := ih _ _ _ _ h
      obtain ⟨h5, h6⟩ := r_wdF_0 h1
      have hn : (n : Int) < most ∧ f.1 = 0 := by
        split at h6
        · exact ⟨by assumption, h6⟩
        · exact absurd h6 (addsF_ne (by omega))
      refine ⟨hn.2, Or.inr ?_, ?_, fun w hw => ?_⟩
      · show (n : Int) + ((_ + 1 : Nat) : Int) ≤ most
        rcases h2 with h2 | h2
        · rw [h2]; simp only [List.length_nil]; omega
        · omega
      · show (r_wsF T L most u (k_go T L q) (n + 1) (r_wdF T L q _) (g && k_few T L q)).2.2.1 = g
        rw [h3, h5, Bool.and_true]
      · rcases List.mem_cons.mp hw with rfl | hw
        · exact (k_num_ok hs h5).2
        · exact h4 w hw
    · rw [if_neg hs] at h ⊢
      exact ⟨h, Or.inl rfl, rfl, fun w hw => by cases hw⟩
theorem r_wsq {T : Nat → Int} {L most : Int} : ∀ (u q n : Nat) (f : Int × Int) (g : Bool), (q : Int) ≤ L → q ≤ (r_wsF T L most u q n f g).1 ∧ ((r_wsF T L most u q n f g).1 : Int) ≤ L ∧ ((r_wsF T L most u q n f g).2.2.2 ≠ [] → k_sort T L q = 2 ∧ q + 2 * (r_wsF T L most u q n f g).2.2.2.length ≤ (r_wsF T L most u q n f g).1 + 1) := by
  intro u
  induction u with
  | zero => intro q n f g hq; exact ⟨Nat.le_refl q, hq, fun h => absurd rfl h⟩
  | succ u ih =>
    intro q n f g hq
    unfold r_wsF
    by_cases hs : k_sort T L q = 2
    · rw [if_pos hs]
      have hgo := k_go_le (T := T) (L := L) (q := q) hq
      have hpos := hgo.2.2 (k_sort_pos (by omega))
      obtain ⟨h1, h2, h3⟩ := ih (k_go T L q) (n + 1) (r_wdF T L q (if (n : Int) < most then f else addsF f 3 q)) (g && k_few T L q) hgo.2.1
      refine ⟨by show q ≤ (r_wsF T L most u (k_go T L q) (n + 1) _ _).1; omega, h2, fun _ => ⟨hs, ?_⟩⟩
      show q + 2 * ((r_wsF T L most u (k_go T L q) (n + 1) (r_wdF T L q (if (n : Int) < most then f else addsF f 3 q)) (g && k_few T L q)).2.2.2.length + 1) ≤ (r_wsF T L most u (k_go T L q) (n + 1) (r_wdF T L q (if (n : Int) < most then f else addsF f 3 q)) (g && k_few T L q)).1 + 1
      by_cases he : (r_wsF T L most u (k_go T L q) (n + 1) (r_wdF T L q (if (n : Int) < most then f else addsF f 3 q)) (g && k_few T L q)).2.2.2 = []
      · rw [he, List.length_nil]
        omega
      · obtain ⟨h5, h6⟩ := h3 he
        have := k_sep hs h5
        omega
    · rw [if_neg hs]
      exact ⟨Nat.le_refl q, hq, fun h => absurd rfl h⟩
theorem r_wsf {T : Nat → Int} {L most : Int} (hl : L ≤ 600) : ∀ (u q n : Nat) (f : Int × Int) (g : Bool), (q : Int) ≤ L → f_ok f → f_ok (r_wsF T L most u q n f g).2.1 := by
  intro u
  induction u with
  | zero => intro q n f g hq hf; exact hf
  | succ u ih =>
    intro q n f g hq hf
    unfold r_wsF
    by_cases hs : k_sort T L q = 2
    · rw [if_pos hs]
      have hgo := k_go_le (T := T) (L := L) (q := q) hq
      refine ih (k_go T L q) (n + 1) _ _ hgo.2.1 (r_wdF_ok ?_ (by omega))
      split
      · exact hf
      · exact (hf.adds ⟨by omega, by omega⟩ ⟨by omega, by omega⟩).1
    · rw [if_neg hs]
      exact hf
/-- a line leaves all but the reader's fields and the told array -/
def l_fr (S S' : tw_S) : Prop := (∀ i : Nat, (decide (i = 9) || decide (i = 11) || decide (i = 12) || decide (i = 13) || decide (i = 15) || decide (i = 16) || decide (i = 17) || decide (i = 21) || decide (i = 22)) = false → S'.1 i = S.1 i) ∧ ∀ q : Nat, q ≠ 9 → q ≠ 10 → q ≠ 11 → S'.2.2 q = S.2.2 q
theorem r_fr.l {S S' : tw_S} (h : r_fr S S') : l_fr S S' := ⟨h.1, fun q _ h1 h2 => h.2 q h1 h2⟩
theorem l_fr.trans {S S' S'' : tw_S} (h : l_fr S S') (h' : l_fr S' S'') : l_fr S S'' := ⟨fun i hi => (h'.1 i hi).trans (h.1 i hi), fun q h1 h2 h3 => (h'.2 q h1 h2 h3).trans (h.2 q h1 h2 h3)⟩
theorem l_fr.set (S : tw_S) (A : Nat → Int) : l_fr S (tw_set S 9 A) := by
  refine ⟨fun _ _ => rfl, fun q h1 _ _ => ?_⟩
  show (if q = 9 then A else S.2.2 q) = _
  rw [if_neg h1]
theorem tw_self9 {S : tw_S} {A : Nat → Int} (h : S.2.2 9 = A) : S = tw_set S 9 A := by rw [← h, tw_set_self]
def dl_f (A : Nat → Int) (f : Int × Int) (q : Nat) : Int × Int := if A 0 = 4 then addsF f 3 q else f
def dl_R (T : Nat → Int) (L : Int) (A : Nat → Int) (q : Nat) (f : Int × Int) : Nat × (Int × Int) × Bool × List Int := r_wsF T L 20 601 (k_go T L q) 0 (dl_f A f q) true
def g_doc (A : Nat → Int) (ws : List Int) (date : Int) : Nat → Int := g_words (g_begin (g_set A 0 (A 0 + 1)) (A 0) date) (A 0) ws
theorem g_set0_ok {A : Nat → Int} (h : g_ok A) (x : Int) : g_ok (g_set A 0 x) ∧ ∀ d : Int, 0 ≤ d → a_many (g_set A 0 x) d = a_many A d := by
  have hm : ∀ d : Int, 0 ≤ d → a_many (g_set A 0 x) d = a_many A d := fun d hd => g_set_ne (by omega)
  refine ⟨⟨?_, fun d h0 h1 => ?_, fun l h0 h1 => ?_⟩, hm⟩
  · rw [g_set_ne (by decide)]; exact h.1
  · rw [hm d h0]; exact h.2.1 d h0 h1
  · rw [g_set_ne (by omega)]; exact h.2.2 l h0 h1
section
variable {E : pw_E} {w0 : pw_W} {m d : Nat} {S : tw_S} {T : Nat → Int} {L : Int}
theorem m_docWords {a : Int} {ws : List Int} {K : Bool → tw_S → Prop} (hm : pw_base E ≤ m) (hd : 3 ≤ d) (ha : 0 ≤ a ∧ a < 4) (e21 : S.1 21 = ws.length) (hn : ws.length ≤ 300) (hw : ∀ (i : Nat) (x : Int), ws[i]? = some x → S.2.2 11 i = x) : ∀ (f i : Nat) (C : Nat → Int), i + f = ws.length → g_inv C a 1 → K true (tw_set S 9 (g_words C a (ws.drop i))) → pw_Wp E m_X2_docLine (d + 1) 57 [some (va_rf (some m)), none, some (.int (iI a)), some (.int (iI i))] [] (tw w0 m (tw_set S 9 C)) (c_z (t_b w0 m K)) := by
  intro f
  have e21 : ∀ A, (tw_set S 9 A).1 21 = ws.length := fun _ => e21
  have hw : ∀ A (i : Nat) (x : Int), ws[i]? = some x → (tw_set S 9 A).2.2 11 i = x := fun _ => hw
  induction f with
  | zero =>
    intro i C hi hC H
    refine t_X2_docLine_57 hm _ _ ?_
    rw [e21]
    have : ws.drop i = [] := List.drop_eq_nil_of_le (by omega)
    rw [this] at H
    exact ⟨rI_small (by omega) (by omega), rI_small (by omega) (by omega), ifT (by omega) ⟨true, rfl, _, rfl, H⟩⟩
  | succ f ih =>
    intro i C hi hC H
    have hx : ws[i]? = some ws[i] := List.getElem?_eq_getElem (by omega)
    rw [List.drop_eq_getElem_cons (by omega)] at H
    have e2 : Int.toNat (i : Int) = i := by omega
    refine t_X2_docLine_57 hm _ _ ?_
    rw [e21]
    refine ⟨rI_small (by omega) (by omega), rI_small (by omega) (by omega), ifF (by omega) ⟨by omega, by omega, ?_⟩⟩
    rw [e2, hw C i _ hx]
    exact m_newToken_ok hm hC.1 (by omega) (m_addWord_ok hm (hC.new ha).1 (by omega) ha (by rw [(hC.new ha).2]; omega) (ih (i + 1) _ (by omega) ((hC.new ha).add ha (by omega)) H))
theorem m_docLine_ok {A : Nat → Int} {q : Nat} {f : Int × Int} {K : Bool → tw_S → Prop} (hm : pw_base E ≤ m) (hd : 5 ≤ d) (hl : 0 ≤ L ∧ L ≤ 600) (hq : (q : Int) ≤ L) (h : r_at T L S q f true) (e9 : S.2.2 9 = A) (hA : g_val A) (h21 : S.1 21 = 0) (H : ∀ S' : tw_S, r_at T L S' (dl_R T L A q f).1 (dl_R T L A q f).2.1 (dl_R T L A q f).2.2.1 → l_fr S S' → S'.2.2 9 = (if (dl_R T L A q f).2.1.1 = 0 then g_doc A (dl_R T L A q f).2.2.2 (S.1 23) else A) → K true S') : pw_Cl E m_X2_docLine d [va_rf (some m), .int (iI q)] (tw w0 m S) (c_z (t_b w0 m K)) := by
  obtain ⟨e, rfl, he⟩ := pw_d1 hd
  have hA0 := hA.2.1
  have hgo := k_go_le (T := T) (L := L) (q := q) hq
  -- behind the word
  have go : ∀ S1 : tw_S, r_at T L S1 q (dl_f A f q) true → r_fr S S1 → S1.1 21 = 0 → pw_Cl E m_X2_token e [va_rf (some m)] (tw w0 m S1) (c_v (t_u w0 m (fun S4 => pw_Cl E m_X2_takeWords e [va_rf (some m), .int (iI 20)] (tw w0 m S4) (c_v (t_u w0 m (fun S5 => rI (S5.1 16) ∧ if S5.1 16 = 0 then pw_Cl E m_X2_beginVersion e [va_rf (some m), .int (iI (S5.2.2 9 0))] (tw w0 m (tw_sa S5 9 0 (S5.2.2 9 0 + 1))) (c_v (t_u w0 m (fun S12 => pw_Wp E m_X2_docLine (e + 1) 57 [some (va_rf (some m)), none, some (.int (iI (S5.2.2 9 0))), some (.int (iI 0))] [] (tw w0 m S12) (c_z (t_b w0 m K))))) else (c_z (t_b w0 m K)) (.inl (some (.int (iI 1)))) (tw w0 m S5))))))) := by
    intro S1 hr hfr h21'
    obtain ⟨⟨a1, a2, a3, a4, a5, a6, a7⟩, b12, b3, b4⟩ := hr
    refine m_token_r (q := q) hm (by omega) hl hq a1 a2 a4 b12 b3 b4 (fun S2 y1 y2 => ?_)
    have e21 : S2.1 21 = ((0 : Nat) : Int) := by rw [y2.1 21 rfl]; exact h21'
    refine m_takeWords_ok hm (by omega) hl (rI_small (by omega) (by omega)) 601 (k_go T L q) 0 _ _ S2 hgo.2.1 (by omega) y1 e21 (fun _ => by omega) (fun S3 z1 z2 z3 z4 z5 z6 => ?_)
    have hfr3 := (hfr.trans y2.r).trans z2
    have e9' : S3.2.2 9 = A := by rw [hfr3.2 9 (by omega) (by omega)]; exact e9
    have H := H
    have hR : r_wsF T L 20 601 (k_go T L q) 0 (dl_f A f q) true = dl_R T L A q f := rfl
    rw [hR] at z1 z4 z6
    have hwq := r_wsq (T := T) (L := L) (most := 20) 601 (k_go T L q) 0 (dl_f A f q) true hgo.2.1
    rw [hR] at hwq
    have hw0 := r_ws0 (T := T) (L := L) (most := 20) 601 (k_go T L q) 0 (dl_f A f q) true
    rw [hR] at hw0
    generalize dl_R T L A q f = R at *
    obtain ⟨q', f', g', ws⟩ := R
    have e16 : S3.1 16 = f'.1 := z1.2.1.1
    rw [e16]
    have hf' : f_ok f' := z1.2.2.2
    refine ⟨rI_small (by have := hf'.1; omega) (by have := hf'.1; omega), ?_⟩
    by_cases h0 : f'.1 = 0
    · refine ifT h0 ?_
      have hw0 := hw0 h0
      have hne : A 0 ≠ 4 := by
        intro h4
        have := hw0.1
        unfold dl_f at this
        rw [if_pos h4] at this
        exact addsF_ne (by omega) this
      have hlen : ws.length ≤ 300 := by
        have hx : ws ≠ [] → _ := hwq.2.2
        by_cases hws : ws = []
        · rw [hws]; simp
        · have h8 := (hx hws).2
          have h9 : (q' : Int) ≤ L := hwq.2.1
          have h8 : k_go T L q + 2 * ws.length ≤ q' + 1 := h8
          omega
      rw [e9', tw_self9 e9']
      have hsa : tw_sa (tw_set S3 9 A) 9 0 (A 0 + 1) = tw_set S3 9 (g_set A 0 (A 0 + 1)) := tw_sa9 S3 A 0 (A 0 + 1)
      rw [hsa]
      obtain ⟨k1, k2⟩ := g_set0_ok hA.1 (A 0 + 1)
      have hd4 : 0 ≤ A 0 ∧ A 0 < 4 := ⟨hA0.1, by omega⟩
      have hmany : a_many A (A 0) = 0 := by
        have hmm := hA.1.2.1 (A 0) hd4.1 hd4.2
        by_cases h9 : 0 < a_many A (A 0)
        · have := (hA.2.2.1 (A 0) 0 hd4.1 hd4.2 (by omega) h9).1.1
          omega
        · omega
      have hm9 : a_many (g_set A 0 (A 0 + 1)) (A 0) ≤ 9 := by rw [k2 _ hd4.1]; omega
      refine m_beginVersion_ok hm k1 (by omega) hd4 hm9 ?_
      have e23 : S3.1 23 = S.1 23 := hfr3.1 23 rfl
      rw [e23]
      have hinv : g_inv (g_begin (g_set A 0 (A 0 + 1)) (A 0) (S.1 23)) (A 0) 1 := ⟨g_begin_ok k1 hd4 hm9, by rw [g_begin_many k1 hd4 hm9 hd4, if_pos rfl, k2 _ hd4.1, hmany]; rfl⟩
      have e21' : S3.1 21 = (ws.length : Nat) := by
        have : S3.1 21 = ((0 + ws.length : Nat) : Int) := z6
        rw [Nat.zero_add] at this
        exact this
      refine m_docWords (ws := ws) hm (by omega) hd4 e21' hlen (fun i x hx => by have := z4 i x hx; rw [Nat.zero_add] at this; exact this) ws.length 0 _ (by omega) hinv ?_
      rw [List.drop_zero]
      refine H _ z1 (hfr3.l.trans (l_fr.set S3 _)) ?_
      rw [tw_set_at]
      show _ = if f'.1 = 0 then g_doc A ws (S.1 23) else A
      rw [if_pos h0]
      rfl
    · refine ifF h0 ⟨true, rfl, S3, rfl, H S3 z1 hfr3.l ?_⟩
      show _ = if f'.1 = 0 then g_doc A ws (S.1 23) else A
      rw [if_neg h0]
      exact e9'
  refine e_X2_docLine _ _ (t_X2_docLine_0 hm _ ?_)
  rw [e9]
  refine ⟨rI_small (by omega) (by omega), ?_⟩
  by_cases h4 : A 0 = 4
  · refine ifT h4 (m_adds_r hm (by omega) h ⟨by omega, by omega⟩ ⟨by omega, by omega⟩ (fun S1 y1 y2 y3 y4 => go S1 ?_ y2 (by rw [y4 21 (by omega) (by omega)]; exact h21)))
    unfold dl_f
    rw [if_pos h4]
    exact y1
  · refine ifF h4 (go S ?_ (r_fr.refl S) h21)
    unfold dl_f
    rw [if_neg h4]
    exact h
end
