set_option maxRecDepth 100000
/-! the twin: what is asked in public leaves all that is told; an archive that is asked of -/
theorem ifS {c : Prop} [Decidable c] {A B : Prop} {α : Type} {x y : α} {K : α → Prop} (H : K (if c then x else y)) (h1 : c → K x → A) (h2 : ¬ c → K y → B) : if c then A else B := by
  by_cases h : c
  · rw [if_pos h] at H ⊢; exact h1 h H
  · rw [if_neg h] at H ⊢; exact h2 h H
theorem ifS2 {c : Prop} [Decidable c] {A B : Prop} {α : Type} {x y : α} {K : α → tw_S → Prop} {S : tw_S} (H : K (if c then x else y) S) (h1 : c → K x S → A) (h2 : ¬ c → K y S → B) : if c then A else B := by
  by_cases h : c
  · rw [if_pos h] at H ⊢; exact h1 h H
  · rw [if_neg h] at H ⊢; exact h2 h H
/-- the same tape, faults, archives, questions, hunts, images -/
def tw_same (S S' : tw_S) : Prop := ∀ k : Nat, (decide (k ≤ 8) || decide (k = 16)) = true → S'.2.2 k = S.2.2 k
theorem tw_same.refl (S : tw_S) : tw_same S S := fun _ _ => rfl
theorem tw_same.trans {S S' S'' : tw_S} (h : tw_same S S') (h' : tw_same S' S'') : tw_same S S'' := fun k hk => (h' k hk).trans (h k hk)
theorem tw_same.sf (S : tw_S) (j : Nat) (x : Int) : tw_same S (tw_sf S j x) := fun _ _ => rfl
theorem tw_same.sa (S : tw_S) {k : Nat} (i : Nat) (x : Int) (hk : (decide (k ≤ 8) || decide (k = 16)) = false) : tw_same S (tw_sa S k i x) := fun q hq => funext fun n => by
  show (if q = k ∧ n = i then x else S.2.2 q n) = _
  rw [if_neg]
  rintro ⟨rfl, -⟩
  rw [hk] at hq
  cases hq
theorem tw_same.w (S : tw_S) (c : Int) (X : Nat → Int) : tw_same S (tw_w S c X) := fun q hq => funext fun n => by
  show (if q = 12 then X n else S.2.2 q n) = _
  rw [if_neg]
  rintro rfl
  cases hq
/-- an array set whole -/
def tw_set (S : tw_S) (k : Nat) (Y : Nat → Int) : tw_S := (S.1, S.2.1, fun q => if q = k then Y else S.2.2 q)
theorem tw_set_sa (S : tw_S) (k : Nat) (Y : Nat → Int) (i : Nat) (x : Int) : tw_sa (tw_set S k Y) k i x = tw_set S k (fun j => if j = i then x else Y j) := by
  unfold tw_sa tw_set
  refine Prod.ext rfl (Prod.ext rfl (funext fun q => funext fun n => ?_))
  show (if q = k ∧ n = i then x else (if q = k then Y else S.2.2 q) n) = (if q = k then fun j => if j = i then x else Y j else S.2.2 q) n
  by_cases h : q = k
  · simp [h]
  · simp [h]
theorem tw_set_at (S : tw_S) (k : Nat) (Y : Nat → Int) : (tw_set S k Y).2.2 k = Y := if_pos rfl
theorem tw_set_self (S : tw_S) (k : Nat) : tw_set S k (S.2.2 k) = S := by
  unfold tw_set
  refine Prod.ext rfl (Prod.ext rfl (funext fun q => ?_))
  show (if q = k then S.2.2 k else S.2.2 q) = S.2.2 q
  split
  · rename_i h; rw [h]
  · rfl
theorem tw_same.set (S : tw_S) (k : Nat) (Y : Nat → Int) (hk : (decide (k ≤ 8) || decide (k = 16)) = false) : tw_same S (tw_set S k Y) := fun q hq => by
  show (if q = k then Y else S.2.2 q) = _
  rw [if_neg]
  rintro rfl
  rw [hk] at hq
  cases hq
/-- archive v -/
def tw_ar (S : tw_S) (v : Int) : Nat → Int := fun n => if n < 1526 then S.2.2 6 (Int.toNat (1526 * v + n)) else 0
/-- with the archive v handed -/
def tw_h (S : tw_S) (v : Int) : tw_S := (fun i => if i = 24 then tw_ar S v 5 else S.1 i, S.2.1, fun q => if q = 9 then tw_ar S v else S.2.2 q)
theorem tw_same.h (S : tw_S) (v : Int) : tw_same S (tw_h S v) := fun q hq => by
  show (if q = 9 then tw_ar S v else S.2.2 q) = _
  rw [if_neg]
  rintro rfl
  cases hq
theorem tw_ar_sf (S : tw_S) (j : Nat) (x v : Int) : tw_ar (tw_sf S j x) v = tw_ar S v := rfl
theorem tw_ar_same {S S' : tw_S} (h : tw_same S S') (v : Int) : tw_ar S' v = tw_ar S v := by
  unfold tw_ar
  rw [h 6 rfl]
theorem tw_ext {w0 : pw_W} {m : Nat} {S S' : tw_S} (h1 : S.1 = S'.1) (h2 : S.2.1 = S'.2.1) (h3 : ∀ k i, i < tw_len k → S.2.2 k i = S'.2.2 k i) : tw w0 m S = tw w0 m S' := by
  have e1 : tw_fs m S = tw_fs m S' := by
    unfold tw_fs
    congr 1
    funext j
    unfold tw_fv
    rw [h1, h2]
  have e2 : ∀ k, tw_av S k = tw_av S' k := fun k => by
    unfold tw_av
    refine List.map_congr_left (fun i hi => ?_)
    rw [h3 k i (List.mem_range.mp hi)]
  unfold tw
  rw [e1]
  refine Prod.ext (funext fun q => ?_) rfl
  show (if q = m then _ else if m < q ∧ q ≤ m + 16 then _ else _) = (if q = m then _ else if m < q ∧ q ≤ m + 16 then _ else _)
  rw [e2]
theorem tw_h_eq {w0 : pw_W} {m : Nat} (S : tw_S) (v : Int) : tw w0 m (tw_hand S v) = tw w0 m (tw_h S v) := by
  refine tw_ext rfl rfl (fun k i hi => ?_)
  show (if k = 9 ∧ i < 1526 then S.2.2 6 (Int.toNat (1526 * v + i)) else S.2.2 k i) = (if k = 9 then tw_ar S v else S.2.2 k) i
  by_cases hk : k = 9
  · subst hk
    have hi' : i < 1526 := hi
    rw [if_pos ⟨rfl, hi'⟩, if_pos rfl]
    unfold tw_ar
    rw [if_pos hi']
  · rw [if_neg (fun h => hk h.1), if_neg hk]
/-- a token is its document's, once in a version, in some -/
def a_own (A : Nat → Int) : Prop := ∀ d v p, 0 ≤ d → d < 4 → 0 ≤ v → v < a_many A d → 0 ≤ p → p < a_long A d v → a_whose A (a_tok A d v p) = d
def a_dist (A : Nat → Int) : Prop := ∀ d v p q, 0 ≤ d → d < 4 → 0 ≤ v → v < a_many A d → 0 ≤ p → p < a_long A d v → 0 ≤ q → q < a_long A d v → a_tok A d v p = a_tok A d v q → p = q
def a_occ (A : Nat → Int) : Prop := ∀ t, 0 ≤ t → t < A 5 → a_whose A t < A 0 ∧ ∃ v p, 0 ≤ v ∧ v < a_many A (a_whose A t) ∧ 0 ≤ p ∧ p < a_long A (a_whose A t) v ∧ a_tok A (a_whose A t) v p = t
/-- an archive that was read whole -/
def a_arok (A : Nat → Int) : Prop := a_ok A (A 5) ∧ A 5 ≤ 279 ∧ a_full A ∧ a_wok A (A 5) ∧ (∀ i : Nat, i < 40 → rI (A (6 + i))) ∧ a_own A ∧ a_dist A ∧ a_occ A ∧ ∀ d : Int, 0 ≤ d → d < 4 → A 0 ≤ d → a_many A d = 0
theorem a_arok.ok {A : Nat → Int} (h : a_arok A) : a_ok A (A 5) := h.1
theorem a_arok.n2 {A : Nat → Int} (h : a_arok A) : A 5 ≤ 279 := h.2.1
theorem a_arok.n {A : Nat → Int} (h : a_arok A) : A 5 < 320 := by have := h.2.1; omega
theorem a_arok.full {A : Nat → Int} (h : a_arok A) : a_full A := h.2.2.1
theorem a_arok.wok {A : Nat → Int} (h : a_arok A) : a_wok A (A 5) := h.2.2.2.1
theorem a_arok.date {A : Nat → Int} (h : a_arok A) : ∀ i : Nat, i < 40 → rI (A (6 + i)) := h.2.2.2.2.1
theorem a_arok.own {A : Nat → Int} (h : a_arok A) : a_own A := h.2.2.2.2.2.1
theorem a_arok.dist {A : Nat → Int} (h : a_arok A) : a_dist A := h.2.2.2.2.2.2.1
theorem a_arok.occ {A : Nat → Int} (h : a_arok A) : a_occ A := h.2.2.2.2.2.2.2.1
theorem a_arok.none {A : Nat → Int} (h : a_arok A) : ∀ d : Int, 0 ≤ d → d < 4 → A 0 ≤ d → a_many A d = 0 := h.2.2.2.2.2.2.2.2
/-- all archives are read whole; as many things are told as can be -/
def tw_arok (S : tw_S) : Prop := (∀ s : Nat, s < 3 → 0 ≤ S.2.2 5 s ∧ S.2.2 5 s ≤ 2) ∧ ∀ v : Int, 0 ≤ v → v < S.2.2 5 0 → a_arok (tw_ar S v)
theorem tw_arok.same {S S' : tw_S} (h : tw_arok S) (hs : tw_same S S') : tw_arok S' := by
  refine ⟨fun s hs' => ?_, fun v h0 h1 => ?_⟩
  · rw [hs 5 rfl]; exact h.1 s hs'
  · rw [tw_ar_same hs]
    rw [hs 5 rfl] at h1
    exact h.2 v h0 h1
/-- whether there is an archive -/
def tw_isAr (S : tw_S) (v : Int) : Bool := decide (0 ≤ v ∧ v ≤ S.2.2 5 0 - 1)
/-- the answer z, whatever becomes of what isn't told -/
def tq (S : tw_S) (K : Int → tw_S → Prop) : Int → Prop := fun z => ∀ S', tw_same S S' → K z S'
theorem q_divI {v : Int} (h : 0 ≤ v ∧ v < 2147483648) : iI v / 10 = iI (v / 10) := by
  apply Int32.toInt_inj.mp
  rw [Int32.toInt_div, iI_toInt (by constructor <;> omega), iI_toInt (by constructor <;> omega)]
  show (v.tdiv 10).bmod _ = _
  rw [Int.tdiv_eq_ediv_of_nonneg h.1]
  rw [Int.bmod_def]
  omega
theorem q_div' {v : Int} (h : 0 ≤ v ∧ v < 2147483648) : Int32.toInt (iI v / 10) = v / 10 := by
  rw [q_divI h, iI_toInt (by constructor <;> omega)]
theorem q_mod' {v : Int} (h : 0 ≤ v ∧ v < 2147483648) : Int32.toInt (iI v - iI v / 10 * 10) = v % 10 := by
  rw [q_divI h, show (10 : Int32) = iI 10 from rfl, iI_mul, iI_sub, iI_toInt (by constructor <;> omega)]
  omega
section
variable {E : pw_E} {w0 : pw_W} {m d : Nat} {S : tw_S}
theorem m_hand_k {v : Int} {K : Bool → tw_S → Prop} (hm : pw_base E ≤ m) (hd : 3 ≤ d) (hv : rI v) (hI : tw_arok S) (H : (tw_isAr S v = true → a_arok (tw_ar S v) → K true (tw_h S v)) ∧ (tw_isAr S v = false → K false S)) : pw_Cl E m_X2_hand d [va_rf (some m), .int (iI v)] (tw w0 m S) (c_z (t_b w0 m K)) := by
  have hr := hI.1 0 (by omega)
  refine pw_Cl.mono (m_hand_ok (K := fun b S1 => ∃ S2, tw w0 m S1 = tw w0 m S2 ∧ K b S2) hm hd hv hr ⟨fun h => ⟨_, tw_h_eq S v, H.1 (decide_eq_true h) (hI.2 v h.1 (by omega))⟩, fun h => ⟨_, rfl, H.2 (decide_eq_false h)⟩⟩) ?_
  rintro r w ⟨b, rfl, S1, rfl, S2, e, k⟩
  exact ⟨b, rfl, S2, e, k⟩
def a_archive (A : Nat → Int) (q : Int) : Int := if q < 10 then (if q = 0 then A 0 else if q = 1 then a_all A else if q = 2 then a_sizes A else if q = 3 then A 5 else if q = 4 then a_post A (A 5) else if q = 5 then a_longest A else if q = 6 then a_twins A else if q = 7 then ((a_words A (A 5).toNat).length : Nat) else -2) else a_ofDoc A (A 5) (q % 10) (q / 10)
theorem m_archive_ok {v q : Int} {K : Int → tw_S → Prop} (hm : pw_base E ≤ m) (hI : tw_arok S) (hd : 9 ≤ d) (hv : rI v) (hq : rI q) (H : tq S K (if tw_isAr S v = true then a_archive (tw_ar S v) q else -2)) : pw_Cl E m_X2_archive d [va_rf (some m), .int (iI v), .int (iI q)] (tw w0 m S) (c_i (t_i w0 m K)) := by
  obtain ⟨e, rfl, he⟩ := pw_d1 hd
  refine e_X2_archive _ _ _ (t_X2_archive_0 hm _ _ (m_hand_k hm (by omega) hv (hI.same (tw_same.sf S 0 0)) ⟨fun h hA => ?_, fun h => ?_⟩))
  · have h : tw_isAr S v = true := h
    rw [tw_ar_sf] at hA
    rw [if_pos h] at H
    rw [if_pos rfl]
    have hs : tw_same S (tw_h (tw_sf S 0 0) v) := (tw_same.sf S 0 0).trans (tw_same.h _ v)
    have hA0 : a_ok ((tw_h (tw_sf S 0 0) v).2.2 9) ((tw_h (tw_sf S 0 0) v).1 24) := hA.ok
    have hn : (tw_h (tw_sf S 0 0) v).1 24 < 320 := hA.n
    have hF : a_full ((tw_h (tw_sf S 0 0) v).2.2 9) := hA.full
    have hW : a_wok ((tw_h (tw_sf S 0 0) v).2.2 9) ((tw_h (tw_sf S 0 0) v).1 24) := hA.wok
    refine ⟨hq, ifS H (fun h H => ⟨hq, ifS H (fun h H => ?_) (fun h H => ⟨hq, ifS H (fun h H => ?_) (fun h H => ⟨hq, ifS H (fun h H => ?_) (fun h H => ⟨hq, ifS H (fun h H => ?_) (fun h H => ⟨hq, ifS H (fun h H => ?_) (fun h H => ⟨hq, ifS H (fun h H => ?_) (fun h H => ⟨hq, ifS H (fun h H => ?_) (fun h H => ⟨hq, ifS H (fun h H => ?_) (fun h H => ?_)⟩)⟩)⟩)⟩)⟩)⟩)⟩)⟩) (fun h H => ?_)⟩
    · exact ⟨_, rfl, _, _, rfl, rfl, H _ hs⟩
    · exact m_versionsAll_ok hm hA0 (by omega) ⟨_, rfl, _, _, rfl, rfl, H _ hs⟩
    · exact m_sizeAll_ok hm hA0 (by omega) ⟨_, rfl, _, _, rfl, rfl, H _ hs⟩
    · exact ⟨_, rfl, _, _, rfl, rfl, H _ hs⟩
    · exact m_postings_ok hm hA0 (by omega) ⟨_, rfl, _, _, rfl, rfl, H _ hs⟩
    · exact m_longest_ok hm hA0 hF (by omega) ⟨_, rfl, _, _, rfl, rfl, H _ hs⟩
    · exact m_twins_ok hm hA0 (by omega) ⟨_, rfl, _, _, rfl, rfl, H _ hs⟩
    · exact m_layWords_ok hm hA0 hn hW (by omega) (fun X hX => ⟨_, rfl, _, _, rfl, rfl, H _ (hs.trans (tw_same.w _ _ X))⟩)
    · exact ⟨_, rfl, _, _, rfl, rfl, H _ hs⟩
    · rw [q_div' ⟨by omega, hq.2⟩, q_mod' ⟨by omega, hq.2⟩]
      exact m_ofDoc_ok hm hA0 hF (by omega) (rI_small (by omega) (by omega)) (by have := hq.2; constructor <;> omega) ⟨_, rfl, _, _, rfl, rfl, H _ hs⟩
  · have h : tw_isAr S v = false := h
    rw [if_neg (by rw [h]; decide)] at H
    rw [if_neg (by decide)]
    exact ⟨_, rfl, _, _, rfl, rfl, H _ (tw_same.sf S 0 0)⟩
end
