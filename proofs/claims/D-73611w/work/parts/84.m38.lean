set_option maxRecDepth 100000
/-! the twin: a line of an archive -/
abbrev ln_T := Nat ⊕ (Nat × (Int × Int) × (Nat → Int))
def ln_post (T : Nat → Int) (L : Int) (S : tw_S) (K : Bool → tw_S → Prop) : ln_T → Prop
  | .inl p => ∀ S' : tw_S, S'.1 15 = (p : Int) → l_fr S S' → K false S'
  | .inr (q, f, A) => ∀ (S' : tw_S) (g : Bool), r_at T L S' q f g → l_fr S S' → S'.2.2 9 = A → K true S'
def ln_chg (A : Nat → Int) (c : Int) (q0 : Nat) (line : Int) : rc_T → ln_T
  | .inl p => .inl p
  | .inr (q, f, g, r0, r1, r2, ws) => .inr (q, cl_f A c q0 f g r0 r1 r2, if (cl_f A c q0 f g r0 r1 r2).1 = 0 then g_make A c r0 r1 r2 ws line else A)
def ln_arch (T : Nat → Int) (L line : Int) (w : Int64) (A : Nat → Int) (q : Nat) (f : Int × Int) : ln_T :=
  if w = 6582115 then .inr ((dl_R T L A q f).1, (dl_R T L A q f).2.1, if (dl_R T L A q f).2.1.1 = 0 then g_doc A (dl_R T L A q f).2.2.2 line else A)
  else if ch_by w = -1 then .inl q else ln_chg A (ch_by w) q line (rc_read T L (ch_by w) A (k_go T L q) f)
theorem ch_by_r (w : Int64) : -1 ≤ ch_by w ∧ ch_by w ≤ 3 := by
  unfold ch_by
  split
  · omega
  · split
    · omega
    · split
      · omega
      · split <;> omega
section
variable {E : pw_E} {w0 : pw_W} {m d : Nat} {S : tw_S} {T : Nat → Int} {L : Int}
theorem m_archiveLine_ok {A : Nat → Int} {q : Nat} {f : Int × Int} {w : Int64} {K : Bool → tw_S → Prop} (hm : pw_base E ≤ m) (hd : 8 ≤ d) (hl : 0 ≤ L ∧ L ≤ 600) (hq : (q : Int) ≤ L) (h : r_at T L S q f true) (e9 : S.2.2 9 = A) (hA : g_val A) (hF : ∀ e, 0 ≤ e → e < A 0 → 1 ≤ a_many A e) (h21 : S.1 21 = 0) (H : ln_post T L S K (ln_arch T L (S.1 23) w A q f)) : pw_Cl E m_X2_archiveLine d [va_rf (some m), .long w, .int (iI q)] (tw w0 m S) (c_z (t_b w0 m K)) := by
  obtain ⟨e, rfl, he⟩ := pw_d1 hd
  have hc := ch_by_r w
  have h11 : S.1 11 = q := h.1.2.2.1
  refine e_X2_archiveLine _ _ _ (t_X2_archiveLine_0 hm _ _ (m_changeBy_ok hm (by omega) ?_))
  unfold ln_arch at H
  by_cases hdoc : w = 6582115
  · rw [if_pos hdoc] at H
    exact ifT (lg0.mpr hdoc) (m_docLine_ok hm (by omega) hl hq h e9 hA h21 (fun S' y1 y2 y3 => ⟨true, rfl, S', rfl, H S' _ y1 y2 y3⟩))
  · rw [if_neg hdoc] at H
    refine ifF (fun h => hdoc (lg0.mp h)) ⟨rI_small (by omega) (by omega), ?_⟩
    by_cases h1 : ch_by w = -1
    · rw [if_pos h1] at H
      exact ifT h1 (m_fails_ok hm (by omega) ⟨false, rfl, _, rfl, H _ h11 (r_fr.sf S 15 _ rfl).l⟩)
    · rw [if_neg h1] at H
      refine ifF h1 (m_changeLine_ok hm (by omega) hl hq h e9 hA hF ⟨by omega, hc.2⟩ h21 ?_)
      generalize rc_read T L (ch_by w) A (k_go T L q) f = r at *
      rcases r with p | ⟨q', f', g', r0, r1, r2, ws⟩
      · intro S' y1 y2
        exact ⟨false, rfl, S', rfl, H S' y1 y2⟩
      · intro S' y1 y2 y3
        exact ⟨true, rfl, S', rfl, H S' g' y1 y2 y3⟩
end
/-- what an archive is between lines -/
def tx_ok (A : Nat → Int) (q : Nat) : Prop := g_val A ∧ (∀ e, 0 ≤ e → e < A 0 → 1 ≤ a_many A e) ∧ 11 * A 5 ≤ 5 * q
theorem g_set0_val {A : Nat → Int} (h : g_val A) (h4 : A 0 ≤ 3) : g_val (g_set A 0 (A 0 + 1)) := by
  obtain ⟨h1, h2, h3, h4', h5⟩ := h
  obtain ⟨k1, k2⟩ := g_set0_ok h1 (A 0 + 1)
  have e0 : g_set A 0 (A 0 + 1) 0 = A 0 + 1 := rfl
  have e5 : g_set A 0 (A 0 + 1) 5 = A 5 := rfl
  have el : ∀ d v : Int, 0 ≤ d → 0 ≤ v → a_long (g_set A 0 (A 0 + 1)) d v = a_long A d v := fun d v hd hv => g_set_ne (by omega)
  have er : ∀ d v : Int, 0 ≤ d → 0 ≤ v → a_row (g_set A 0 (A 0 + 1)) d v = a_row A d v := by
    intro d v hd hv
    unfold a_row
    rw [el d v hd hv]
    refine List.map_congr_left (fun p _ => ?_)
    exact g_set_ne (by omega)
  have ew : ∀ t : Int, 0 ≤ t → a_whose (g_set A 0 (A 0 + 1)) t = a_whose A t ∧ a_word (g_set A 0 (A 0 + 1)) t = a_word A t := fun t ht => ⟨g_set_ne (by omega), g_set_ne (by omega)⟩
  refine ⟨k1, by omega, fun d v hd0 hd1 hv0 hv1 => ?_, fun t ht0 ht1 => ?_, fun i hi => ?_⟩
  · rw [k2 d hd0] at hv1
    rw [er d v hd0 hv0, e0, e5]
    obtain ⟨⟨q1, q2⟩, q3⟩ := h3 d v hd0 hd1 hv0 hv1
    refine ⟨⟨by omega, fun x hx => ?_⟩, q3⟩
    have := q2 x hx
    rw [(ew x this.1.1).1]
    exact this
  · rw [e5] at ht1
    obtain ⟨q1, q2, v, q3, q4, q5⟩ := h4' t ht0 ht1
    rw [(ew t ht0).1, (ew t ht0).2, e0]
    refine ⟨by omega, q2, v, q3, ?_, ?_⟩
    · rw [k2 _ q1.1]; exact q4
    · rw [er _ _ q1.1 q3]; exact q5
  · rw [g_set_ne (by omega)]
    exact h5 i hi
theorem g_doc_val {A : Nat → Int} {ws : List Int} {date : Int} (h : g_val A) (h4 : A 0 ≤ 3) (hn : A 5 + ws.length ≤ 319) (hl : ws.length ≤ 20) (hws : ∀ w ∈ ws, 1 ≤ w ∧ w < 531441) (hdate : rI date) : g_val (g_doc A ws date) ∧ g_doc A ws date 5 = A 5 + ws.length ∧ g_doc A ws date 0 = A 0 + 1 ∧ ∀ e : Int, 0 ≤ e → e < 4 → a_many (g_doc A ws date) e = if e = A 0 then 1 else a_many A e := by
  have h0 := h.2.1
  have hv := g_set0_val h h4
  obtain ⟨k1, k2⟩ := g_set0_ok h.1 (A 0 + 1)
  have e0 : g_set A 0 (A 0 + 1) 0 = A 0 + 1 := rfl
  have e5 : g_set A 0 (A 0 + 1) 5 = A 5 := rfl
  have hd4 : 0 ≤ A 0 ∧ A 0 < 4 := ⟨h0.1, by omega⟩
  have h5 := h.1.1
  have hmany : a_many (g_set A 0 (A 0 + 1)) (A 0) = 0 := by
    rw [k2 _ hd4.1]
    have hmm := h.1.2.1 (A 0) hd4.1 hd4.2
    by_cases h9 : 0 < a_many A (A 0)
    · have := (h.2.2.1 (A 0) 0 hd4.1 hd4.2 (by omega) h9).1.1
      omega
    · omega
  have hm' : 0 ≤ a_many (g_set A 0 (A 0 + 1)) (A 0) ∧ a_many (g_set A 0 (A 0 + 1)) (A 0) ≤ 9 := by omega
  have hb := (g_bld.begin (A := g_set A 0 (A 0 + 1)) (date := date) ws hm' hd4).words (by rw [e5]; omega) (by rw [e5]; exact hn) hm' hd4 ws.length 0 [] _ (by omega) (by simp; exact hl)
  rw [List.drop_zero, List.nil_append, e5] at hb
  have hval := hb.val hv (d := A 0) ⟨h0.1, by rw [e0]; omega⟩ (by omega) (Nat.le_refl _) (by rw [e5]; exact hn) (by rw [g_ids_len]; exact hl) (fun x hx => ?_) (g_ids_nd _ _ _) (fun x hx0 hx1 => ?_) hws hdate
  · refine ⟨hval, ?_, ?_, fun e he0 he1 => ?_⟩
    · have := hb.1
      rw [e5] at this
      exact this
    · have := hb.2.2.2.2.2.2 0 (by unfold g_un; rw [e5]; omega)
      exact this.trans e0
    · have := hb.many (by rw [e5]; omega) hm' hd4 ⟨he0, he1⟩
      rw [hmany, k2 e he0] at this
      exact this
  · rw [g_ids_mem] at hx
    rw [e5]
    exact Or.inr ⟨by omega, by omega⟩
  · rw [e5] at hx0 hx1
    rw [g_ids_mem]
    omega
/-- behind a line -/
def tx_okE (A : Nat → Int) (q : Nat) : Prop := g_val A ∧ (∀ e, 0 ≤ e → e < A 0 → 1 ≤ a_many A e) ∧ 11 * A 5 ≤ 5 * (q + 1 : Int)
def ln_ok (L : Int) : ln_T → Prop
  | .inl p => (p : Int) ≤ L
  | .inr (q, f, A) => (q : Int) ≤ L ∧ f_ok f ∧ tx_okE A q
theorem k_key {T : Nat → Int} {L : Int} {q : Nat} (hs : k_sort T L q = 2) (ks : List Int) (h1 : 1 ≤ ks.length ∧ ks.length ≤ 8) (hk : ∀ x ∈ ks, 97 ≤ x ∧ x ≤ 122) (he : k_long (k_let T L q) = k_long ks) : k_let T L q = ks ∧ k_next T L q = q + ks.length := by
  obtain ⟨y1, y2, y3⟩ := k_let_ok hs
  have := k_long_inj h1 y2 hk he
  exact ⟨this, by rw [y3, this]⟩
theorem k_next_go {T : Nat → Int} {L : Int} {q : Nat} (hs : k_sort T L q = 2) (h2 : k_sort T L (k_go T L q) = 2) : k_next T L q + 1 ≤ k_go T L q := by
  have hl := k_sort_let hs
  have hn : k_next T L q = q + (k_run T L 97 122 q).length := by unfold k_next; rw [if_pos (by omega), if_pos hl]
  have hst := k_run_stop (T := T) (L := L) (lo := 97) (hi := 122) (by omega) _ q rfl
  rw [← hn] at hst
  have h3 := k_skip_le T L (L.toNat - k_next T L q) (k_next T L q)
  have h3 : k_next T L q ≤ k_go T L q := h3.1
  have hne : k_go T L q ≠ k_next T L q := by
    intro he
    rw [he] at h2
    exact hst (k_sort_let h2)
  omega
