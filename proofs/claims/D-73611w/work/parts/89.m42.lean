set_option maxRecDepth 100000
/-! the twin: all lines of a text -/
def ln (o : Int) (T : Nat → Int) (L line : Int) (A : Nat → Int) (q : Nat) (f : Int × Int) : ln_T := if o = 0 then ln_arch T L line (if k_sort T L q = 2 then k_long (k_let T L q) else 0) A q f else if o = 1 then as_ln T L (if k_sort T L q = 2 then k_long (k_let T L q) else 0) A q f else hu_ln T L (if k_sort T L q = 2 then k_long (k_let T L q) else 0) A q f
abbrev tx_T := Nat ⊕ ((Int × Int) × (Nat → Int))
def tx_F (o : Int) (T : Nat → Int) (L : Int) : Nat → Nat → Int → (Nat → Int) → Int × Int → tx_T
  | 0, _, _, A, f => .inr (f, A)
  | u + 1, q, line, A, f => if k_sort T L q = 0 then .inr (f, A) else match ln o T L line A q f with
    | .inl p => .inl p
    | .inr (q', f', A') => if k_sort T L q' = 4 then tx_F o T L u (k_go T L q') (line + 1) A' f' else .inl q'
def tx_inv (o : Int) (A : Nat → Int) (q : Nat) (f : Int × Int) : Prop := f_ok f ∧ (o = 0 → tx_ok A q) ∧ (o = 1 → as_ok A f) ∧ (o = 2 → hu_ok A f)
theorem as_read_q {T : Nat → Int} {L own kind : Int} {q : Nat} {f : Int × Int} (hq : (q : Int) ≤ L) : match as_read T L kind own q f with | .inl _ => True | .inr (q', _) => q ≤ q' := by
  have hgo := k_go_le (T := T) (L := L) (q := q) hq
  have hgo2 := k_go_le (T := T) (L := L) (q := k_go T L q) hgo.2.1
  have one : ∀ (lo hi : Int) (q1 : Nat) (f : Int × Int) (ws : List Int), q ≤ q1 → (q1 : Int) ≤ L → match as_one T L lo hi q1 f ws with | .inl _ => True | .inr (q', _) => q ≤ q' := by
    intro lo hi q1 f ws h hL
    have := k_go_le (T := T) (L := L) (q := q1) hL
    unfold as_one
    by_cases h1 : k_sort T L q1 = 3
    · rw [if_pos h1]; show q ≤ k_go T L q1; omega
    · rw [if_neg h1]; trivial
  unfold as_read
  by_cases k0 : kind = 0
  · rw [if_pos k0]
    unfold as_phrase
    by_cases h1 : k_sort T L q = 2
    · rw [if_pos h1]
      have hwq := r_wsq (T := T) (L := L) (most := 4) 601 (k_go T L q) 1 (r_wdF T L q f) (true && k_few T L q) hgo.2.1
      show q ≤ (r_wsF T L 4 601 (k_go T L q) 1 (r_wdF T L q f) (true && k_few T L q)).1
      omega
    · rw [if_neg h1]; trivial
  · rw [if_neg k0]
    by_cases k1 : kind = 1
    · rw [if_pos k1]
      unfold as_near
      by_cases h1 : k_sort T L q = 2
      · rw [if_pos h1]
        by_cases h2 : k_sort T L (k_go T L q) = 2
        · rw [if_pos h2]; exact one _ _ _ _ _ (by omega) hgo2.2.1
        · rw [if_neg h2]; trivial
      · rw [if_neg h1]; trivial
    · rw [if_neg k1]
      by_cases k2 : kind = 2
      · rw [if_pos k2]
        unfold as_many
        by_cases h1 : k_sort T L q = 2
        · rw [if_pos h1]; exact one _ _ _ _ _ (by omega) hgo.2.1
        · rw [if_neg h1]; trivial
      · rw [if_neg k2]
        by_cases k6 : kind = 6 ∨ kind = 7
        · rw [if_pos k6]
          unfold as_two
          by_cases h1 : k_sort T L q = 3
          · rw [if_pos h1]
            by_cases h2 : k_sort T L (k_go T L q) = 3
            · rw [if_pos h2]; show q ≤ k_go T L (k_go T L q); omega
            · rw [if_neg h2]; trivial
          · rw [if_neg h1]; trivial
        · rw [if_neg k6]; exact one _ _ _ _ _ (Nat.le_refl q) hq
theorem ln_ok2 {o : Int} {T : Nat → Int} {L line : Int} {A : Nat → Int} {q : Nat} {f : Int × Int} (hl : 0 ≤ L ∧ L ≤ 600) (hq : (q : Int) ≤ L) (ho : 0 ≤ o ∧ o ≤ 2) (hI : tx_inv o A q f) (hline : rI line) : match ln o T L line A q f with | .inl p => (p : Int) ≤ L | .inr (q', f', A') => ((q' : Int) ≤ L ∧ q ≤ q') ∧ (k_sort T L q' = 4 → tx_inv o A' (k_go T L q') f') := by
  obtain ⟨hf, h0, h1, h2⟩ := hI
  have hgo := k_go_le (T := T) (L := L) (q := q) hq
  unfold ln
  by_cases o0 : o = 0
  · rw [if_pos o0]
    have hok := ln_arch_ok (T := T) (L := L) (line := line) (A := A) (f := f) hl hq (h0 o0) hf hline
    have hqq : match ln_arch T L line (if k_sort T L q = 2 then k_long (k_let T L q) else 0) A q f with | .inl _ => True | .inr (q', _) => q ≤ q' := by
      unfold ln_arch
      generalize (if k_sort T L q = 2 then k_long (k_let T L q) else 0) = w
      by_cases w1 : w = 6582115
      · rw [if_pos w1]
        have hwq := r_wsq (T := T) (L := L) (most := 20) 601 (k_go T L q) 0 (dl_f A f q) true hgo.2.1
        show q ≤ (r_wsF T L 20 601 (k_go T L q) 0 (dl_f A f q) true).1
        omega
      · rw [if_neg w1]
        by_cases w2 : ch_by w = -1
        · rw [if_pos w2]; trivial
        · rw [if_neg w2]
          have hcr := ch_by_r w
          have hrc := rc_read_ok (T := T) (L := L) (c := ch_by w) (A := A) (f := f) hgo.2.1 ⟨by omega, hcr.2⟩
          rcases hres : rc_read T L (ch_by w) A (k_go T L q) f with p | ⟨q', f', g', r0, r1, r2, ws⟩
          · trivial
          · rw [hres] at hrc
            show q ≤ q'
            have := hrc.1.2.1
            omega
    rcases hres : ln_arch T L line (if k_sort T L q = 2 then k_long (k_let T L q) else 0) A q f with p | ⟨q', f', A'⟩
    · rw [hres] at hok
      exact hok
    · rw [hres] at hok hqq
      obtain ⟨y1, y2, y3, y4, y5⟩ := hok
      refine ⟨⟨y1, hqq⟩, fun hs => ⟨y2, fun _ => ⟨y3, y4, ?_⟩, fun h => by omega, fun h => by omega⟩⟩
      have := (k_go_le (T := T) (L := L) (q := q') y1).2.2 (k_sort_pos (by omega))
      omega
  · rw [if_neg o0]
    by_cases o1 : o = 1
    · rw [if_pos o1]
      generalize (if k_sort T L q = 2 then k_long (k_let T L q) else 0) = w
      have hok := as_ln_ok (T := T) (L := L) (w := w) (A := A) (f := f) hl hq (h1 o1) hf
      have hqq : match as_ln T L w A q f with | .inl _ => True | .inr (q', _) => q ≤ q' := by
        unfold as_ln
        by_cases hb : as_by w = -1
        · rw [if_pos hb]; trivial
        · rw [if_neg hb]
          have := as_read_q (T := T) (L := L) (own := A 0) (kind := as_by w) (f := tl_f A f q) hgo.2.1
          rcases hres : as_read T L (as_by w) (A 0) (k_go T L q) (tl_f A f q) with p | ⟨q', f', r1, r2, ws⟩
          · trivial
          · rw [hres] at this
            show q ≤ q'
            have this : k_go T L q ≤ q' := this
            omega
      rcases hres : as_ln T L w A q f with p | ⟨q', f', A'⟩
      · rw [hres] at hok
        exact hok
      · rw [hres] at hok hqq
        exact ⟨⟨hok.1, hqq⟩, fun hs => ⟨hok.2.1, fun h => by omega, fun _ => hok.2.2, fun h => by omega⟩⟩
    · rw [if_neg o1]
      generalize (if k_sort T L q = 2 then k_long (k_let T L q) else 0) = w
      have hok := hu_ln_ok (T := T) (L := L) (w := w) (A := A) (f := f) hl hq (h2 (by omega)) hf
      rcases hres : hu_ln T L w A q f with p | ⟨q', f', A'⟩
      · rw [hres] at hok
        exact hok
      · rw [hres] at hok
        exact ⟨⟨hok.1, hok.2.2.2⟩, fun hs => ⟨hok.2.1, fun h => by omega, fun h => by omega, fun _ => hok.2.2.1⟩⟩
/-- a text's reading leaves the rest -/
def x_fr (S S' : tw_S) : Prop := (∀ i : Nat, (decide (i = 9) || decide (i = 11) || decide (i = 12) || decide (i = 13) || decide (i = 15) || decide (i = 16) || decide (i = 17) || decide (i = 21) || decide (i = 22) || decide (i = 23)) = false → S'.1 i = S.1 i) ∧ ∀ q : Nat, q ≠ 9 → q ≠ 10 → q ≠ 11 → S'.2.2 q = S.2.2 q
theorem l_fr.x {S S' : tw_S} (h : l_fr S S') : x_fr S S' := by
  refine ⟨fun i hi => h.1 i ?_, h.2⟩
  simp only [Bool.or_eq_false_iff] at hi ⊢
  exact hi.1
theorem x_fr.trans {S S' S'' : tw_S} (h : x_fr S S') (h' : x_fr S' S'') : x_fr S S'' := ⟨fun i hi => (h'.1 i hi).trans (h.1 i hi), fun q h1 h2 h3 => (h'.2 q h1 h2 h3).trans (h.2 q h1 h2 h3)⟩
theorem x_fr.line (S : tw_S) (x : Int) : x_fr S (tw_sf S 23 x) := by
  refine ⟨fun i hi => ?_, fun _ _ _ _ => rfl⟩
  show (if i = 23 then x else S.1 i) = _
  rw [if_neg]
  rintro rfl
  cases hi
def tx_post (S : tw_S) (K : Bool → tw_S → Prop) : tx_T → Prop
  | .inl p => ∀ S' : tw_S, S'.1 15 = (p : Int) → x_fr S S' → K false S'
  | .inr (f, A) => ∀ S' : tw_S, S'.1 16 = f.1 → S'.1 17 = f.2 → S'.2.2 9 = A → x_fr S S' → K true S'
section
variable {E : pw_E} {w0 : pw_W} {m d : Nat} {S : tw_S} {T : Nat → Int} {L : Int}
theorem m_line_ok {o : Int} {A : Nat → Int} {q : Nat} {f : Int × Int} {K : Bool → tw_S → Prop} (hm : pw_base E ≤ m) (hd : 8 ≤ d) (hl : 0 ≤ L ∧ L ≤ 600) (hq : (q : Int) ≤ L) (h : r_at T L S q f true) (e9 : S.2.2 9 = A) (hI : tx_inv o A q f) (h21 : S.1 21 = 0) (w : Int64) (hw : w = if k_sort T L q = 2 then k_long (k_let T L q) else 0) (H : ln_post T L S K (ln o T L (S.1 23) A q f)) : (o = 0 → pw_Cl E m_X2_archiveLine d [va_rf (some m), .long w, .int (iI q)] (tw w0 m S) (c_z (t_b w0 m K))) ∧ (o = 1 → pw_Cl E m_X2_askingLine d [va_rf (some m), .long w, .int (iI q)] (tw w0 m S) (c_z (t_b w0 m K))) ∧ (o = 2 → pw_Cl E m_X2_huntLine d [va_rf (some m), .long w, .int (iI q)] (tw w0 m S) (c_z (t_b w0 m K))) := by
  obtain ⟨hf, i0, i1, i2⟩ := hI
  unfold ln at H
  rw [← hw] at H
  refine ⟨fun ho => ?_, fun ho => ?_, fun ho => ?_⟩
  · rw [if_pos ho] at H
    exact m_archiveLine_ok hm hd hl hq h e9 (i0 ho).1 (i0 ho).2.1 h21 H
  · rw [if_neg (by omega), if_pos ho] at H
    exact m_askingLine_ok hm (by omega) hl hq h e9 (i1 ho).1 h21 H
  · rw [if_neg (by omega), if_neg (by omega)] at H
    exact m_huntLine_ok hm (by omega) hl hq h e9 (i2 ho).1 H
theorem m_allLines_ok {o : Int} {A : Nat → Int} {q : Nat} {f : Int × Int} {g : Bool} {K : Bool → tw_S → Prop} (hm : pw_base E ≤ m) (hd : 9 ≤ d) (hl : 0 ≤ L ∧ L ≤ 600) (hq : (q : Int) ≤ L) (ho : 0 ≤ o ∧ o ≤ 2) (h : k_at T L S q) (hff : S.1 16 = f.1 ∧ S.1 17 = f.2) (e9 : S.2.2 9 = A) (hI : tx_inv o A q f) (H : tx_post S K (tx_F o T L 601 q 0 A f)) : pw_Cl E m_X2_allLines d [va_rf (some m), .int (iI o)] (tw w0 m S) (c_z (t_b w0 m K)) := by
  obtain ⟨e, rfl, he⟩ := pw_d1 hd
  have or' : rI o := rI_small (by omega) (by omega)
  have stop : ∀ S1 : tw_S, K false S1 → pw_Wp E m_X2_allLines (e + 1) 7 [some (va_rf (some m)), some (.int (iI o)), some (.int (bI false)), none, none, none] [] (tw w0 m S1) (c_z (t_b w0 m K)) := by
    intro S1 h1
    have := t_X2_allLines_7 (E := E) (d := e) (w0 := w0) (m := m) (S := S1) (Post := c_z (t_b w0 m K)) hm o (b01 false) ⟨b01_rI false, ifT rfl ⟨Or.inl rfl, false, rfl, S1, rfl, h1⟩⟩
    rw [b01_I] at this
    exact this
  have stop105 : ∀ S1 : tw_S, K false S1 → pw_Wp E m_X2_allLines (e + 1) 105 [some (va_rf (some m)), some (.int (iI o)), some (.int (bI false)), none, none, none] [] (tw w0 m S1) (c_z (t_b w0 m K)) := by
    intro S1 h1
    exact t_X2_allLines_105 hm _ _ (by rw [if_neg (by decide)]; exact stop S1 h1)
  have loop : ∀ (u q : Nat) (line : Int) (A : Nat → Int) (f : Int × Int) (S1 : tw_S), L.toNat - q < u → (q : Int) ≤ L → 0 ≤ line ∧ line ≤ q → k_at T L S1 q → S1.1 16 = f.1 ∧ S1.1 17 = f.2 → S1.2.2 9 = A → S1.1 23 = line → tx_inv o A q f → x_fr S S1 → tx_post S K (tx_F o T L u q line A f) → pw_Wp E m_X2_allLines (e + 1) 7 [some (va_rf (some m)), some (.int (iI o)), some (.int (bI true)), none, none, none] [] (tw w0 m S1) (c_z (t_b w0 m K)) := by
    intro u
    induction u with
    | zero => intro q line A f S1 hu; omega
    | succ u ih =>
      intro q line A f S1 hu hq hline hk hf16 e9 h23 hI hfr H
      have hsr := k_sort_r T L q
      have e12 : S1.1 12 = k_sort T L q := hk.2.2.2.2.1
      have r12 : rI (S1.1 12) := by rw [e12]; exact rI_small (by omega) (by omega)
      have h11 : S1.1 11 = q := hk.2.2.1
      unfold tx_F at H
      rw [← b01_I true]
      refine t_X2_allLines_7 hm _ _ ⟨b01_rI true, ifF (by decide) ⟨r12, ?_⟩⟩
      by_cases s0 : k_sort T L q = 0
      · rw [if_pos s0] at H
        refine ifT (by rw [e12]; exact s0) ⟨Or.inr rfl, true, by rw [b01_I], S1, rfl, H S1 hf16.1 hf16.2 e9 hfr⟩
      · rw [if_neg s0] at H
        refine ifF (by rw [e12]; exact s0) ⟨r12, ?_⟩
        have hl2 := ln_ok2 (T := T) (line := line) hl hq ho hI (rI_small (by omega) (by omega))
        -- the line, and on
        have hra : r_at T L (tw_sf (tw_sf S1 22 1) 21 0) q f true := ⟨hk, hf16, rfl, hI.1⟩
        have hfr2 : x_fr S (tw_sf (tw_sf S1 22 1) 21 0) := hfr.trans ((r_fr.sf S1 22 1 rfl).trans (r_fr.sf _ 21 0 rfl)).l.x
        have after : ln_post T L (tw_sf (tw_sf S1 22 1) 21 0) (fun b4 S3 => if b4 = true then (rI (S3.1 12) ∧ if S3.1 12 = 4 then pw_Wp E m_X2_allLines (e + 1) 105 [some (va_rf (some m)), some (.int (iI o)), some (.int (bI b4)), none, none, none] [] (tw w0 m S3) (c_z (t_b w0 m K)) else pw_Cl E m_X2_fails e [va_rf (some m)] (tw w0 m S3) (c_z (t_b w0 m (fun b6 S5 => pw_Wp E m_X2_allLines (e + 1) 105 [some (va_rf (some m)), some (.int (iI o)), some (.int (bI b6)), none, none, none] [] (tw w0 m S5) (c_z (t_b w0 m K)))))) else pw_Wp E m_X2_allLines (e + 1) 105 [some (va_rf (some m)), some (.int (iI o)), some (.int (bI b4)), none, none, none] [] (tw w0 m S3) (c_z (t_b w0 m K))) (ln o T L ((tw_sf (tw_sf S1 22 1) 21 0).1 23) A q f) := by
          have e23 : (tw_sf (tw_sf S1 22 1) 21 0).1 23 = line := h23
          rw [e23]
          rcases hres : ln o T L line A q f with p | ⟨q', f', A'⟩
          · rw [hres] at H
            intro S3 y1 y2
            rw [if_neg (by decide)]
            exact stop105 S3 (H S3 y1 (hfr2.trans y2.x))
          · rw [hres] at H hl2
            intro S3 g3 y1 y2 y3
            obtain ⟨⟨z1, z2⟩, z3⟩ := hl2
            have H : tx_post S K (if k_sort T L q' = 4 then tx_F o T L u (k_go T L q') (line + 1) A' f' else .inl q') := H
            have hsr' := k_sort_r T L q'
            have e12' : S3.1 12 = k_sort T L q' := y1.1.2.2.2.2.1
            rw [if_pos rfl]
            refine ⟨by rw [e12']; exact rI_small (by omega) (by omega), ?_⟩
            have hfr3 : x_fr S S3 := hfr2.trans y2.x
            by_cases s4 : k_sort T L q' = 4
            · rw [if_pos s4] at H
              refine ifT (by rw [e12']; exact s4) (t_X2_allLines_105 hm _ _ ?_)
              rw [if_pos rfl]
              have hgo := k_go_le (T := T) (L := L) (q := q') z1
              have hpos := hgo.2.2 (k_sort_pos (by omega))
              refine m_token_r (q := q') (f := f') (g := g3) hm (by omega) hl z1 y1.1.1 y1.1.2.1 y1.1.2.2.2.1 y1.2.1 y1.2.2.1 y1.2.2.2 (fun S4 x1 x2 => ?_)
              have e23' : S4.1 23 = line := by
                rw [x2.1 23 rfl, y2.1 23 rfl]
                exact h23
              refine ih (k_go T L q') (line + 1) A' f' _ (by omega) hgo.2.1 ⟨by omega, by omega⟩ x1.1 x1.2.1 ?_ ?_ (z3 s4) ((hfr3.trans x2.r.l.x).trans (x_fr.line S4 _)) H
              · show S4.2.2 9 = A'
                rw [x2.2]; exact y3
              · show S4.1 23 + 1 = line + 1
                rw [e23']
            · rw [if_neg s4] at H
              refine ifF (by rw [e12']; exact s4) (m_fails_ok hm (by omega) (stop105 _ (H _ ?_ (hfr3.trans (r_fr.sf S3 15 _ rfl).l.x))))
              show S3.1 11 = q'
              exact y1.1.2.2.1
        have lines := fun (w : Int64) (hw : w = if k_sort T L q = 2 then k_long (k_let T L q) else 0) => m_line_ok (w0 := w0) (o := o) hm (show 8 ≤ e by omega) hl hq hra e9 hI rfl w hw after
        by_cases s2 : k_sort T L q = 2
        · have hw := hk.2.2.2.2.2.2 s2
          obtain ⟨l0, l1, l2⟩ := lines S1.2.1 (by rw [if_pos s2]; exact hw)
          refine ifT (by rw [e12]; exact s2) ⟨or', ?_⟩
          rw [h11]
          by_cases o0 : o = 0
          · exact ifT o0 (l0 o0)
          · refine ifF o0 ⟨or', ?_⟩
            by_cases o1 : o = 1
            · exact ifT o1 (l1 o1)
            · exact ifF o1 (l2 (by omega))
        · obtain ⟨l0, l1, l2⟩ := lines 0 (by rw [if_neg s2])
          refine ifF (by rw [e12]; exact s2) ⟨or', ?_⟩
          rw [h11]
          by_cases o0 : o = 0
          · exact ifT o0 (l0 o0)
          · refine ifF o0 ⟨or', ?_⟩
            by_cases o1 : o = 1
            · exact ifT o1 (l1 o1)
            · exact ifF o1 (l2 (by omega))
  refine e_X2_allLines _ _ (t_X2_allLines_0 hm _ ?_)
  have := loop 601 q 0 A f (tw_sf S 23 0) (by omega) hq ⟨by omega, by omega⟩ h hff e9 rfl hI (x_fr.line S 0) H
  exact this
end
